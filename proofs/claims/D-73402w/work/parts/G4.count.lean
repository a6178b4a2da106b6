section COUNT
variable {d : Nat} {h : AH} {x : Nat} {ld : Int} {nw : Nat} {wh nm : Option Nat} {tp ep : Nat} {S : AS}
def shB (S : AS) (k : Nat) : Bool := match S.2.2.1 k with
  | none => false
  | some _ => true
theorem kset3 (S : AS) : ior (ior (z01 (shB S 0)) (ishl (z01 (shB S 1)) 1)) (ishl (z01 (shB S 2)) 2) = ((kset S.2.2.1 3 : Nat) : Int) := by
  have e : kset S.2.2.1 3 = 0 + (match S.2.2.1 0 with | none => 0 | some _ => 2 ^ 0) + (match S.2.2.1 1 with | none => 0 | some _ => 2 ^ 1) + (match S.2.2.1 2 with | none => 0 | some _ => 2 ^ 2) := rfl
  rw [e]
  unfold shB
  cases S.2.2.1 0 <;> cases S.2.2.1 1 <;> cases S.2.2.1 2 <;> (dsimp only; decide)
theorem sh_at (b : Base h x ld nw wh nm tp ep S) {k : Nat} (hk : k < 3) : ∃ u rs o, h.R (x + 25) = (u, rs) ∧ u ≠ 0 ∧ rs[k]? = some o ∧ ((o = none ∧ shB S k = false) ∨ ∃ s, o = some s ∧ shB S k = true) := by
  obtain ⟨-, -, -, -, ⟨sl, s1, s2, s3⟩, -⟩ := b
  have := s3 k hk
  revert this
  unfold shB
  cases S.2.2.1 k with
  | none => intro this; exact ⟨_, _, _, s1, by decide, this, Or.inl ⟨rfl, rfl⟩⟩
  | some G =>
    rintro ⟨s, g1, -⟩
    exact ⟨_, _, _, s1, by decide, g1, Or.inr ⟨s, rfl, rfl⟩⟩
theorem asC_sum (hG : S.1.ok) : (sumR S.1.1 fun c => asC (deg S.1 c) * (2 * (S.1.1 - 1))) ≤ 2880 ∧ (sumR S.1.1 fun c => asC (deg S.1 c) * (10 * (S.1.1 - 1))) ≤ 14400 := by
  have hn := hG.1.2.1
  have a1 : ∀ c, asC (deg S.1 c) ≤ 6 := fun c => by
    have := hG.2.1 c
    unfold asC
    split
    · omega
    · exact Nat.le_trans (tri_le this) (by decide)
  constructor
  · refine Nat.le_trans (sumR_bd (B := 180) fun c _ => ?_) (Nat.le_trans (Nat.mul_le_mul_right 180 hn) (by decide))
    exact Nat.mul_le_mul (a1 c) (show 2 * (S.1.1 - 1) ≤ 30 by omega)
  · refine Nat.le_trans (sumR_bd (B := 900) fun c _ => ?_) (Nat.le_trans (Nat.mul_le_mul_right 900 hn) (by decide))
    exact Nat.mul_le_mul (a1 c) (show 10 * (S.1.1 - 1) ≤ 150 by omega)
theorem ccount_spec (b : Base h x ld nw wh nm tp ep S) (ho : S.ok) {k : Int} : wp (d + 60) 218 (0, ent 2 [vR (some x), vI k], [], h) (cEnd h x ld ep (vI (aCount S (dst S.1) k)) S 2880 14400 (fun n => n = nm)) := by
  have hb := b
  have hn := ho.1.1.2.1
  have hD := dst_far ho.1
  obtain ⟨b1, b2, ⟨b3, b4⟩, ⟨p0, pm, pl, pk, p1, p2, p3⟩, b6, ⟨T, t1, t2, t3, t4⟩, -⟩ := b
  have n1 : S.1.1 * (2 * S.1.1) ≤ 16 * 32 := Nat.mul_le_mul hn (by omega)
  have n2 : S.1.1 * (10 * S.1.1) ≤ 16 * 160 := Nat.mul_le_mul hn (by omega)
  have asum := asC_sum ho.1
  obtain ⟨B, hB⟩ : ∃ B : Int, B = aCount S (dst S.1) k := ⟨_, rfl⟩
  rw [← hB]
  have hend : ∀ H2 c2 s2 (v : Int), v = B → ext c2 s2 h H2 → c2 ≤ 2880 → s2 ≤ 14400 → cEnd h x ld ep (vI B) S 2880 14400 (fun n => n = nm) (.inl (some (vI v))) H2 := fun H2 c2 s2 v hv e2 w1 w2 => by subst hv; exact (hb.more e2).wide w1 w2 (fun _ e => e)
  have withN : ∀ m : Nat, 1 ≤ m → m ≤ 4 → k = ((m : Nat) : Int) → wp (d + 60) 218 (78, [some (vR (some x)), some (vI k)], [], h) (cEnd h x ld ep (vI B) S 2880 14400 (fun n => n = nm)) := by
    intro m h1 h4 hk
    subst hk
    refine wp.go [] 20 fun W C hW hC => ?_
    refine ⟨_, _, _, _, b2, rfl, rfl, ?_⟩
    refine ⟨_, _, _, b4.2.1, rfl, ?_⟩
    refine hC _ _ _ (useE (wpd.up (by omega) (cwith_spec (d := 0) (m := m) b4 hn)) ?_)
    refine hend _ 0 0 _ ?_ ext.refl (by omega) (by omega)
    rw [hB]
    unfold aCount
    rw [if_neg (by omega), if_neg (by omega), if_neg (by omega), if_pos (by omega), Int.toNat_natCast]
  have shelf : wp (d + 60) 218 (157, [some (vR (some x)), some (vI k)], [], h) (cEnd h x ld ep (vI (((kset S.2.2.1 3 : Nat)) : Int)) S 2880 14400 (fun n => n = nm)) := by
    obtain ⟨u0, r0, o0, i0, j0, k0, l0⟩ := sh_at hb (k := 0) (by decide)
    obtain ⟨u1, r1, o1, i1, j1, k1, l1⟩ := sh_at hb (k := 1) (by decide)
    obtain ⟨u2, r2, o2, i2, j2, k2, l2⟩ := sh_at hb (k := 2) (by decide)
    have last : wp (d + 60) 218 (208, [some (vR (some x)), some (vI k)], [vI (z01 (shB S 2)), vI (ior (z01 (shB S 0)) (ishl (z01 (shB S 1)) 1))], h) (cEnd h x ld ep (vI (((kset S.2.2.1 3 : Nat)) : Int)) S 2880 14400 (fun n => n = nm)) := by
      refine wp.go [] 20 fun W C hW hC => ?_
      refine hC _ _ _ (useE (wpd.up (by omega) (bit_spec (d := 0))) ?_)
      conv => whnf
      rw [kset3]
      exact hb.same.wide (by omega) (by omega) (fun _ e => e)
    have mid : wp (d + 60) 218 (188, [some (vR (some x)), some (vI k)], [vI (z01 (shB S 1)), vI (z01 (shB S 0))], h) (cEnd h x ld ep (vI (((kset S.2.2.1 3 : Nat)) : Int)) S 2880 14400 (fun n => n = nm)) := by
      rcases l2 with ⟨rfl, e2⟩ | ⟨s2, rfl, e2⟩
      · rw [e2] at last
        refine wp.go [208] 30 fun W C hW hC => ?_
        refine hC _ _ _ (useE (wpd.up (by omega) (bit_spec (d := 0))) ?_)
        refine ⟨_, _, _, _, b2, rfl, rfl, ?_⟩
        refine ⟨_, _, _, i2, j2, by decide, k2, ?_⟩
        exact hW _ last
      · rw [e2] at last
        refine wp.go [208] 30 fun W C hW hC => ?_
        refine hC _ _ _ (useE (wpd.up (by omega) (bit_spec (d := 0))) ?_)
        refine ⟨_, _, _, _, b2, rfl, rfl, ?_⟩
        refine ⟨_, _, _, i2, j2, by decide, k2, ?_⟩
        exact hW _ last
    have first : wp (d + 60) 218 (171, [some (vR (some x)), some (vI k)], [vI (z01 (shB S 0))], h) (cEnd h x ld ep (vI (((kset S.2.2.1 3 : Nat)) : Int)) S 2880 14400 (fun n => n = nm)) := by
      rcases l1 with ⟨rfl, e2⟩ | ⟨s2, rfl, e2⟩
      · rw [e2] at mid
        refine wp.go [188] 30 fun W C hW hC => ?_
        refine hC _ _ _ (useE (wpd.up (by omega) (bit_spec (d := 0))) ?_)
        refine ⟨_, _, _, _, b2, rfl, rfl, ?_⟩
        refine ⟨_, _, _, i1, j1, by decide, k1, ?_⟩
        exact hW _ mid
      · rw [e2] at mid
        refine wp.go [188] 30 fun W C hW hC => ?_
        refine hC _ _ _ (useE (wpd.up (by omega) (bit_spec (d := 0))) ?_)
        refine ⟨_, _, _, _, b2, rfl, rfl, ?_⟩
        refine ⟨_, _, _, i1, j1, by decide, k1, ?_⟩
        exact hW _ mid
    rcases l0 with ⟨rfl, e2⟩ | ⟨s2, rfl, e2⟩
    · rw [e2] at first
      refine wp.go [171] 30 fun W C hW hC => ?_
      refine ⟨_, _, _, _, b2, rfl, rfl, ?_⟩
      refine ⟨_, _, _, i0, j0, by decide, k0, ?_⟩
      exact hW _ first
    · rw [e2] at first
      refine wp.go [171] 30 fun W C hW hC => ?_
      refine ⟨_, _, _, _, b2, rfl, rfl, ?_⟩
      refine ⟨_, _, _, i0, j0, by decide, k0, ?_⟩
      exact hW _ first
  refine wp.go [78, 157] 40 fun W C hW hC => ?_
  refine ⟨fun c0 => ?_, fun c0 => ⟨fun c1 => ?_, fun c1 => ⟨fun c2 => ?_, fun c2 => ⟨fun c3 => ?_, fun c3 => ⟨fun c4 => ?_, fun c4 => ⟨fun c5 => ?_, fun c5 => ⟨fun c6 => ?_, fun c6 => ⟨fun c7 => ?_, fun c7 => ⟨fun c8 => ?_, fun c8 => ⟨fun c9 => ?_, fun c9 => ⟨fun c10 => ?_, fun c10 => ⟨fun c11 => ?_, fun c11 => ⟨fun c12 => ?_, fun c12 => ?_⟩⟩⟩⟩⟩⟩⟩⟩⟩⟩⟩⟩⟩
  · refine ⟨_, _, _, _, b2, rfl, rfl, ?_⟩
    refine ⟨_, _, _, _, b4.2.1, rfl, rfl, ?_⟩
    exact hend _ 0 0 _ (by rw [hB, c0]; simp [aCount]) ext.refl (by omega) (by omega)
  · exact hW _ (withN 1 (by decide) (by decide) c1)
  · exact hW _ (withN 2 (by decide) (by decide) c2)
  · exact hW _ (withN 3 (by decide) (by decide) c3)
  · exact hW _ (withN 4 (by decide) (by decide) c4)
  · refine ⟨_, _, _, _, b2, rfl, rfl, ?_⟩
    refine ⟨_, _, _, b4.2.1, rfl, ?_⟩
    refine hC _ _ _ (use (wpd.up (by omega) (clongest_spec (d := 0) b4 ho.1.1 ho.1.2.1 hD (fun a b ha hb => by have := Far.lt ho.1.1 hD ha hb; omega))) ?_)
    rintro _ H ⟨rfl, e1⟩
    exact hend _ _ _ _ (by rw [hB, c5]; simp [aCount]) e1 (by omega) (by omega)
  · refine ⟨_, _, _, b2, rfl, ?_⟩
    refine hC _ _ _ (use (wpd.up (by omega) (capartAll_spec (d := 0) hb ho)) ?_)
    rintro _ H ⟨rfl, e1⟩
    exact hend _ _ _ _ (by rw [hB, c6]; simp [aCount]) e1 (by omega) (by omega)
  · refine ⟨_, _, _, _, b2, rfl, rfl, ?_⟩
    refine ⟨_, _, _, b4.2.1, rfl, ?_⟩
    refine hC _ _ _ (use (wpd.up (by omega) (cunlike_spec (d := 0) b4 ho.1.1 ho.1.2.1 hD)) ?_)
    rintro _ H ⟨rfl, e1⟩
    exact hend _ _ _ _ (by rw [hB, c7]; simp [aCount]) e1 (by omega) (by omega)
  · refine ⟨_, _, _, _, b2, rfl, rfl, ?_⟩
    refine ⟨_, _, _, b4.2.1, rfl, ?_⟩
    refine hC _ _ _ (use (wpd.up (by omega) (casym_spec (d := 0) b4 ho.1.1 ho.1.2.1 hD)) ?_)
    rintro _ H ⟨rfl, e1⟩
    exact hend _ _ _ _ (by rw [hB, c8]; simp [aCount]) e1 asum.1 asum.2
  · refine ⟨_, _, _, _, b2, rfl, rfl, ?_⟩
    refine ⟨_, _, _, _, b4.2.1, rfl, rfl, ?_⟩
    conv => whnf
    rw [imul_eq (by omega), iadd_eq (by omega)]
    exact hend _ 0 0 _ (by rw [hB, c9]; simp [aCount]) ext.refl (by omega) (by omega)
  · refine ⟨_, _, _, _, b2, rfl, rfl, ?_⟩
    refine ⟨_, _, _, p1.1, rfl, ?_⟩
    refine hC _ _ _ (useE (wpd.up (by omega) (size_spec' (d := 0) p1)) ?_)
    exact hend _ 0 0 _ (by rw [hB, c10, p2]; simp [aCount]) ext.refl (by omega) (by omega)
  · refine ⟨_, _, _, _, b2, rfl, rfl, ?_⟩
    exact hend _ 0 0 _ (by rw [hB, c11, t3]; simp [aCount]) ext.refl (by omega) (by omega)
  · have : B = ((kset S.2.2.1 3 : Nat) : Int) := by rw [hB, c12]; simp [aCount]
    rw [← this] at shelf
    exact hW _ shelf
  · refine hend _ 0 0 _ ?_ ext.refl (by omega) (by omega)
    rw [hB]
    unfold aCount
    rw [if_neg c10, if_neg c11, if_neg c12, if_neg (by omega), if_neg c0, if_neg c5, if_neg c6, if_neg c7, if_neg c8, if_neg c9]
end COUNT
