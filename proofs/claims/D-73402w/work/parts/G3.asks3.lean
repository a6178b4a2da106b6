section ASKSC
variable {d : Nat} {h : AH} {x : Nat} {ld : Int} {nw : Nat} {wh nm : Option Nat} {tp ep : Nat} {S : AS}
theorem cabout_spec (b : Base h x ld nw wh nm tp ep S) (ho : S.ok) {c k : Int} : wp (d + 60) 211 (0, ent 10 [vR (some x), vI c, vI k], [], h) (cEnd h x ld ep (vI (aAbout S (dst S.1) c k)) S 600 3000 (fun n => n = nm)) := by
  have hb := b
  have hn := ho.1.1.2.1
  have hD := dst_far ho.1
  obtain ⟨b1, b2, ⟨b3, b4⟩, -⟩ := b
  refine wp.go [48] 80 fun W C hW hC => ?_
  refine ⟨_, _, _, b2, rfl, ?_⟩
  refine hC _ _ _ (useE (wpd.up (by omega) (cisC_spec (d := 0) hb ho)) ?_)
  by_cases q1 : isC S c
  · rw [decide_eq_true q1]
    refine ⟨fun w => absurd w (by decide), fun _ => ?_⟩
    refine hC _ _ _ (useE (wpd.up (by omega) (cin_spec (d := 0))) ?_)
    by_cases q2 : 0 ≤ k ∧ k ≤ 4
    · rw [decide_eq_true q2]
      refine ⟨fun _ => ?_, fun w => absurd w (by decide)⟩
      obtain ⟨c', rfl⟩ : ∃ k : Nat, c = (k : Int) := ⟨c.toNat, by have := q1.1; omega⟩
      have hc' : c' < S.1.1 := by have := q1.2; omega
      refine ⟨_, _, _, _, b2, rfl, rfl, ?_⟩
      refine ⟨_, _, _, b4.2.1, rfl, ?_⟩
      refine hC _ _ _ (use (wpd.up (by omega) (far_spec (d := 0) b4 ho.1.1 ho.1.2.1 hD hc')) ?_)
      rintro _ H ⟨rfl, e1, z1, X, y1, y2, y3⟩
      have hbb := hb.grown e1
      have S1 := b4.mono e1
      have hB : aAbout S (dst S.1) ((c' : Nat) : Int) k = (if k = 0 then ((lkC S.1 c' : Nat) : Int) else if k = 1 then z01 (asyT (TT S.1 16 c')) else if k = 2 then ((farC S.1 (dst S.1) c' : Nat) : Int) else if k = 3 then ((togC S.1 (dst S.1) c' : Nat) : Int) else 4 - ((deg S.1 c' : Nat) : Int)) := by
        unfold aAbout
        rw [if_neg (fun w => by rcases w with w | w; exact w q1; exact w q2), Int.toNat_natCast]
      obtain ⟨B, hBB⟩ : ∃ B : Int, B = aAbout S (dst S.1) ((c' : Nat) : Int) k := ⟨_, rfl⟩
      rw [← hBB] at hB
      have hend : ∀ H2 c2 s2, ext c2 s2 H H2 → c2 ≤ 599 → s2 ≤ 2984 → cEnd h x ld ep (vI B) S 600 3000 (fun n => n = nm) (.inl (some (vI B))) H2 := fun H2 c2 s2 e2 w1 w2 => (hb.more (e1.trans e2)).wide (by omega) (by omega) (fun _ e => e)
      have hsm : ∀ v, v ≤ S.1.1 → sumR v (dst S.1 c') ≤ 16 * 16 := fun v hv => Nat.le_trans (sumR_bd (B := 16) fun i hi => by have := Far.lt ho.1.1 hD hc' (show i < S.1.1 by omega); omega) (Nat.mul_le_mul_right _ (by omega))
      have hmx : ∀ v, v ≤ S.1.1 → maxR v (dst S.1 c') ≤ 16 := fun v hv => maxR_le fun i hi => by have := Far.lt ho.1.1 hD hc' (show i < S.1.1 by omega); omega
      have fin : ∀ x9 : Option AV, wp (d + 60) 211 (84, [some (vR (some x)), some (vI ((c' : Nat) : Int)), some (vI k), some (vR (some h.sz)), some (vI ((farC S.1 (dst S.1) c' : Nat) : Int)), some (vI ((togC S.1 (dst S.1) c' : Nat) : Int)), some (vR (some h.sz)), some (vI ((S.1.1 : Nat) : Int)), some (vI ((S.1.1 : Nat) : Int)), x9], [], H) (cEnd h x ld ep (vI B) S 600 3000 (fun n => n = nm)) := by
        intro x9
        have n1 : S.1.1 * (2 * S.1.1) ≤ 16 * 32 := Nat.mul_le_mul hn (by omega)
        have n2 : S.1.1 * (10 * S.1.1) ≤ 16 * 160 := Nat.mul_le_mul hn (by omega)
        refine wp.go [] 40 fun W C hW hC => ?_
        refine ⟨fun k0 => ?_, fun k0 => ⟨fun k1 => ?_, fun k1 => ⟨fun k2 => ?_, fun k2 => ⟨fun k3 => ?_, fun k3 => ?_⟩⟩⟩⟩
        · refine ⟨_, _, _, _, hbb.2.1, rfl, rfl, ?_⟩
          refine ⟨_, _, _, S1.2.1, rfl, ?_⟩
          refine hC _ _ _ (use (wpd.up (by omega) (like_arr (d := 0) S1 ho.1.1 ho.1.2.1 hD)) ?_)
          rintro _ H2 ⟨rfl, e2, z2, L, g1, g2, g3⟩
          refine ⟨_, _, _, g1, rfl, by omega, gt_at c' (by omega) (by omega), ?_⟩
          rw [g3 c' hc']
          have : B = ((lkC S.1 c' : Nat) : Int) := by rw [hB, if_pos k0]
          rw [← this]
          exact hend H2 _ _ e2 (by omega) (by omega)
        · refine ⟨_, _, _, _, hbb.2.1, rfl, rfl, ?_⟩
          refine ⟨_, _, _, S1.2.1, rfl, ?_⟩
          refine hC _ _ _ (use (wpd.up (by omega) (casy_spec (d := 0) S1 ho.1.1 ho.1.2.1 hD hc')) ?_)
          rintro _ H2 ⟨rfl, e2⟩
          refine hC _ _ _ (useE (wpd.up (by omega) (bit_spec (d := 0))) ?_)
          have : B = z01 (asyT (TT S.1 16 c')) := by rw [hB, if_neg k0, if_pos k1]
          rw [← this]
          have a1 : asC (deg S.1 c') ≤ 6 := by
            have := ho.1.2.1 c'
            unfold asC
            split
            · omega
            · exact Nat.le_trans (tri_le this) (by decide)
          have n3 : asC (deg S.1 c') * (2 * (S.1.1 - 1)) ≤ 6 * 30 := Nat.mul_le_mul a1 (by omega)
          have n4 : asC (deg S.1 c') * (10 * (S.1.1 - 1)) ≤ 6 * 150 := Nat.mul_le_mul a1 (by omega)
          exact hend H2 _ _ e2 (by omega) (by omega)
        · have : B = ((farC S.1 (dst S.1) c' : Nat) : Int) := by rw [hB, if_neg k0, if_neg k1, if_pos k2]
          rw [← this]
          exact hend H 0 0 ext.refl (by omega) (by omega)
        · have : B = ((togC S.1 (dst S.1) c' : Nat) : Int) := by rw [hB, if_neg k0, if_neg k1, if_neg k2, if_pos k3]
          rw [← this]
          exact hend H 0 0 ext.refl (by omega) (by omega)
        · obtain ⟨i1, i2, i3, ⟨W', i4, i5, i6⟩, i7⟩ := id S1
          refine ⟨_, _, _, _, hbb.2.1, rfl, rfl, ?_⟩
          refine ⟨_, _, _, _, i2, rfl, rfl, ?_⟩
          refine ⟨_, _, _, i4, rfl, by omega, gt_at c' (by omega) (by omega), ?_⟩
          rw [i6 c' hc']
          have hdc := ho.1.2.1 c'
          conv => whnf
          rw [isub_eq (by omega)]
          have : B = 4 - ((deg S.1 c' : Nat) : Int) := by rw [hB, if_neg k0, if_neg k1, if_neg k2, if_neg k3]
          rw [← this]
          exact hend H 0 0 ext.refl (by omega) (by omega)
      have loop : ∀ (j v : Nat) (x9 : Option AV), j + v = S.1.1 → wp (d + 60) 211 (48, [some (vR (some x)), some (vI ((c' : Nat) : Int)), some (vI k), some (vR (some h.sz)), some (vI ((maxR v (dst S.1 c') : Nat) : Int)), some (vI ((sumR v (dst S.1 c') : Nat) : Int)), some (vR (some h.sz)), some (vI ((S.1.1 : Nat) : Int)), some (vI ((v : Nat) : Int)), x9], [], H) (cEnd h x ld ep (vI B) S 600 3000 (fun n => n = nm)) := by
        intro j
        induction j with
        | zero =>
          intro v x9 hj
          obtain rfl : v = S.1.1 := by omega
          refine wp.go [48, 84] 10 fun W C hW hC => ?_
          refine ⟨fun _ => hW _ (fin x9), fun w => absurd w (by omega)⟩
        | succ j ih =>
          intro v x9 hj
          have s1 := hsm v (by omega)
          have s2 := hsm (v + 1) (by omega)
          have s3 := hmx v (by omega)
          rw [sumR_succ] at s2
          refine wp.go [48, 84] 30 fun W C hW hC => ?_
          refine ⟨fun w => absurd w (by omega), fun _ => ?_⟩
          refine ⟨_, _, _, y1, rfl, by omega, gt_at v (by omega) (by omega), ?_⟩
          rw [y3 v (by omega)]
          refine hC _ _ _ (useE (wpd.up (by omega) (max_spec (d := 0))) ?_)
          conv => whnf
          rw [iaddN (by omega), iadd_eq (by omega), show max ((maxR v (dst S.1 c') : Nat) : Int) ((dst S.1 c' v : Nat) : Int) = ((maxR (v + 1) (dst S.1 c') : Nat) : Int) by
            show _ = ((max (maxR v (dst S.1 c')) (dst S.1 c' v) : Nat) : Int)
            omega]
          exact hW _ (ih (v + 1) _ (by omega))
      refine ⟨_, Or.inl ⟨_, _, y1, by decide, rfl⟩, ?_⟩
      rw [y2]
      have key := loop S.1.1 0 none (by omega)
      rw [hBB] at key
      exact hW _ key
    · rw [decide_eq_false q2, show aAbout S (dst S.1) c k = -1 from if_pos (Or.inr q2)]
      refine ⟨fun w => absurd rfl w, fun _ => ?_⟩
      exact hb.same.wide (by omega) (by omega) (fun _ e => e)
  · rw [decide_eq_false q1, show aAbout S (dst S.1) c k = -1 from if_pos (Or.inl q1)]
    refine ⟨fun _ => ?_, fun w => absurd rfl w⟩
    exact hb.same.wide (by omega) (by omega) (fun _ e => e)
theorem capartAll_spec (b : Base h x ld nw wh nm tp ep S) (ho : S.ok) : wp (d + 20) 219 (0, ent 7 [vR (some x)], [], h) (fun r h' => r = .inl (some (vI ((apaG S.1 (dst S.1) : Nat) : Int))) ∧ ext 16 256 h h') := by
  have hb := b
  have hn := ho.1.1.2.1
  have hD := dst_far ho.1
  obtain ⟨b1, b2, ⟨b3, b4⟩, -⟩ := b
  have hT : ∀ c, c < S.1.1 → ∀ v, v ≤ S.1.1 → sumR v (dst S.1 c) ≤ 256 := fun c hc v hv => Nat.le_trans (sumR_bd (B := 16) fun i hi => by have := Far.lt ho.1.1 hD hc (show i < S.1.1 by omega); omega) (Nat.le_trans (Nat.mul_le_mul_right 16 (show v ≤ 16 by omega)) (by decide))
  have hA : ∀ c, c ≤ S.1.1 → sumR c (togC S.1 (dst S.1)) ≤ 4096 := fun c hc => Nat.le_trans (sumR_bd (B := 256) fun i hi => hT i (by omega) S.1.1 (Nat.le_refl _)) (Nat.le_trans (Nat.mul_le_mul_right 256 (show c ≤ 16 by omega)) (by decide))
  have outer : ∀ (j c : Nat) (H : AH) (x3 x4 x5 x6 : Option AV), j + c = S.1.1 → ext c (16 * c) h H → wp (d + 20) 219 (4, [some (vR (some x)), some (vI ((sumR c (togC S.1 (dst S.1)) : Nat) : Int)), some (vI ((c : Nat) : Int)), x3, x4, x5, x6], [], H) (fun r h' => r = .inl (some (vI ((apaG S.1 (dst S.1) : Nat) : Int))) ∧ ext 16 256 h h') := by
    intro j
    induction j with
    | zero =>
      intro c H x3 x4 x5 x6 hj he
      obtain rfl : c = S.1.1 := by omega
      have hbb := hb.grown he
      have S1 := b4.mono he
      have ha := hA S.1.1 (Nat.le_refl _)
      refine wp.go [4] 30 fun W C hW hC => ?_
      refine ⟨_, _, _, _, hbb.2.1, rfl, rfl, ?_⟩
      refine ⟨_, _, _, _, S1.2.1, rfl, rfl, ?_⟩
      refine ⟨fun _ => ?_, fun w => absurd w (by omega)⟩
      refine ⟨by decide, ?_⟩
      rw [idiv_eq (by omega) (by omega)]
      refine ⟨?_, he.more (by omega) (by omega)⟩
      unfold apaG
      congr 3
    | succ j ih =>
      intro c H x3 x4 x5 x6 hj he
      have hc : c < S.1.1 := by omega
      have hbb := hb.grown he
      have S1 := b4.mono he
      have ha := hA c (by omega)
      have ha2 := hA (c + 1) (by omega)
      rw [sumR_succ] at ha2
      refine wp.go [4, 31] 40 fun W C hW hC => ?_
      refine ⟨_, _, _, _, hbb.2.1, rfl, rfl, ?_⟩
      refine ⟨_, _, _, _, S1.2.1, rfl, rfl, ?_⟩
      refine ⟨fun w => absurd w (by omega), fun _ => ?_⟩
      refine ⟨_, _, _, _, hbb.2.1, rfl, rfl, ?_⟩
      refine ⟨_, _, _, S1.2.1, rfl, ?_⟩
      refine hC _ _ _ (use (wpd.up (by omega) (far_spec (d := 0) S1 ho.1.1 ho.1.2.1 hD hc)) ?_)
      rintro _ H2 ⟨rfl, e2, z2, X, y1, y2, y3⟩
      have inner : ∀ (i v : Nat) (x6 : Option AV), i + v = S.1.1 → wp (d + 20) 219 (31, [some (vR (some x)), some (vI ((sumR c (togC S.1 (dst S.1)) + sumR v (dst S.1 c) : Nat) : Int)), some (vI ((c : Nat) : Int)), some (vR (some H.sz)), some (vI ((S.1.1 : Nat) : Int)), some (vI ((v : Nat) : Int)), x6], [], H2) (fun r h' => r = .inl (some (vI ((apaG S.1 (dst S.1) : Nat) : Int))) ∧ ext 16 256 h h') := by
        intro i
        induction i with
        | zero =>
          intro v x6 hi
          obtain rfl : v = S.1.1 := by omega
          refine wp.go [31, 4] 20 fun W C hW hC => ?_
          refine ⟨fun _ => ?_, fun q => absurd q (by omega)⟩
          (conv => whnf); simp (disch := omega) only [iadd_eq, isub_eq, imul_eq]
          exact hW _ (ih (c + 1) H2 (some (vR (some H.sz))) (some (vI ((S.1.1 : Nat) : Int))) (some (vI ((S.1.1 : Nat) : Int))) x6 (by omega) ((he.trans e2).more (by omega) (by omega)))
        | succ i ihi =>
          intro v x6 hi
          have t1 := hT c hc v (by omega)
          have t2 := hT c hc (v + 1) (by omega)
          rw [sumR_succ] at t2
          refine wp.go [31, 4] 30 fun W C hW hC => ?_
          refine ⟨fun q => absurd q (by omega), fun _ => ?_⟩
          refine ⟨_, _, _, y1, rfl, by omega, gt_at v (by omega) (by omega), ?_⟩
          rw [y3 v (by omega)]
          conv => whnf
          rw [iaddN (by omega), iadd_eq (by omega)]
          have := ihi (v + 1) (some (vI ((dst S.1 c v : Nat) : Int))) (by omega)
          rw [sumR_succ, ← Nat.add_assoc] at this
          exact hW _ this
      refine ⟨_, Or.inl ⟨_, _, y1, by decide, rfl⟩, ?_⟩
      rw [y2]
      exact hW _ (inner S.1.1 0 x6 (by omega))
  refine wp.go [4] 10 fun W C hW hC => ?_
  exact hW _ (outer S.1.1 0 h none none none none (by omega) ext.refl)
end ASKSC
