section ACTSB
variable {d : Nat} {h : AH} {x : Nat} {ld : Int} {nw : Nat} {wh nm : Option Nat} {tp ep : Nat} {S : AS}
theorem bec_end {h1 h2 : AH} {c s t : Nat} {G : Gr} {r : Rs} (e : ext c s h h1) (k : becEnd h1 x ld tp ep S t G r h2) : cEnd h x ld ep (vI ((G.1 : Nat) : Int)) (actS S G) (c + 1) (s + 34) (fun n => n = none) r h2 := by
  obtain ⟨rfl, ep', k1, k2, k3, k4, k5, k6⟩ := k
  have e1 := e.1
  have e2 := e.2.1
  have e3 := e.2.2.1
  have e4 := e.2.2.2.1
  exact ⟨rfl, t, none, none, tp, ep', k1, (frB.of e).trans k2 (Or.inl rfl), by omega, by omega, by omega, by omega, rfl⟩
abbrev actN (nm n : Option Nat) : Prop := n = none ∨ n = nm
theorem deg_ext {G : Gr} (hG : G.wf) (a : Nat) : deg (G.1 + 1, G.2) a = deg G a := by
  rw [deg_cnt, deg_cnt]
  show cnt G.1 (G.2 a) + b01 (G.2 a G.1) = _
  have : G.2 a G.1 = false := by
    cases q : G.2 a G.1 with
    | false => rfl
    | true => have := (hG.2.2 _ _ q).2.1; omega
  rw [this]
  rfl
theorem cgrow_spec (b : Base h x ld nw wh nm tp ep S) (ho : S.ok) (h12 : S.2.1.length ≤ 12) {c : Int} : wp (d + 10) 193 (0, ent 3 [vR (some x), vI c], [], h) (cEnd h x ld ep (vI (aGrow S c).1) (aGrow S c).2 20 133 (actN nm)) := by
  have hb := b
  have hn := ho.1.1.2.1
  obtain ⟨b1, b2, ⟨b3, b4⟩, -⟩ := b
  unfold aGrow
  refine wp.go [] 60 fun W C hW hC => ?_
  refine ⟨_, _, _, b2, rfl, ?_⟩
  refine hC _ _ _ (useE (wpd.up (by omega) (cisC_spec (d := 0) hb ho)) ?_)
  by_cases q1 : isC S c
  · rw [decide_eq_true q1, if_neg (Classical.not_not.mpr q1)]
    refine ⟨fun _ => ?_, fun w => absurd w (by decide)⟩
    obtain ⟨c', rfl⟩ : ∃ k : Nat, c = (k : Int) := ⟨c.toNat, by have := q1.1; omega⟩
    have hc' : c' < S.1.1 := by have := q1.2; omega
    rw [Int.toNat_natCast]
    refine ⟨_, _, _, _, b2, rfl, rfl, ?_⟩
    refine ⟨_, _, _, b4.2.1, rfl, ?_⟩
    refine hC _ _ _ (useE (wpd.up (by omega) (isFull_spec (d := 0) b4 hn hc')) ?_)
    by_cases q2 : deg S.1 c' = 4
    · rw [if_pos q2, if_pos q2]
      refine ⟨fun w => absurd w (by decide), fun _ => ?_⟩
      exact hb.same.wide (by omega) (by omega) (fun _ e => Or.inr e)
    · rw [if_neg q2, if_neg q2]
      refine ⟨fun _ => ?_, fun w => absurd rfl w⟩
      refine ⟨_, _, _, _, b2, rfl, rfl, ?_⟩
      refine ⟨_, _, _, _, b4.2.1, rfl, rfl, ?_⟩
      refine ⟨fun q3 => ?_, fun q3 => ?_⟩
      · have q3 : S.1.1 ≠ 16 := fun w => q3 (by rw [w]; rfl)
        rw [if_neg q3]
        refine ⟨_, _, _, _, b2, rfl, rfl, ?_⟩
        refine ⟨_, _, _, b4.2.1, rfl, ?_⟩
        refine hC _ _ _ (use (wpd.up (by omega) (copy_spec (d := 0) b4 ho.1.1 ho.1.2.1)) ?_)
        rintro _ h1 ⟨rfl, e1, z1, S1⟩
        refine ⟨_, _, _, S1.2.1, rfl, ?_⟩
        refine hC _ _ _ (use (wpd.up (by omega) (cadds_spec (d := 0) S1 ho.1.1.to0 (by omega))) ?_)
        rintro _ h2 ⟨rfl, u2, S2⟩
        have e2 := e1.skU (Nat.le_refl _) u2
        refine ⟨_, _, _, _, S2.2.1, rfl, rfl, ?_⟩
        have hw2 : wf0 (S.1.1 + 1, S.1.2) := ⟨by show S.1.1 + 1 ≤ 16; omega, fun a b w => by have := ho.1.1.2.2 a b w; exact ⟨by show a < S.1.1 + 1; omega, by show b < S.1.1 + 1; omega, this.2.2⟩⟩
        have hno : S.1.2 c' S.1.1 = false := by
          cases w : S.1.2 c' S.1.1 with
          | false => rfl
          | true => have := (ho.1.1.2.2 _ _ w).2.1; omega
        have d1 := deg_ext ho.1.1 c'
        have d2 := deg_ext ho.1.1 S.1.1
        have d3 := deg_big ho.1.1 (show ¬ S.1.1 < S.1.1 by omega)
        have d4 := ho.1.2.1 c'
        have cb := cbinds_spec (d := 0) S2 hw2 (a := c') (b := S.1.1) (by show c' < S.1.1 + 1; omega) (by show S.1.1 < S.1.1 + 1; omega) (by omega) hno (by omega) (by omega)
        refine ⟨_, _, _, S2.2.1, rfl, ?_⟩
        rw [show isub (((S.1.1 + 1, S.1.2).1 : Nat) : Int) 1 = ((S.1.1 : Nat) : Int) by
          show isub ((S.1.1 + 1 : Nat) : Int) 1 = _
          rw [isub_eq (by omega)]; omega]
        refine hC _ _ _ (use (wpd.up (d := 0 + 2) (by omega) cb) ?_)
        rintro _ h3 ⟨rfl, u3, S3⟩
        have e3 := e2.skU (Nat.le_refl _) u3
        have hb3 := hb.grown e3
        refine ⟨_, _, _, hb3.2.1, rfl, ?_⟩
        have S3' : SkAt h3 h.sz (gGrow S.1 c') := S3
        refine hC _ _ _ (use (wpd.up (by omega) (becomes_spec (d := 0) hb3 h12 b1 S3')) ?_)
        rintro _ h4 hk
        have := bec_end e3 hk
        obtain ⟨rfl, k2⟩ := hk
        exact this.wide (by omega) (by omega) (fun _ e => Or.inl e)
      · have q3 : S.1.1 = 16 := by have q3 : ((S.1.1 : Nat) : Int) = 16 := q3; omega
        rw [if_pos q3]
        exact hb.same.wide (by omega) (by omega) (fun _ e => Or.inr e)
  · rw [decide_eq_false q1, if_pos q1]
    refine ⟨fun w => absurd rfl w, fun _ => ?_⟩
    exact hb.same.wide (by omega) (by omega) (fun _ e => Or.inr e)
theorem csplit_spec (b : Base h x ld nw wh nm tp ep S) (ho : S.ok) (h12 : S.2.1.length ≤ 12) {c o : Int} : wp (d + 20) 197 (0, ent 3 [vR (some x), vI c, vI o], [], h) (cEnd h x ld ep (vI (aSplit S (dst S.1) c o).1) (aSplit S (dst S.1) c o).2 21 149 (actN nm)) := by
  have hb := b
  have hn := ho.1.1.2.1
  have hD := dst_far ho.1
  obtain ⟨b1, b2, ⟨b3, b4⟩, -⟩ := b
  unfold aSplit
  refine wp.go [] 40 fun W C hW hC => ?_
  refine ⟨_, _, _, b2, rfl, ?_⟩
  refine hC _ _ _ (useE (wpd.up (by omega) (cbound_spec (d := 0) hb ho)) ?_)
  by_cases q1 : isB S c o
  · rw [decide_eq_true q1, if_neg (Classical.not_not.mpr q1)]
    refine ⟨fun w => absurd w (by decide), fun _ => ?_⟩
    obtain ⟨p1, p2, p3⟩ := q1
    obtain ⟨c', rfl⟩ : ∃ k : Nat, c = (k : Int) := ⟨c.toNat, by have := p1.1; omega⟩
    obtain ⟨o', rfl⟩ : ∃ k : Nat, o = (k : Int) := ⟨o.toNat, by have := p2.1; omega⟩
    have p3 : S.1.2 c' o' = true := p3
    have p4 := (ho.1.1.2.2 _ _ p3).2.2.1
    rw [Int.toNat_natCast, Int.toNat_natCast]
    refine ⟨_, _, _, _, b2, rfl, rfl, ?_⟩
    refine ⟨_, _, _, _, b2, rfl, rfl, ?_⟩
    refine ⟨_, _, _, b4.2.1, rfl, ?_⟩
    refine hC _ _ _ (useE (wpd.up (by omega) (hanging_spec (d := 0) b4 ho.1.1 ho.1.2.1 hD 16 o' c' (by have := bsz_lt ho.1.1 hD p4; omega) p4)) ?_)
    have hkeep : keptL (bB S.1 (dst S.1) o' c') S.1.1 = stayL S.1 (dst S.1) c' o' := by
      unfold keptL stayL
      apply List.filter_congr
      intro v hv
      have hv := List.mem_range.mp hv
      have pm := Far.pm ho.1.1 hD p3 hv
      unfold bB
      rw [bits_bit, decide_eq_true hv, Bool.true_and]
      by_cases w : inB (dst S.1) c' o' v
      · rw [decide_eq_true w, decide_eq_false (by unfold inB at w ⊢; omega)]; rfl
      · rw [decide_eq_false w, decide_eq_true (by unfold inB at w ⊢; omega)]; rfl
    refine ⟨_, _, _, b4.2.1, rfl, ?_⟩
    refine hC _ _ _ (use (wpd.up (by omega) (only_spec (d := 0) b4 ho.1.1 ho.1.2.1 (bB_lt hn))) ?_)
    rintro _ h1 ⟨rfl, e1, z1, S1⟩
    rw [hkeep] at S1
    have hb1 := hb.grown e1
    refine ⟨_, _, _, hb1.2.1, rfl, ?_⟩
    refine hC _ _ _ (use (wpd.up (by omega) (becomes_spec (d := 0) hb1 h12 b1 S1)) ?_)
    rintro _ h4 hk
    have := bec_end e1 hk
    obtain ⟨rfl, k2⟩ := hk
    exact this.wide (by omega) (by omega) (fun _ e => Or.inl e)
  · rw [decide_eq_false q1, if_pos q1]
    refine ⟨fun _ => ?_, fun w => absurd rfl w⟩
    exact hb.same.wide (by omega) (by omega) (fun _ e => Or.inr e)
end ACTSB
