section ACTSC
variable {d : Nat} {h : AH} {x : Nat} {ld : Int} {nw : Nat} {wh nm : Option Nat} {tp ep : Nat} {S : AS}
theorem cprune_spec (b : Base h x ld nw wh nm tp ep S) (ho : S.ok) (h12 : S.2.1.length ≤ 12) {c : Int} : wp (d + 10) 195 (0, ent 2 [vR (some x), vI c], [], h) (cEnd h x ld ep (vI (aPrune S c).1) (aPrune S c).2 21 149 (actN nm)) := by
  have hb := b
  have hn := ho.1.1.2.1
  obtain ⟨b1, b2, ⟨b3, b4⟩, -⟩ := b
  unfold aPrune
  refine wp.go [] 60 fun W C hW hC => ?_
  refine ⟨_, _, _, b2, rfl, ?_⟩
  refine hC _ _ _ (useE (wpd.up (by omega) (cisC_spec (d := 0) hb ho)) ?_)
  by_cases q1 : isC S c
  · rw [decide_eq_true q1, if_neg (Classical.not_not.mpr q1)]
    refine ⟨fun _ => ?_, fun w => absurd w (by decide)⟩
    obtain ⟨c', rfl⟩ : ∃ k : Nat, c = (k : Int) := ⟨c.toNat, by have := q1.1; omega⟩
    have hc' : c' < S.1.1 := by have := q1.2; omega
    rw [Int.toNat_natCast]
    obtain ⟨k1, k2, k3, ⟨V0, k4, k5, k6⟩, k7⟩ := id b4
    refine ⟨_, _, _, _, b2, rfl, rfl, ?_⟩
    refine ⟨_, _, _, _, k2, rfl, rfl, ?_⟩
    refine ⟨_, _, _, k4, rfl, by omega, gt_at c' (by omega) (by omega), ?_⟩
    rw [k6 c' hc']
    refine ⟨fun q2 => ?_, fun q2 => ?_⟩
    · have q2 : deg S.1 c' = 1 := by have q2 : ((deg S.1 c' : Nat) : Int) = 1 := q2; omega
      rw [if_neg (Classical.not_not.mpr q2)]
      refine ⟨_, _, _, _, b2, rfl, rfl, ?_⟩
      refine ⟨_, _, _, _, b2, rfl, rfl, ?_⟩
      refine ⟨_, _, _, _, k2, rfl, rfl, ?_⟩
      have p16 : 2 ^ S.1.1 ≤ 65536 := Nat.pow_le_pow_right (n := 2) (by decide) hn
      have pc : 2 ^ c' ≤ 65536 := Nat.pow_le_pow_right (n := 2) (by decide) (show c' ≤ 16 by omega)
      have pp := Nat.two_pow_pos S.1.1
      have e1 : ishl 1 ((S.1.1 : Nat) : Int) = ((2 ^ S.1.1 : Nat) : Int) := by
        have := ishl_eq (a := 1) (k := S.1.1) (by omega) (by omega)
        rw [Nat.one_mul] at this
        exact this
      have e2 : ishl 1 ((c' : Nat) : Int) = ((2 ^ c' : Nat) : Int) := by
        have := ishl_eq (a := 1) (k := c') (by omega) (by omega)
        rw [Nat.one_mul] at this
        exact this
      have e3 : isub ((2 ^ S.1.1 : Nat) : Int) 1 = ((2 ^ S.1.1 - 1 : Nat) : Int) := by
        rw [isub_eq (by omega)]; omega
      have e4 := iandn_eq (a := 2 ^ S.1.1 - 1) (b := 2 ^ c') (by omega) (by omega)
      refine ⟨_, _, _, k2, rfl, ?_⟩
      rw [e1, e2, e3, e4]
      have hlt : (2 ^ S.1.1 - 1) ^^^ ((2 ^ S.1.1 - 1) &&& 2 ^ c') < 2 ^ 16 := Nat.xor_lt_two_pow (by omega) (Nat.lt_of_le_of_lt Nat.and_le_left (by omega))
      have hkeep : keptL ((2 ^ S.1.1 - 1) ^^^ ((2 ^ S.1.1 - 1) &&& 2 ^ c')) S.1.1 = (List.range S.1.1).filter fun v => !(Nat.beq v c') := by
        unfold keptL
        apply List.filter_congr
        intro v hv
        have hv := List.mem_range.mp hv
        rw [Nat.testBit_xor, Nat.testBit_and, Nat.testBit_two_pow_sub_one, Nat.testBit_two_pow, decide_eq_true hv]
        by_cases w : v = c'
        · subst w
          rw [Nat.beq_refl, decide_eq_true rfl]
          rfl
        · rw [nbeq.mpr w, decide_eq_false (Ne.symm w)]
          rfl
      refine hC _ _ _ (use (wpd.up (by omega) (only_spec (d := 0) b4 ho.1.1 ho.1.2.1 hlt)) ?_)
      rintro _ h1 ⟨rfl, e1, z1, S1⟩
      rw [hkeep, ← rem_sub ho.1.1 hc'] at S1
      have hb1 := hb.grown e1
      refine ⟨_, _, _, hb1.2.1, rfl, ?_⟩
      refine hC _ _ _ (use (wpd.up (by omega) (becomes_spec (d := 0) hb1 h12 b1 S1)) ?_)
      rintro _ h4 hk
      have := bec_end e1 hk
      obtain ⟨rfl, k2⟩ := hk
      exact this.wide (by omega) (by omega) (fun _ e => Or.inl e)
    · have q2 : deg S.1 c' ≠ 1 := fun w => q2 (by rw [w]; rfl)
      rw [if_pos q2]
      exact hb.same.wide (by omega) (by omega) (fun _ e => Or.inr e)
  · rw [decide_eq_false q1, if_pos q1]
    refine ⟨fun w => absurd rfl w, fun _ => ?_⟩
    exact hb.same.wide (by omega) (by omega) (fun _ e => Or.inr e)
theorem ckeep_spec (b : Base h x ld nw wh nm tp ep S) (ho : S.ok) {k : Int} : wp (d + 2) 199 (0, ent 2 [vR (some x), vI k], [], h) (cEnd h x ld ep (vI (aKeep S k).1) (aKeep S k).2 0 0 (fun n => n = nm)) := by
  have hb := b
  have h6 := b.six
  obtain ⟨b1, b2, ⟨b3, b4⟩, ⟨⟨p1, p2⟩, m, pl, pk, p3, p4, p5⟩, ⟨sl, s1, s2, s3⟩, ⟨T, t1, t2⟩, b7, b8⟩ := b
  unfold aKeep
  by_cases q : 0 ≤ k ∧ k ≤ 2
  · rw [if_pos q]
    obtain ⟨k', rfl⟩ : ∃ n : Nat, k = (n : Int) := ⟨k.toNat, by omega⟩
    rw [Int.toNat_natCast]
    have f : frB x ep h (h.setR (x + 25) (sl.set k' (some nw))) := ⟨Nat.le_refl _, rfl, fun v hv => ⟨fun _ => rfl, fun w _ => setR_ne w, fun _ _ => rfl⟩⟩
    refine wp.go [] 30 fun W C hW hC => ?_
    refine hC _ _ _ (useE (wpd.up (by omega) (cin_spec (d := 0))) ?_)
    rw [decide_eq_true q]
    refine ⟨fun _ => ?_, fun w => absurd w (by decide)⟩
    refine ⟨_, _, _, _, b2, rfl, rfl, ?_⟩
    refine ⟨_, _, _, _, b2, rfl, rfl, ?_⟩
    refine ⟨_, _, s1, by decide, by decide, by omega, by omega, ?_, fun w => (by cases w), ?_⟩
    · intro y hy
      cases hy
      refine ⟨(0, 2), rfl, by decide, ?_⟩
      show (h.F nw).1 % 200 = 2
      rw [b4.2.1]
      rfl
    rw [Int.toNat_natCast]
    refine ⟨_, _, _, _, b2, rfl, rfl, ?_⟩
    refine ⟨_, _, _, _, b4.2.1, rfl, rfl, ?_⟩
    refine ⟨rfl, nw, wh, nm, tp, ep, ⟨b1, b2, ⟨b3, b4.fr f b3 h6⟩, ⟨⟨p1, p2⟩, m, pl, pk, ⟨p3.1, ?_⟩, p4, fun i s G w1 w2 => ⟨(p5 i s G w1 w2).1, (p5 i s G w1 w2).2.fr f (p5 i s G w1 w2).1 h6⟩⟩, ⟨sl.set k' (some nw), setR_at s1, by rw [List.length_set]; exact s2, fun j hj => ?_⟩, ⟨T, t1, t2⟩, fun w e => (b7 w e).fr f h6, fun s e => (b8 s e).fr f⟩, f, Or.inl rfl, Nat.le_refl _, Nat.le_refl _, Nat.le_refl _, rfl⟩
    · rcases p3.2 with w | ⟨w1, w2, w3, w4⟩
      · exact Or.inl ((setR_ne (by omega)).trans w)
      · exact Or.inr ⟨w1, w2, w3, (setR_ne (by omega)).trans w4⟩
    · show match up S.2.2.1 k' (some S.1) j with | none => (sl.set k' (some nw))[j]? = some none | some G => ∃ s, (sl.set k' (some nw))[j]? = some (some s) ∧ skOk x s ∧ SkAt _ s G
      by_cases w : j = k'
      · subst w
        rw [up_eq]
        exact ⟨nw, by rw [List.getElem?_set_self (by omega)], b3, b4.fr f b3 h6⟩
      · rw [upn_ne _ _ w, List.getElem?_set_ne (Ne.symm w)]
        have := s3 j hj
        revert this
        cases S.2.2.1 j with
        | none => exact id
        | some G =>
          rintro ⟨s, g1, g2, g3⟩
          exact ⟨s, g1, g2, g3.fr f g2 h6⟩
  · rw [if_neg q]
    refine wp.go [] 20 fun W C hW hC => ?_
    refine hC _ _ _ (useE (wpd.up (by omega) (cin_spec (d := 0))) ?_)
    rw [decide_eq_false q]
    refine ⟨fun w => absurd rfl w, fun _ => ?_⟩
    exact hb.same
theorem cend_spec (b : Base h x ld nw wh nm tp ep S) (ho : S.ok) {n : Int} : wp (d + 2) 184 (0, ent 2 [vR (some x), vI n], [], h) (cEnd h x ld ep (vI (aEnd S n).1) (aEnd S n).2 0 0 (fun n => n = nm)) := by
  have hb := b
  have h6 := b.six
  have htl := ho.2.2.2.1
  obtain ⟨b1, b2, ⟨b3, b4⟩, ⟨⟨p1, p2⟩, m, pl, pk, p3, p4, p5⟩, ⟨sl, s1, s2, s3⟩, ⟨T, t1, t2, t3, t4⟩, b7, b8⟩ := b
  unfold aEnd
  by_cases q : 0 ≤ n ∧ n ≤ ((S.2.2.2.length : Nat) : Int)
  · rw [if_pos q]
    obtain ⟨n', rfl⟩ : ∃ k : Nat, n = (k : Int) := ⟨n.toNat, by omega⟩
    rw [Int.toNat_natCast]
    have f : frB x ep h (h.setF x (flC x ld nw wh nm n')) := (frB.of ext.refl).setF
    refine wp.go [] 30 fun W C hW hC => ?_
    refine ⟨_, _, _, _, b2, rfl, rfl, ?_⟩
    refine hC _ _ _ (useE (wpd.up (by omega) (cin_spec (d := 0))) ?_)
    rw [t3, decide_eq_true q]
    refine ⟨fun _ => ?_, fun w => absurd w (by decide)⟩
    refine ⟨_, _, _, b2, rfl, (Nat.le_of_ble_eq_true rfl), ?_⟩
    refine ⟨rfl, nw, wh, nm, n', ep, ⟨b1, setF_at b2, ⟨b3, b4.fr f b3 h6⟩, ⟨⟨p1, p2⟩, m, pl, pk, ⟨(setF_ne (by omega)).trans p3.1, p3.2⟩, p4, fun i s G w1 w2 => ⟨(p5 i s G w1 w2).1, (p5 i s G w1 w2).2.fr f (p5 i s G w1 w2).1 h6⟩⟩, ⟨sl, s1, s2, fun j hj => ?_⟩, ⟨T, t1, t2, ?_, fun i hi => ?_⟩, fun w e => (b7 w e).fr f h6, fun s e => (b8 s e).fr f⟩, f, Or.inl rfl, Nat.le_refl _, Nat.le_refl _, Nat.le_refl _, rfl⟩
    · have := s3 j hj
      show match S.2.2.1 j with | none => sl[j]? = some none | some G => ∃ s, sl[j]? = some (some s) ∧ skOk x s ∧ SkAt _ s G
      revert this
      cases S.2.2.1 j with
      | none => exact id
      | some G =>
        rintro ⟨s, g1, g2, g3⟩
        exact ⟨s, g1, g2, g3.fr f g2 h6⟩
    · show n' = (S.2.2.2.take n').length
      rw [List.length_take]; omega
    · have hi : i < (S.2.2.2.take n').length := hi
      rw [List.length_take] at hi
      show gt T i = gt (S.2.2.2.take n') i
      rw [t4 i (by omega)]
      unfold gt
      rw [List.getElem?_take, if_pos (by omega)]
  · rw [if_neg q]
    refine wp.go [] 20 fun W C hW hC => ?_
    refine ⟨_, _, _, _, b2, rfl, rfl, ?_⟩
    refine hC _ _ _ (useE (wpd.up (by omega) (cin_spec (d := 0))) ?_)
    rw [t3, decide_eq_false q]
    refine ⟨fun w => absurd rfl w, fun _ => ?_⟩
    exact hb.same
end ACTSC
