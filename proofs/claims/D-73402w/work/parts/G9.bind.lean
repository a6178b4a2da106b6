section CBIND
variable {d : Nat} {h : AH} {x : Nat} {ld : Int} {nw : Nat} {wh nm : Option Nat} {tp ep : Nat} {S : AS}
theorem cshelf_at (b : Base h x ld nw wh nm tp ep S) {k : Nat} (hk : k < 3) : ∃ sl, h.R (x + 25) = (4, sl) ∧ match S.2.2.1 k with
    | none => sl[k]? = some none
    | some G => ∃ s, sl[k]? = some (some s) ∧ skOk x s ∧ SkAt h s G := by
  obtain ⟨-, -, -, -, ⟨sl, s1, s2, s3⟩, -⟩ := b
  exact ⟨sl, s1, s3 k hk⟩
theorem cbind_spec (b : Base h x ld nw wh nm tp ep S) (ho : S.ok) (h12 : S.2.1.length ≤ 12) {c k o : Int} : wp (d + 10) 196 (0, ent 6 [vR (some x), vI c, vI k, vI o], [], h) (cEnd h x ld ep (vI (aBind S c k o).1) (aBind S c k o).2 20 133 (actN nm)) := by
  have hb := b
  have hn := ho.1.1.2.1
  obtain ⟨b1, b2, ⟨b3, b4⟩, -⟩ := b
  have no : aBind S c k o = (-1, S) → wp (d + 10) 196 (50, [some (vR (some x)), some (vI c), some (vI k), some (vI o), none, none], [], h) (cEnd h x ld ep (vI (aBind S c k o).1) (aBind S c k o).2 20 133 (actN nm)) := by
    intro hB
    rw [hB]
    refine wp.go [] 10 fun W C hW hC => ?_
    exact hb.same.wide (by omega) (by omega) (fun _ e => Or.inr e)
  by_cases q2 : 0 ≤ k ∧ k ≤ 2
  · obtain ⟨k', rfl⟩ : ∃ n : Nat, k = (n : Int) := ⟨k.toNat, by omega⟩
    obtain ⟨sl, s1, s3⟩ := cshelf_at hb (k := k') (by omega)
    cases eS : S.2.2.1 k' with
    | none =>
      have hB : aBind S c ((k' : Nat) : Int) o = (-1, S) := by
        unfold aBind
        rw [if_pos q2, Int.toNat_natCast, eS]
      rw [eS] at s3
      refine wp.go [50] 60 fun W C hW hC => ?_
      refine ⟨_, _, _, b2, rfl, ?_⟩
      refine hC _ _ _ (useE (wpd.up (by omega) (cisC_spec (d := 0) hb ho)) ?_)
      by_cases q1 : isC S c
      · rw [decide_eq_true q1]
        refine ⟨fun w => absurd w (by decide), fun _ => ?_⟩
        refine hC _ _ _ (useE (wpd.up (by omega) (cin_spec (d := 0))) ?_)
        rw [decide_eq_true q2]
        refine ⟨fun w => absurd w (by decide), fun _ => ?_⟩
        refine ⟨_, _, _, _, b2, rfl, rfl, ?_⟩
        refine ⟨_, _, _, s1, by decide, by omega, by rw [Int.toNat_natCast]; exact s3, ?_⟩
        exact hW _ (no hB)
      · rw [decide_eq_false q1]
        exact ⟨fun _ => hW _ (no hB), fun w => absurd rfl w⟩
    | some H =>
      rw [eS] at s3
      obtain ⟨t, g1, g2, g3⟩ := s3
      have hH := (ho.2.2.1 k' H eS).2
      have hHn := hH.1.2.1
      have hB0 : aBind S c ((k' : Nat) : Int) o = if ¬ (isC S c ∧ 0 ≤ o ∧ o < ((H.1 : Nat) : Int)) then (-1, S) else if deg S.1 c.toNat = 4 ∨ deg H o.toNat = 4 then (-2, S) else if 16 < S.1.1 + H.1 then (-3, S) else (((S.1.1 + H.1 : Nat) : Int), actS S (gBind S.1 H c.toNat o.toNat)) := by
        unfold aBind
        rw [if_pos q2, Int.toNat_natCast, eS]
      refine wp.go [50] 140 fun W C hW hC => ?_
      refine ⟨_, _, _, b2, rfl, ?_⟩
      refine hC _ _ _ (useE (wpd.up (by omega) (cisC_spec (d := 0) hb ho)) ?_)
      by_cases q1 : isC S c
      · rw [decide_eq_true q1]
        refine ⟨fun w => absurd w (by decide), fun _ => ?_⟩
        refine hC _ _ _ (useE (wpd.up (by omega) (cin_spec (d := 0))) ?_)
        rw [decide_eq_true q2]
        refine ⟨fun w => absurd w (by decide), fun _ => ?_⟩
        refine ⟨_, _, _, _, b2, rfl, rfl, ?_⟩
        refine ⟨_, _, _, s1, by decide, by omega, by rw [Int.toNat_natCast]; exact g1, ?_⟩
        refine ⟨_, _, _, _, b2, rfl, rfl, ?_⟩
        refine ⟨_, _, _, s1, by decide, by omega, by rw [Int.toNat_natCast]; exact g1, ?_⟩
        refine ⟨_, _, _, _, g3.2.1, rfl, rfl, ?_⟩
        conv => whnf
        rw [isub_eq (by omega)]
        refine hC _ _ _ (useE (wpd.up (by omega) (cin_spec (d := 0))) ?_)
        by_cases q3 : 0 ≤ o ∧ o ≤ ((H.1 : Nat) : Int) - 1
        · rw [decide_eq_true q3]
          refine ⟨fun _ => ?_, fun w => absurd w (by decide)⟩
          rw [if_neg (Classical.not_not.mpr ⟨q1, q3.1, by omega⟩)] at hB0
          obtain ⟨c', rfl⟩ : ∃ k : Nat, c = (k : Int) := ⟨c.toNat, by have := q1.1; omega⟩
          obtain ⟨o', rfl⟩ : ∃ k : Nat, o = (k : Int) := ⟨o.toNat, by omega⟩
          have hc' : c' < S.1.1 := by have := q1.2; omega
          have ho' : o' < H.1 := by omega
          rw [Int.toNat_natCast, Int.toNat_natCast] at hB0
          refine ⟨_, _, _, _, b2, rfl, rfl, ?_⟩
          refine ⟨_, _, _, b4.2.1, rfl, ?_⟩
          refine hC _ _ _ (useE (wpd.up (by omega) (isFull_spec (d := 0) b4 hn hc')) ?_)
          by_cases q4 : deg S.1 c' = 4
          · rw [if_pos q4]
            refine ⟨fun _ => ?_, fun w => absurd w (by decide)⟩
            rw [hB0, if_pos (Or.inl q4)]
            exact hb.same.wide (by omega) (by omega) (fun _ e => Or.inr e)
          · rw [if_neg q4]
            refine ⟨fun w => absurd rfl w, fun _ => ?_⟩
            refine ⟨_, _, _, _, b2, rfl, rfl, ?_⟩
            refine ⟨_, _, _, s1, by decide, by omega, by rw [Int.toNat_natCast]; exact g1, ?_⟩
            refine ⟨_, _, _, g3.2.1, rfl, ?_⟩
            refine hC _ _ _ (useE (wpd.up (by omega) (isFull_spec (d := 0) g3 hHn ho')) ?_)
            by_cases q5 : deg H o' = 4
            · rw [if_pos q5]
              refine ⟨fun w => absurd w (by decide), fun _ => ?_⟩
              rw [hB0, if_pos (Or.inr q5)]
              exact hb.same.wide (by omega) (by omega) (fun _ e => Or.inr e)
            · rw [if_neg q5]
              refine ⟨fun _ => ?_, fun w => absurd rfl w⟩
              rw [if_neg (fun w => by rcases w with w | w; exact q4 w; exact q5 w)] at hB0
              refine ⟨_, _, _, _, b2, rfl, rfl, ?_⟩
              refine ⟨_, _, _, _, b4.2.1, rfl, rfl, ?_⟩
              refine ⟨_, _, _, _, b2, rfl, rfl, ?_⟩
              refine ⟨_, _, _, s1, by decide, by omega, by rw [Int.toNat_natCast]; exact g1, ?_⟩
              refine ⟨_, _, _, _, g3.2.1, rfl, rfl, ?_⟩
              conv => whnf
              rw [iaddN (by omega)]
              refine ⟨fun q6 => ?_, fun q6 => ?_⟩
              · have q6 : S.1.1 + H.1 ≤ 16 := by have q6 : ((S.1.1 + H.1 : Nat) : Int) ≤ 16 := q6; omega
                rw [if_neg (by omega)] at hB0
                have hbd := bind_ok ho.1 hH hc' ho' q6 q4 q5
                have hJ : ∀ a, deg (gJoin S.1 H) a ≤ 4 := fun a => Nat.le_trans (deg_mono (G := gJoin S.1 H) (G' := gBind S.1 H c' o') rfl fun b w => gAdd_iff (G := gJoin S.1 H) (a := c') (b := S.1.1 + o').mpr (Or.inl w)) (hbd.2.1 a)
                refine ⟨_, _, _, _, b2, rfl, rfl, ?_⟩
                refine ⟨_, _, _, b4.2.1, rfl, ?_⟩
                refine hC _ _ _ (use (wpd.up (by omega) (copy_spec (d := 0) b4 ho.1.1 ho.1.2.1)) ?_)
                rintro _ h1 ⟨rfl, e1, z1, S1⟩
                have hb1 := hb.grown e1
                have G1 := g3.mono e1
                have R1 : h1.R (x + 25) = (4, sl) := (e1.2.2.2.2.1 _ (by omega)).2.1.trans s1
                refine ⟨_, _, _, _, S1.2.1, rfl, rfl, ?_⟩
                refine ⟨_, _, _, _, hb1.2.1, rfl, rfl, ?_⟩
                refine ⟨_, _, _, R1, by decide, by omega, by rw [Int.toNat_natCast]; exact g1, ?_⟩
                refine ⟨_, _, _, S1.2.1, rfl, ?_⟩
                refine hC _ _ _ (use (wpd.up (by omega) (ctakes_spec (d := 0) S1 ho.1.1.to0 G1 hH.1 (Or.inl (by have := g3.1; omega)) q6 hJ)) ?_)
                rintro _ h2 ⟨rfl, u2, S2⟩
                have e2 := e1.skU (Nat.le_refl _) u2
                have hno : (gJoin S.1 H).2 c' (S.1.1 + o') = false := by
                  cases w : (gJoin S.1 H).2 c' (S.1.1 + o') with
                  | false => rfl
                  | true =>
                    rcases join_iff.mp w with w | ⟨a, b, w1, w2, w3⟩
                    · have := (ho.1.1.2.2 _ _ w).2.1; omega
                    · omega
                have hno2 : (gJoin S.1 H).2 (S.1.1 + o') c' = false := by
                  cases w : (gJoin S.1 H).2 (S.1.1 + o') c' with
                  | false => rfl
                  | true =>
                    rcases join_iff.mp w with w | ⟨a, b, w1, w2, w3⟩
                    · have := (ho.1.1.2.2 _ _ w).1; omega
                    · omega
                have hwj : wf0 (gJoin S.1 H) := by
                  refine ⟨q6, fun a b w => ?_⟩
                  show a < S.1.1 + H.1 ∧ b < S.1.1 + H.1 ∧ _ ∧ _
                  rcases join_iff.mp w with w | ⟨y, z, w1, rfl, rfl⟩
                  · obtain ⟨v1, v2, v3, v4⟩ := ho.1.1.2.2 _ _ w
                    exact ⟨by omega, by omega, join_iff.mpr (Or.inl v3), v4⟩
                  · obtain ⟨v1, v2, v3, v4⟩ := hH.1.2.2 _ _ w1
                    exact ⟨by omega, by omega, join_iff.mpr (Or.inr ⟨z, y, v3, rfl, rfl⟩), by omega⟩
                have d1 := deg_less (G := gJoin S.1 H) (G' := gBind S.1 H c' o') rfl (a := c') (b := S.1.1 + o') (fun b w => gAdd_iff (G := gJoin S.1 H) (a := c') (b := S.1.1 + o').mpr (Or.inl w)) (by show S.1.1 + o' < S.1.1 + H.1; omega) hno (gAdd_iff (G := gJoin S.1 H) (a := c') (b := S.1.1 + o').mpr (Or.inr (Or.inl ⟨rfl, rfl⟩)))
                have d2 := deg_less (G := gJoin S.1 H) (G' := gBind S.1 H c' o') rfl (a := S.1.1 + o') (b := c') (fun b w => gAdd_iff (G := gJoin S.1 H) (a := c') (b := S.1.1 + o').mpr (Or.inl w)) (by show c' < S.1.1 + H.1; omega) hno2 (gAdd_iff (G := gJoin S.1 H) (a := c') (b := S.1.1 + o').mpr (Or.inr (Or.inr ⟨rfl, rfl⟩)))
                have d3 := hbd.2.1 c'
                have d4 := hbd.2.1 (S.1.1 + o')
                have cb := cbinds_spec (d := 0) S2 hwj (a := c') (b := S.1.1 + o') (by show c' < S.1.1 + H.1; omega) (by show S.1.1 + o' < S.1.1 + H.1; omega) (by omega) hno (by omega) (by omega)
                refine ⟨_, _, _, S2.2.1, rfl, ?_⟩
                rw [iaddN (by omega)]
                refine hC _ _ _ (use (wpd.up (d := 0 + 2) (by omega) cb) ?_)
                rintro _ h3 ⟨rfl, u3, S3⟩
                have e3 := e2.skU (Nat.le_refl _) u3
                have hb3 := hb.grown e3
                refine ⟨_, _, _, hb3.2.1, rfl, ?_⟩
                have S3' : SkAt h3 h.sz (gBind S.1 H c' o') := S3
                refine hC _ _ _ (use (wpd.up (by omega) (becomes_spec (d := 0) hb3 h12 b1 S3')) ?_)
                rintro _ h4 hk
                have := bec_end e3 hk
                obtain ⟨rfl, k2⟩ := hk
                rw [hB0]
                exact this.wide (by omega) (by omega) (fun _ e => Or.inl e)
              · have q6 : 16 < S.1.1 + H.1 := by have q6 : (16 : Int) < ((S.1.1 + H.1 : Nat) : Int) := q6; omega
                rw [hB0, if_pos q6]
                exact hb.same.wide (by omega) (by omega) (fun _ e => Or.inr e)
        · rw [decide_eq_false q3]
          refine ⟨fun w => absurd rfl w, fun _ => ?_⟩
          exact hW _ (no (by rw [hB0, if_pos (fun w => q3 ⟨w.2.1, by have := w.2.2; omega⟩)]))
      · rw [decide_eq_false q1]
        exact ⟨fun _ => hW _ (no (by rw [hB0, if_pos (fun w => q1 w.1)])), fun w => absurd rfl w⟩
  · have hB : aBind S c k o = (-1, S) := by
      unfold aBind
      rw [if_neg q2]
    refine wp.go [50] 60 fun W C hW hC => ?_
    refine ⟨_, _, _, b2, rfl, ?_⟩
    refine hC _ _ _ (useE (wpd.up (by omega) (cisC_spec (d := 0) hb ho)) ?_)
    by_cases q1 : isC S c
    · rw [decide_eq_true q1]
      refine ⟨fun w => absurd w (by decide), fun _ => ?_⟩
      refine hC _ _ _ (useE (wpd.up (by omega) (cin_spec (d := 0))) ?_)
      rw [decide_eq_false q2]
      exact ⟨fun _ => hW _ (no hB), fun w => absurd rfl w⟩
    · rw [decide_eq_false q1]
      exact ⟨fun _ => hW _ (no hB), fun w => absurd rfl w⟩
end CBIND
