section BRANCH2
variable {d : Nat} {h0 : AH} {M : Nat} {A : Nat → List Int} {sc : Nat → Int} {tab : List Tr} {G : Gr} {D : Nat → Nat → Nat}
/-- the least text comes to lie as the text of a branch -/
theorem lay_text {a c : Nat} {p : Bool} {L : Tx} {x3 : Int} (hA : lens A) (ha : a < 16) (hc : c < 16) (hL : txAt (A 43) 0 (sc 14) L) (hLo : okX L) (hLl : L.length ≤ 90) :
    wp (d + 2) 383 (117, [some (vR (some M)), some (vI ((a : Nat) : Int)), some (vI ((c : Nat) : Int)), some (vI x3), some (vI ((16 * a + c : Nat) : Int)), some (vI (z01 p)), none], [], tw h0 M A sc) (fun r h' => r = .inl none ∧ ∃ A', h' = tw h0 M A' sc ∧ lens A' ∧ Fr [40, 41] [] A A' sc sc ∧ TxtAt A' (16 * a + c) (wrapT p L) ∧ txKeep A A' (16 * a + c)) := by
  have hl41 : (A 41).length = 256 := by rw [hA.eq 41]; rfl
  have fin : ∀ (A1 : Nat → List Int) (K : Tx) (x6 : Option AV), lens A1 → Fr [40, 41] [] A A1 sc sc → TxtAt A1 (16 * a + c) K → K.length < 96 → txKeep A A1 (16 * a + c) → (wrapT p L = cond p K (K ++ [41])) → wp (d + 2) 383 (169, [some (vR (some M)), some (vI ((a : Nat) : Int)), some (vI ((c : Nat) : Int)), some (vI x3), some (vI ((16 * a + c : Nat) : Int)), some (vI (z01 p)), x6], [], tw h0 M A1 sc) (fun r h' => r = .inl none ∧ ∃ A', h' = tw h0 M A' sc ∧ lens A' ∧ Fr [40, 41] [] A A' sc sc ∧ TxtAt A' (16 * a + c) (wrapT p L) ∧ txKeep A A' (16 * a + c)) := by
    intro A1 K x6 i1 i2 i3 i4 i5 i6
    rw [i6]
    refine wp.go [] 20 fun W C hW hC => ?_
    cases p with
    | true =>
      refine ⟨fun _ => ?_, fun q => absurd q (by decide)⟩
      exact ⟨rfl, A1, rfl, i1, i2, i3, i5⟩
    | false =>
      refine ⟨fun q => absurd rfl q, fun _ => ?_⟩
      refine ⟨_, _, _, twF, rfl, ?_⟩
      refine hC _ _ _ (use (laysSign_spec (d := d) (c := 41) i1 (by omega) i3 i4 ⟨by decide, by decide⟩) ?_)
      rintro _ _ ⟨rfl, A2, rfl, k1, k2, k3, k4⟩
      exact ⟨rfl, A2, rfl, k1, i2.trans k2, k3, i5.trans k4⟩
  have loop : ∀ (K0 : Tx), K0.length ≤ 1 → (wrapT p L = cond p (K0 ++ L) (K0 ++ L ++ [41])) → ∀ (j i : Nat) (A1 : Nat → List Int), j + i = L.length → lens A1 → Fr [40, 41] [] A A1 sc sc → TxtAt A1 (16 * a + c) (K0 ++ L.take i) → txKeep A A1 (16 * a + c) → wp (d + 2) 383 (141, [some (vR (some M)), some (vI ((a : Nat) : Int)), some (vI ((c : Nat) : Int)), some (vI x3), some (vI ((16 * a + c : Nat) : Int)), some (vI (z01 p)), some (vI ((i : Nat) : Int))], [], tw h0 M A1 sc) (fun r h' => r = .inl none ∧ ∃ A', h' = tw h0 M A' sc ∧ lens A' ∧ Fr [40, 41] [] A A' sc sc ∧ TxtAt A' (16 * a + c) (wrapT p L) ∧ txKeep A A' (16 * a + c)) := by
    intro K0 hK0 hw j
    induction j with
    | zero =>
      intro i A1 hj i1 i2 i3 i5
      obtain rfl : i = L.length := by omega
      rw [List.take_length] at i3
      refine wp.go [141, 169] 20 fun W C hW hC => ?_
      refine ⟨_, _, _, _, twF, rfl, rfl, ?_⟩
      rw [hL.1]
      refine ⟨fun _ => ?_, fun q => absurd q (by omega)⟩
      exact hW _ (fin A1 (K0 ++ L) _ i1 i2 i3 (by rw [List.length_append]; omega) i5 hw)
    | succ j ih =>
      intro i A1 hj i1 i2 i3 i5
      have hil : i < L.length := by omega
      have hx := hL.2 i _ (List.getElem?_eq_getElem hil)
      rw [Nat.zero_add] at hx
      refine wp.go [141, 169] 30 fun W C hW hC => ?_
      refine ⟨_, _, _, _, twF, rfl, rfl, ?_⟩
      rw [hL.1]
      refine ⟨fun q => absurd q (by omega), fun _ => ?_⟩
      refine ⟨_, _, _, _, twF, rfl, rfl, ?_⟩
      refine ⟨_, _, _, twI rfl rfl, rfl, (by omega), gt_at (i) (by omega) (lenlt (j := 43) (i1) (show (i) < 96 by omega)), ?_⟩
      rw [i2.1 43 rfl, hx]
      refine ⟨_, _, _, twF, rfl, ?_⟩
      refine hC _ _ _ (use (laysSign_spec (d := d) i1 (by omega) i3 (by rw [List.length_append, List.length_take]; omega) (hLo _ (List.getElem_mem hil))) ?_)
      rintro _ _ ⟨rfl, A2, rfl, k1, k2, k3, k4⟩
      (conv => whnf); simp (disch := omega) only [iadd_eq, isub_eq, imul_eq]
      refine hW _ (ih (i + 1) A2 (by omega) k1 (i2.trans k2) ?_ (i5.trans k4))
      rw [List.take_succ, List.getElem?_eq_getElem hil]
      rw [List.append_assoc] at k3
      exact k3
  have hA1 : lens (up A 41 ((A 41).set (16 * a + c) 0)) := hA.up (by rw [List.length_set, hl41]; rfl)
  have hF1 : Fr [40, 41] [] A (up A 41 ((A 41).set (16 * a + c) 0)) sc sc := Fr.upA rfl
  have hT1 : TxtAt (up A 41 ((A 41).set (16 * a + c) 0)) (16 * a + c) [] := ⟨by rw [up_eq, gt_set (by omega), if_pos rfl]; rfl, fun i x hi => by simp at hi⟩
  have hK1 : txKeep A (up A 41 ((A 41).set (16 * a + c) 0)) (16 * a + c) := by
    intro q' K hne hq' hK hT
    refine ⟨?_, fun i x hi => ?_⟩
    · rw [up_eq, gt_set (by omega), if_neg hne]; exact hT.1
    · rw [upn_ne _ _ (by decide)]; exact hT.2 i x hi
  refine wp.go [141] 40 fun W C hW hC => ?_
  refine ⟨_, _, _, _, twF, rfl, rfl, ?_⟩
  (refine ⟨_, twI rfl rfl, (by omega), (ilt (16 * a + c) (by omega) (lenlt (j := 41) (hA) (show (16 * a + c) < 256 by omega))), ?_⟩; rw [twSetI rfl rfl]; try rw [Int.toNat_natCast])
  cases p with
  | true =>
    refine ⟨fun _ => ?_, fun q => absurd q (by decide)⟩
    refine hW _ (loop [] (Nat.zero_le _) rfl L.length 0 _ (by omega) hA1 hF1 ?_ hK1)
    rw [List.take_zero]; exact hT1
  | false =>
    refine ⟨fun q => absurd rfl q, fun _ => ?_⟩
    refine ⟨_, _, _, twF, rfl, ?_⟩
    refine hC _ _ _ (use (laysSign_spec (d := d) (c := 40) hA1 (by omega) hT1 (by decide) ⟨by decide, by decide⟩) ?_)
    rintro _ _ ⟨rfl, A2, rfl, k1, k2, k3, k4⟩
    refine hW _ (loop [40] (Nat.le_refl _) rfl L.length 0 A2 (by omega) k1 (hF1.trans k2) ?_ (hK1.trans k4))
    rw [List.take_zero]; exact k3
theorem writesBranch_spec (hG : G.ok) (hD : Far G D) (hM : SeenM A sc tab G D) {a c : Nat} (h : G.2 a c = true)
    (hT : ∀ a' c', G.2 a' c' = true → bsz G D a' c' < bsz G D a c → TxtAt A (16 * a' + c') (brT G D a' c')) :
    wp (d + 4) 383 (0, ent 7 [vR (some M), vI ((a : Nat) : Int), vI ((c : Nat) : Int)], [], tw h0 M A sc) (fun r h' => r = .inl none ∧ ∃ A' sc', h' = tw h0 M A' sc' ∧ lens A' ∧ Fr JT KN A A' sc sc' ∧ TxtAt A' (16 * a + c) (brT G D a c) ∧ txKeep A A' (16 * a + c)) := by
  have hn16 := hG.1.2.1
  obtain ⟨ha, hc, hca, -⟩ := hG.1.2.2 _ _ h
  obtain ⟨i, s1, s2, s3⟩ := hM.1.2.2.2.1 a c h
  obtain ⟨t1, -, t3, -⟩ := hM.1.1.2.2.1 i _ s3
  have hi63 := hM.1.1.2.1.2.2
  have hb20 := hM.1.2.2.1 a c h
  have hbb : bB G D a c < 65536 := Nat.lt_of_lt_of_le (bits_lt _ _) (Nat.pow_le_pow_right (n := 2) (by decide) hn16)
  have htl := tall_pos (TT G a c)
  have htsz := tall_le_sz (TT G a c)
  have hsz := TT_sz hG.1 hD _ _ h
  have hbl := bsz_lt hG.1 hD h
  have hA := hM.1.1.1
  have tail : ∀ (A1 : Nat → List Int) (sc1 : Nat → Int) (y5 y6 : Option AV), lens A1 → Fr JN KN A A1 sc sc1 → txAt (A1 43) 0 (sc1 14) (accB G D a c G.1) → wp (d + 4) 383 (87, [some (vR (some M)), some (vI ((a : Nat) : Int)), some (vI ((c : Nat) : Int)), some (vI ((i : Nat) : Int)), some (vI ((G.1 : Nat) : Int)), none, none], [], tw h0 M A1 sc1) (fun r h' => r = .inl none ∧ ∃ A' sc', h' = tw h0 M A' sc' ∧ lens A' ∧ Fr JT KN A A' sc sc' ∧ TxtAt A' (16 * a + c) (brT G D a c) ∧ txKeep A A' (16 * a + c)) := by
    intro A1 sc1 _ _ i1 i2 i3
    obtain ⟨o1, o2⟩ := accB_ok hG.1 hD h (Nat.le_refl _)
    have hbr : brT G D a c = wrapT (plainB G a c) (accB G D a c G.1) := brT_eq hG.1 hD h
    have lay := fun p => lay_text (d := d + 2) (h0 := h0) (M := M) (A := A1) (sc := sc1) (a := a) (c := c) (p := p) (x3 := ((i : Nat) : Int)) i1 (by omega) (by omega) i3 o1 (by omega)
    refine wp.go [117] 40 fun W C hW hC => ?_
    (conv => whnf); simp (disch := omega) only [iadd_eq, isub_eq, imul_eq]
    rw [show 16 * ((a : Nat) : Int) + ((c : Nat) : Int) = ((16 * a + c : Nat) : Int) by omega]
    refine ⟨_, _, _, _, twF, rfl, rfl, ?_⟩
    refine ⟨_, _, _, twI rfl rfl, rfl, (by omega), gt_at (i) (by omega) (lenlt (j := 13) (i1) (show (i) < 64 by omega)), ?_⟩
    rw [i2.1 13 rfl, t3]
    refine ⟨_, _, _, _, twF, rfl, rfl, ?_⟩
    refine ⟨_, _, _, twI rfl rfl, rfl, (by omega), gt_at (i) (by omega) (lenlt (j := 10) (i1) (show (i) < 64 by omega)), ?_⟩
    rw [i2.1 10 rfl, t1]
    refine ⟨fun q => ?_, fun q => ?_⟩
    · have hp : plainB G a c = false := beq_ff (by omega)
      rw [hp] at hbr
      refine hW _ (use (lay false) ?_)
      rintro _ _ ⟨rfl, A2, rfl, k1, k2, k3, k4⟩
      exact ⟨rfl, A2, sc1, rfl, k1, (i2.wide rfl rfl).trans (k2.wide rfl rfl), by rw [hbr]; exact k3, (txKeep.refl (i2.1 40 rfl) (i2.1 41 rfl)).trans k4⟩
    · have hp : plainB G a c = true := beqN.mpr (by omega)
      rw [hp] at hbr
      refine hW _ (use (lay true) ?_)
      rintro _ _ ⟨rfl, A2, rfl, k1, k2, k3, k4⟩
      exact ⟨rfl, A2, sc1, rfl, k1, (i2.wide rfl rfl).trans (k2.wide rfl rfl), by rw [hbr]; exact k3, (txKeep.refl (i2.1 40 rfl) (i2.1 41 rfl)).trans k4⟩
  have loop : ∀ (j e : Nat) (A1 : Nat → List Int) (sc1 : Nat → Int), j + e = G.1 → lens A1 → Fr JN KN A A1 sc sc1 → txAt (A1 43) 0 (sc1 14) (accB G D a c e) → wp (d + 4) 383 (20, [some (vR (some M)), some (vI ((a : Nat) : Int)), some (vI ((c : Nat) : Int)), some (vI ((i : Nat) : Int)), some (vI ((e : Nat) : Int)), none, none], [], tw h0 M A1 sc1) (fun r h' => r = .inl none ∧ ∃ A' sc', h' = tw h0 M A' sc' ∧ lens A' ∧ Fr JT KN A A' sc sc' ∧ TxtAt A' (16 * a + c) (brT G D a c) ∧ txKeep A A' (16 * a + c)) := by
    intro j
    induction j with
    | zero =>
      intro e A1 sc1 hj i1 i2 i3
      obtain rfl : e = G.1 := by omega
      refine wp.go [20, 81, 87] 40 fun W C hW hC => ?_
      refine ⟨_, _, _, _, twF, rfl, rfl, ?_⟩
      refine ⟨_, _, _, twI rfl rfl, rfl, (by omega), gt_at (0) (by omega) (lenlt (j := 18) (i1) (show (0) < 17 by omega)), ?_⟩
      rw [i2.1 18 rfl, hM.1.2.1.1]
      refine ⟨fun _ => ?_, fun q => absurd q (by omega)⟩
      exact hW _ (tail A1 sc1 none none i1 i2 i3)
    | succ j ih =>
      intro e A1 sc1 hj i1 i2 i3
      have step : ∀ (A2 : Nat → List Int) (sc2 : Nat → Int), lens A2 → Fr JN KN A A2 sc sc2 → txAt (A2 43) 0 (sc2 14) (accB G D a c (e + 1)) → wp (d + 4) 383 (81, [some (vR (some M)), some (vI ((a : Nat) : Int)), some (vI ((c : Nat) : Int)), some (vI ((i : Nat) : Int)), some (vI ((e : Nat) : Int)), none, none], [], tw h0 M A2 sc2) (fun r h' => r = .inl none ∧ ∃ A' sc', h' = tw h0 M A' sc' ∧ lens A' ∧ Fr JT KN A A' sc sc' ∧ TxtAt A' (16 * a + c) (brT G D a c) ∧ txKeep A A' (16 * a + c)) := by
        intro A2 sc2 k1 k2 k3
        refine wp.go [20] 10 fun W C hW hC => ?_
        (conv => whnf); simp (disch := omega) only [iadd_eq, isub_eq, imul_eq]
        exact hW _ (ih (e + 1) A2 sc2 (by omega) k1 k2 k3)
      have hsu := accB_succ (G := G) (D := D) (a := a) (c := c) (e := e)
      have hbit : (bB G D a c).testBit e = (decide (e < G.1) && decide (inB D a c e)) := bits_bit _ _ _
      have hfar := hM.2 c e hc (by omega)
      refine wp.go [20, 81, 87] 60 fun W C hW hC => ?_
      refine ⟨_, _, _, _, twF, rfl, rfl, ?_⟩
      refine ⟨_, _, _, twI rfl rfl, rfl, (by omega), gt_at (0) (by omega) (lenlt (j := 18) (i1) (show (0) < 17 by omega)), ?_⟩
      rw [i2.1 18 rfl, hM.1.2.1.1]
      refine ⟨fun q => absurd q (by omega), fun _ => ?_⟩
      refine ⟨_, _, _, _, twF, rfl, rfl, ?_⟩
      (conv => whnf); simp (disch := omega) only [iadd_eq, isub_eq, imul_eq]
      refine ⟨_, _, _, twI rfl rfl, rfl, (by omega), gt_at (16 * a + c) (by omega) (lenlt (j := 20) (i1) (show (16 * a + c) < 272 by omega)), ?_⟩
      rw [i2.1 20 rfl, hb20]
      refine hC _ _ _ (use (wpd.up (show d + 1 ≤ d + 3 by omega) (has_spec (d := d) (by omega) (by omega))) ?_); rintro _ _ ⟨rfl, rfl⟩
      refine ⟨fun q => ?_, fun q => ?_⟩
      · have q2 := b0.mp q
        rw [hbit, Bool.and_eq_true, decide_eq_true_eq, decide_eq_true_eq] at q2
        refine hW _ (step A1 sc1 i1 i2 ?_)
        rw [hsu, if_neg (fun k => q2 ⟨by omega, k.1⟩)]
        exact i3
      · have q2 := b1.mp q
        rw [hbit, Bool.and_eq_true, decide_eq_true_eq, decide_eq_true_eq] at q2
        refine ⟨_, _, _, _, twF, rfl, rfl, ?_⟩
        (conv => whnf); simp (disch := omega) only [iadd_eq, isub_eq, imul_eq]
        refine ⟨_, _, _, twI rfl rfl, rfl, (by omega), gt_at (16 * c + e) (by omega) (lenlt (j := 25) (i1) (show (16 * c + e) < 256 by omega)), ?_⟩
        rw [i2.1 25 rfl, hfar]
        refine ⟨_, _, _, _, twF, rfl, rfl, ?_⟩
        refine ⟨_, _, _, twI rfl rfl, rfl, (by omega), gt_at (i) (by omega) (lenlt (j := 13) (i1) (show (i) < 64 by omega)), ?_⟩
        rw [i2.1 13 rfl, t3]
        (conv => whnf); simp (disch := omega) only [iadd_eq, isub_eq, imul_eq]
        refine ⟨fun q3 => ?_, fun q3 => ?_⟩
        · refine hW _ (step A1 sc1 i1 i2 ?_)
          rw [hsu, if_neg (fun k => q3 (by have := k.2; omega))]
          exact i3
        · have q4 : D c e + 1 = tallT (TT G a c) := by omega
          rw [if_pos ⟨q2.2, q4⟩] at hsu
          have hend : e ∈ endsB G D a c := ends_mem.mpr ⟨by omega, q2.2, q4⟩
          obtain ⟨w1, w2, w3⟩ := wayB_len hG.1 hD h hend
          obtain ⟨o1, o2⟩ := accB_ok (e := e) hG.1 hD h (by omega)
          have hM1 : SeenM A1 sc1 tab G D := hM.keepN i1 (i2.wide rfl rfl)
          refine ⟨_, _, _, twF, rfl, ?_⟩
          refine hC _ _ _ (use (writesChain_spec (d := d) (a := c) (b := e) (fr := ((a : Nat) : Int)) hG hD hM1 hc (by omega) (fun k hk x hx => ?_) w1 (by omega) i3 o1 (by omega)) ?_)
          · have hx2 := hn_mem hG.1 hx
            have hls := hn_less hG.1 hD (a := a) (c := c) (b := e) (fr := ((a : Nat) : Int)) (Or.inl ⟨h, q2.2, rfl⟩) hc (by omega) rfl hk hx
            rw [← bsz_eq hG.1 hD h] at hls
            have := hT _ x hx2 hls
            unfold TxtAt at this
            rw [i2.1 40 rfl, i2.1 41 rfl]
            obtain ⟨b1, b2, b3⟩ := brT_len hG.1 hD _ x hx2
            have := bsz_lt hG.1 hD hx2
            exact ⟨by assumption, b1, by omega⟩
          · rintro _ _ ⟨rfl, A2, sc2, rfl, k1, k2, k3⟩
            rw [← hsu] at k3
            exact hW _ (step A2 sc2 k1 (i2.trans k2) k3)
  refine wp.go [20] 40 fun W C hW hC => ?_
  refine ⟨_, _, _, _, twF, rfl, rfl, ?_⟩
  (conv => whnf); simp (disch := omega) only [iadd_eq, isub_eq, imul_eq]
  refine ⟨_, _, _, twI rfl rfl, rfl, (by omega), gt_at (16 * a + c) (by omega) (lenlt (j := 19) (hA) (show (16 * a + c) < 272 by omega)), ?_⟩
  rw [s2]
  (refine ⟨_, _, _, twF, rfl, (Nat.le_of_ble_eq_true rfl), ?_⟩; rw [twP14])
  refine hW _ (loop G.1 0 A (up sc 14 0) (by omega) hA (Fr.upS rfl) ⟨up_eq _ _ _, fun i x hi => ?_⟩)
  exact absurd hi (by simp [accB])
end BRANCH2
