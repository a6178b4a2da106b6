section NAMES3
variable {d : Nat} {h0 : AH} {M : Nat} {A : Nat → List Int} {sc : Nat → Int} {t : List Int}
def NSt (A : Nat → List Int) (sc : Nat → Int) (t : List Int) (k : Nat) (G : Gr) (st : List Op) : Prop := RD A sc t k G ∧ stkN A st ∧ sc 4 = ((st.length - 1 : Nat) : Int) ∧ nOk t k G st
abbrev nPost (h0 : AH) (M : Nat) (A : Nat → List Int) (sc : Nat → Int) (t : List Int) (z : Nat ⊕ (Nat × Gr × List Op)) : Rs → AH → Prop := fun r h' => match z with
  | .inl e => rdBad h0 M A sc e r h'
  | .inr z => r = .inl (some (vI 1)) ∧ ∃ A' sc', h' = tw h0 M A' sc' ∧ Fr JR KR A A' sc sc' ∧ NSt A' sc' t z.1 z.2.1 z.2.2
theorem readsBranch_spec {k : Nat} {G : Gr} {st : List Op} (h : NSt A sc t k G st) (hc : chr t k = 45) : wp (d + 6) 301 (0, ent 4 [vR (some M)], [], tw h0 M A sc) (nPost h0 M A sc t (nStep t k G st)) := by
  obtain ⟨⟨hA, hT, h2, h6⟩, hs, h4, hb⟩ := h
  have hstep := fun z => nstep_ok (z := z) hb
  obtain ⟨b1', b2', b3', b4', b5'⟩ := id hb
  have hlen := hT.2.1
  have hn := b3'.1.2.1
  have hl7 : (A 7).length = 20 := by rw [hA.eq 7]; rfl
  have hl8 : (A 8).length = 20 := by rw [hA.eq 8]; rfl
  have hl9 : (A 9).length = 20 := by rw [hA.eq 9]; rfl
  have hTu : ∀ x, tapeOk (A 5) (up sc 2 x 1) t := fun x => by rw [upn_ne _ _ (by decide)]; exact hT
  have h4u : ∀ x, up sc 2 x 4 = ((st.length - 1 : Nat) : Int) := fun x => by rw [upn_ne _ _ (by decide)]; exact h4
  cases st with
  | nil => simp at b2'
  | cons x r =>
  rw [List.length_cons] at b5'
  have hop : (x :: r).length - 1 = r.length := by rw [List.length_cons]; omega
  rw [hop] at h4u h4
  obtain ⟨x1, x2⟩ := b4' x List.mem_cons_self
  obtain ⟨s1, s2, s3⟩ := stkN_top hs
  have hbad : ∀ (q p : Nat) (A' : Nat → List Int) (sc' : Nat → Int), q ≤ 7 → p ≤ 1000 → lens A' → Fr JR KR A A' sc sc' → nStep t k G (x :: r) = .inl (8 * p + q) → wp (d + 5) 294 (0, ent 3 [vR (some M), vI ((q : Nat) : Int), vI ((p : Nat) : Int)], [], tw h0 M A' sc') (fun w h' => (∃ v, w = .inl (some (vI v)) ∧ v = 0) ∧ nPost h0 M A sc t (nStep t k G (x :: r)) w h') := by
    intro q p A' sc' hq hp hA' hF e
    rw [e]
    refine use (wpd.up (show d + 1 ≤ d + 5 by omega) (bad_at (d := d) (k := q) (p := p) hA' hq hp)) fun w h' z => ?_
    exact ⟨⟨0, z.1, rfl⟩, z.of hF⟩
  have hk1 : k < t.length := chr_in (t := t) (k := k) (by rw [hc]; decide)
  by_cases c1 : isDig t (k + 1)
  · have e1 : nStep t k G (x :: r) = (if ¬ (x.2.2 ≤ (digs t (k + 1) 0).2 ∧ (digs t (k + 1) 0).2 ≤ x.2.1) then .inl (8 * (k + 1) + 2)
        else if chr t (digs t (k + 1) 0).1 ≠ 58 then .inl (8 * (digs t (k + 1) 0).1 + 1)
        else if chr t ((digs t (k + 1) 0).1 + 1) ≠ 40 then (match lenR t ((digs t (k + 1) 0).1 + 1) G ((x.1 + (digs t (k + 1) 0).2 - 1 : Nat) : Int) true with
          | .inl e => .inl e
          | .inr y => .inr (y.1, y.2, (x.1, x.2.1, (digs t (k + 1) 0).2) :: r))
        else if deg G (x.1 + (digs t (k + 1) 0).2 - 1) = 4 then .inl (8 * ((digs t (k + 1) 0).1 + 1) + 3)
        else (match lenR t ((digs t (k + 1) 0).1 + 2) G ((x.1 + (digs t (k + 1) 0).2 - 1 : Nat) : Int) false with
          | .inl e => .inl e
          | .inr y => .inr (y.1, y.2, (G.1, y.2.1 - G.1, 1) :: (x.1, x.2.1, (digs t (k + 1) 0).2) :: r))) := by
      unfold nStep
      rw [if_pos hc, if_neg (Classical.not_not.mpr c1)]
      dsimp only
      cases lenR t ((digs t (k + 1) 0).1 + 1) G ((x.1 + (digs t (k + 1) 0).2 - 1 : Nat) : Int) true <;> cases lenR t ((digs t (k + 1) 0).1 + 2) G ((x.1 + (digs t (k + 1) 0).2 - 1 : Nat) : Int) false <;> rfl
    have hd : k + 1 < (digs t (k + 1) 0).1 ∧ (digs t (k + 1) 0).1 ≤ t.length := by
      have := chr_in (t := t) (k := k + 1) (by have := c1.1; omega)
      rw [digs_dig c1]
      have := digs_le (t := t) (t.length - (k + 1 + 1)) (k + 1 + 1) (10 * 0 + (chr t (k + 1) - 48).toNat) (by omega)
      omega
    generalize hz : digs t (k + 1) 0 = z at *
    obtain ⟨e, p⟩ := z
    dsimp only at e1 hd
    refine wp.go [] 160 fun W C hW hC => ?_
    refine ⟨_, _, _, _, twF, rfl, rfl, ?_⟩
    rw [h2]
    (conv => whnf); simp (disch := omega) only [iadd_eq, isub_eq, imul_eq]
    (refine ⟨_, _, _, twF, rfl, (Nat.le_of_ble_eq_true rfl), ?_⟩; rw [twP2])
    rw [show ((k : Nat) : Int) + 1 = ((k + 1 : Nat) : Int) by omega]
    refine ⟨_, _, _, _, twF, rfl, rfl, ?_⟩
    rw [up_eq]
    refine ⟨_, _, _, twF, rfl, ?_⟩
    refine hC _ _ _ (use (wpd.up (show d + 2 ≤ d + 5 by omega) (isDigit_spec (d := d) (k := k + 1) hA (hTu _) (up_eq _ _ _))) ?_); rintro _ _ ⟨rfl, rfl⟩
    refine ⟨fun _ => ?_, fun c => absurd c1 (b0.mp c)⟩
    refine ⟨_, _, _, twF, rfl, ?_⟩
    refine hC _ _ _ (use (wpd.up (show d + 3 ≤ d + 5 by omega) (digits_spec (d := d) hA hT (k := k + 1) hk1)) ?_)
    rintro _ _ ⟨v, rfl, hv, rfl⟩
    rw [hz] at hv ⊢
    dsimp only at hv ⊢
    refine ⟨_, _, _, _, twF, rfl, rfl, ?_⟩
    refine ⟨_, _, _, _, twF, rfl, rfl, ?_⟩
    rw [h4u]
    refine ⟨_, _, _, twI rfl rfl, rfl, (by omega), gt_at (r.length) (by omega) (lenlt (j := 9) (hA) (show (r.length) < 20 by omega)), ?_⟩
    rw [s3]
    refine ⟨_, _, _, _, twF, rfl, rfl, ?_⟩
    refine ⟨_, _, _, _, twF, rfl, rfl, ?_⟩
    rw [h4u]
    refine ⟨_, _, _, twI rfl rfl, rfl, (by omega), gt_at (r.length) (by omega) (lenlt (j := 8) (hA) (show (r.length) < 20 by omega)), ?_⟩
    rw [s2]
    refine hC _ _ _ (use (wpd.up (show d + 1 ≤ d + 5 by omega) (isIn_s (d := d) _ _ _ _)) ?_); rintro _ _ ⟨rfl, rfl⟩
    refine ⟨fun c2 => ?_, fun c2 => ?_⟩
    · have c2 := b1.mp c2
      obtain rfl : v = p := by rcases hv with rfl | hv <;> omega
      rw [if_neg (Classical.not_not.mpr (by omega))] at e1
      refine ⟨_, _, _, _, twF, rfl, rfl, ?_⟩
      refine ⟨_, _, _, _, twF, rfl, rfl, ?_⟩
      rw [h4u]
      (refine ⟨_, twI rfl rfl, (by omega), (ilt (r.length) (by omega) (lenlt (j := 9) (hA) (show (r.length) < 20 by omega))), ?_⟩; rw [twSetI rfl rfl]; try rw [Int.toNat_natCast])
      have hA1 : lens (up A 9 ((A 9).set r.length ((v : Nat) : Int))) := hA.up (by rw [List.length_set, hl9]; rfl)
      have hT1 : ∀ y, tapeOk (up A 9 ((A 9).set r.length ((v : Nat) : Int)) 5) (up sc 2 y 1) t := fun y => by rw [upn_ne _ _ (by decide), upn_ne _ _ (by decide)]; exact hT
      refine ⟨_, _, _, _, twF, rfl, rfl, ?_⟩
      rw [up_eq]
      refine ⟨_, _, _, twF, rfl, ?_⟩
      refine hC _ _ _ (use (wpd.up (show d + 1 ≤ d + 5 by omega) (byteAt_spec (d := d) (k := e) hA1 (hT1 _))) ?_); rintro _ _ ⟨rfl, rfl⟩
      refine ⟨fun c3 => ?_, fun c3 => ?_⟩
      · rw [if_neg (Classical.not_not.mpr c3)] at e1
        have he := chr_in (t := t) (k := e) (by rw [c3]; decide)
        refine ⟨_, _, _, _, twF, rfl, rfl, ?_⟩
        rw [up_eq]
        (conv => whnf); simp (disch := omega) only [iadd_eq, isub_eq, imul_eq]
        (refine ⟨_, _, _, twF, rfl, (Nat.le_of_ble_eq_true rfl), ?_⟩; rw [twP2])
        rw [up_up, show ((e : Nat) : Int) + 1 = ((e + 1 : Nat) : Int) by omega]
        refine ⟨_, _, _, _, twF, rfl, rfl, ?_⟩
        refine ⟨_, _, _, _, twF, rfl, rfl, ?_⟩
        rw [h4u]
        refine ⟨_, _, _, twI rfl rfl, rfl, (by omega), gt_at (r.length) (by omega) (lenlt (j := 7) (hA1) (show (r.length) < 20 by omega)), ?_⟩
        rw [upn_ne _ _ (show 7 ≠ 9 by decide), s1]
        (conv => whnf); simp (disch := omega) only [iadd_eq, isub_eq, imul_eq]
        rw [show ((x.1 : Nat) : Int) + ((v : Nat) : Int) - 1 = ((x.1 + v - 1 : Nat) : Int) by omega]
        refine ⟨_, _, _, _, twF, rfl, rfl, ?_⟩
        rw [up_eq]
        refine ⟨_, _, _, twF, rfl, ?_⟩
        refine hC _ _ _ (use (wpd.up (show d + 1 ≤ d + 5 by omega) (byteAt_spec (d := d) (k := e + 1) hA1 (hT1 _))) ?_); rintro _ _ ⟨rfl, rfl⟩
        have h61 : isRow (up A 9 ((A 9).set r.length ((v : Nat) : Int)) 6) 0 G := by rw [upn_ne _ _ (by decide)]; exact h6
        refine ⟨fun c4 => ?_, fun c4 => ?_⟩
        · /- a chain in brackets -/
          rw [if_neg (Classical.not_not.mpr c4)] at e1
          have he1 := chr_in (t := t) (k := e + 1) (by rw [c4]; decide)
          refine ⟨_, _, _, twF, rfl, ?_⟩
          refine hC _ _ _ (use (wpd.up (show d + 2 ≤ d + 5 by omega) (degRead_spec (d := d) hA1 hn h61 (c := x.1 + v - 1) (by omega))) ?_); rintro _ _ ⟨rfl, rfl⟩
          refine ⟨fun c5 => ?_, fun c5 => ?_⟩
          · have c6 : deg G (x.1 + v - 1) ≠ 4 := by intro q; exact c5 (by rw [q]; rfl)
            rw [if_neg c6] at e1
            refine ⟨_, _, _, _, twF, rfl, rfl, ?_⟩
            rw [up_eq]
            (conv => whnf); simp (disch := omega) only [iadd_eq, isub_eq, imul_eq]
            (refine ⟨_, _, _, twF, rfl, (Nat.le_of_ble_eq_true rfl), ?_⟩; rw [twP2])
            rw [up_up, show ((e + 1 : Nat) : Int) + 1 = ((e + 2 : Nat) : Int) by omega]
            refine ⟨_, _, _, _, twF, rfl, rfl, ?_⟩
            rw [h4u]
            (conv => whnf); simp (disch := omega) only [iadd_eq, isub_eq, imul_eq]
            (refine ⟨_, _, _, twF, rfl, (Nat.le_of_ble_eq_true rfl), ?_⟩; rw [twP4])
            rw [show ((r.length : Nat) : Int) + 1 = ((r.length + 1 : Nat) : Int) by omega]
            refine ⟨_, _, _, twF, rfl, ?_⟩
            have hR : RD (up A 9 ((A 9).set r.length ((v : Nat) : Int))) (up (up sc 2 ((e + 2 : Nat) : Int)) 4 ((r.length + 1 : Nat) : Int)) t (e + 2) G := ⟨hA1, by rw [upn_ne _ _ (show 1 ≠ 4 by decide)]; exact hT1 _, by rw [upn_ne _ _ (show 2 ≠ 4 by decide), up_eq], h61⟩
            refine hC _ _ _ (use (opensChain_spec (d := d) (op := r.length + 1) (to := ((x.1 + v - 1 : Nat) : Int)) hR he1 (Or.inr ⟨b3', by omega, by omega, fun _ => by rw [Int.toNat_natCast]; exact c6⟩) (up_eq _ _ _) (by omega)) ?_)
            intro w h' hq
            cases e2 : lenR t (e + 2) G ((x.1 + v - 1 : Nat) : Int) false with
            | inl y =>
              rw [e2] at hq e1
              dsimp only at hq e1
              rw [e1]
              obtain ⟨rfl, hq⟩ := hq
              exact ⟨Or.inl rfl, rdBad.of (((Fr.upA rfl).trans (Fr.upS rfl)).trans (Fr.upS rfl)) ⟨rfl, hq⟩⟩
            | inr y =>
              rw [e2] at hq e1
              dsimp only at hq e1
              have hok := hstep _ e1
              rw [e1]
              obtain ⟨rfl, X, rfl, hX, hXr⟩ := hq
              rw [up_eq, upn_ne A _ (show 7 ≠ 9 by decide), upn_ne A _ (show 8 ≠ 9 by decide)]
              refine ⟨Or.inr rfl, rfl, _, _, rfl, ((Fr.upA (j := 9) rfl).trans ((((Fr.upA rfl).trans (Fr.upA rfl)).trans (Fr.upA rfl)).trans (Fr.upA rfl))).trans (((Fr.upS rfl).trans (Fr.upS rfl)).trans (Fr.upS rfl)), ⟨?_, ?_, up_eq _ _ _, ?_⟩, ?_, ?_, hok.2⟩
              · exact (((hA1.up (by rw [hX]; rfl)).up (by rw [List.length_set, hl7]; rfl)).up (by rw [List.length_set, hl8]; rfl)).up (by rw [List.length_set, List.length_set, hl9]; rfl)
              · rw [upn_ne _ _ (show 5 ≠ 9 by decide), upn_ne _ _ (show 5 ≠ 8 by decide), upn_ne _ _ (show 5 ≠ 7 by decide), upn_ne _ _ (show 5 ≠ 6 by decide), upn_ne _ _ (show 5 ≠ 9 by decide), upn_ne _ _ (show 1 ≠ 2 by decide), upn_ne _ _ (show 1 ≠ 4 by decide), upn_ne _ _ (show 1 ≠ 2 by decide)]; exact hT
              · rw [upn_ne _ _ (show 6 ≠ 9 by decide), upn_ne _ _ (show 6 ≠ 8 by decide), upn_ne _ _ (show 6 ≠ 7 by decide), up_eq]; exact hXr
              · have g7 : ∀ A0 : Nat → List Int, ∀ a b c, up (up (up A0 7 a) 8 b) 9 c 7 = a := fun A0 a b c => by rw [upn_ne _ _ (by decide), upn_ne _ _ (by decide), up_eq]
                have g8 : ∀ A0 : Nat → List Int, ∀ a b c, up (up (up A0 7 a) 8 b) 9 c 8 = b := fun A0 a b c => by rw [upn_ne _ _ (by decide), up_eq]
                refine stkN_cons (stkN_cons (stkN_keep (stkN_tail hs) (fun i hi => ?_) (fun i hi => ?_) (fun i hi => ?_)) ?_) ?_
                · rw [g7, gt_set (by omega), if_neg (by omega)]
                · rw [g8, gt_set (by omega), if_neg (by omega)]
                · rw [up_eq, gt_set (by rw [List.length_set]; omega), if_neg (by omega), gt_set (by omega), if_neg (by omega)]
                · rw [g7, g8, up_eq, gt_set (by omega), if_neg (by omega), gt_set (by omega), if_neg (by omega), gt_set (by rw [List.length_set]; omega), if_neg (by omega), gt_set (by omega), if_pos rfl]
                  exact ⟨s1, s2, rfl⟩
                · rw [List.length_cons, g7, g8, up_eq, gt_set (by omega), if_pos rfl, gt_set (by omega), if_pos rfl, gt_set (by rw [List.length_set]; omega), if_pos rfl]
                  exact ⟨rfl, rfl, rfl⟩
              · rw [upn_ne _ _ (show 4 ≠ 2 by decide), up_eq]
                rfl
          · have c6 : deg G (x.1 + v - 1) = 4 := by have : ((deg G (x.1 + v - 1) : Nat) : Int) = 4 := c5; omega
            rw [if_pos c6] at e1
            refine ⟨_, _, _, _, twF, rfl, rfl, ?_⟩
            rw [up_eq]
            refine ⟨_, _, _, twF, rfl, ?_⟩
            refine hC _ _ _ (use (hbad 3 (e + 1) _ _ (by decide) (by omega) hA1 ((Fr.upA rfl).trans (Fr.upS rfl)) e1) ?_)
            rintro w h' ⟨⟨y, rfl, rfl⟩, hq⟩
            exact ⟨Or.inl rfl, hq⟩
        · rw [if_pos c4] at e1
          refine ⟨_, _, _, twF, rfl, ?_⟩
          have hR : RD (up A 9 ((A 9).set r.length ((v : Nat) : Int))) (up sc 2 ((e + 1 : Nat) : Int)) t (e + 1) G := ⟨hA1, hT1 _, up_eq _ _ _, h61⟩
          refine hC _ _ _ (use (wpd.up (show d + 4 ≤ d + 5 by omega) (readsLength_spec (d := d) (isB := true) (to := ((x.1 + v - 1 : Nat) : Int)) hR he (Or.inr ⟨b3', by omega, by omega, fun q => by cases q⟩))) ?_)
          intro w h' hq
          cases e2 : lenR t (e + 1) G ((x.1 + v - 1 : Nat) : Int) true with
          | inl y =>
            rw [e2] at hq e1
            dsimp only at hq e1
            rw [e1]
            obtain ⟨rfl, hq⟩ := hq
            exact ⟨Or.inl rfl, rdBad.of ((Fr.upA rfl).trans (Fr.upS rfl)) ⟨rfl, hq⟩⟩
          | inr y =>
            rw [e2] at hq e1
            dsimp only at hq e1
            have hok := hstep _ e1
            rw [e1]
            obtain ⟨rfl, X, rfl, hX, hXr⟩ := hq
            refine ⟨Or.inr rfl, rfl, _, _, rfl, ((Fr.upA rfl).trans (Fr.upA rfl)).trans ((Fr.upS rfl).trans (Fr.upS rfl)), ⟨hA1.up (by rw [hX]; rfl), ?_, up_eq _ _ _, ?_⟩, ?_, ?_, hok.2⟩
            · rw [upn_ne _ _ (show 5 ≠ 6 by decide), upn_ne _ _ (show 5 ≠ 9 by decide), upn_ne _ _ (show 1 ≠ 2 by decide), upn_ne _ _ (show 1 ≠ 2 by decide)]; exact hT
            · rw [up_eq]; exact hXr
            · refine stkN_cons (stkN_keep (stkN_tail hs) (fun i hi => ?_) (fun i hi => ?_) (fun i hi => ?_)) ?_
              · rw [upn_ne _ _ (show 7 ≠ 6 by decide), upn_ne _ _ (show 7 ≠ 9 by decide)]
              · rw [upn_ne _ _ (show 8 ≠ 6 by decide), upn_ne _ _ (show 8 ≠ 9 by decide)]
              · rw [upn_ne _ _ (show 9 ≠ 6 by decide), up_eq, gt_set (by omega), if_neg (by omega)]
              · rw [upn_ne _ _ (show 7 ≠ 6 by decide), upn_ne _ _ (show 7 ≠ 9 by decide), upn_ne _ _ (show 8 ≠ 6 by decide), upn_ne _ _ (show 8 ≠ 9 by decide), upn_ne _ _ (show 9 ≠ 6 by decide), up_eq, gt_set (by omega), if_pos rfl]
                exact ⟨s1, s2, rfl⟩
            · rw [upn_ne _ _ (show 4 ≠ 2 by decide), h4u]
              rfl
      · rw [if_pos c3] at e1
        refine ⟨_, _, _, _, twF, rfl, rfl, ?_⟩
        rw [up_eq]
        refine ⟨_, _, _, twF, rfl, ?_⟩
        refine hC _ _ _ (use (hbad 1 e _ _ (by decide) (by omega) hA1 ((Fr.upA rfl).trans (Fr.upS rfl)) e1) ?_)
        rintro w h' ⟨⟨y, rfl, rfl⟩, hq⟩
        exact ⟨Or.inl rfl, hq⟩
    · have c2 := b0.mp c2
      have c3 : ¬ (x.2.2 ≤ p ∧ p ≤ x.2.1) := by rcases hv with rfl | hv <;> omega
      rw [if_pos c3] at e1
      refine ⟨_, _, _, twF, rfl, ?_⟩
      refine hC _ _ _ (use (hbad 2 (k + 1) _ _ (by decide) (by omega) hA (Fr.upS rfl) e1) ?_)
      rintro w h' ⟨⟨y, rfl, rfl⟩, hq⟩
      exact ⟨Or.inl rfl, hq⟩
  · have e1 : nStep t k G (x :: r) = .inl (8 * (k + 1) + 1) := by
      unfold nStep
      rw [if_pos hc, if_pos c1]
    refine wp.go [] 60 fun W C hW hC => ?_
    refine ⟨_, _, _, _, twF, rfl, rfl, ?_⟩
    rw [h2]
    (conv => whnf); simp (disch := omega) only [iadd_eq, isub_eq, imul_eq]
    (refine ⟨_, _, _, twF, rfl, (Nat.le_of_ble_eq_true rfl), ?_⟩; rw [twP2])
    rw [show ((k : Nat) : Int) + 1 = ((k + 1 : Nat) : Int) by omega]
    refine ⟨_, _, _, _, twF, rfl, rfl, ?_⟩
    rw [up_eq]
    refine ⟨_, _, _, twF, rfl, ?_⟩
    refine hC _ _ _ (use (wpd.up (show d + 2 ≤ d + 5 by omega) (isDigit_spec (d := d) (k := k + 1) hA (hTu _) (up_eq _ _ _))) ?_); rintro _ _ ⟨rfl, rfl⟩
    refine ⟨fun c => absurd (b1.mp c) c1, fun _ => ?_⟩
    refine ⟨_, _, _, _, twF, rfl, rfl, ?_⟩
    rw [up_eq]
    refine ⟨_, _, _, twF, rfl, ?_⟩
    refine hC _ _ _ (use (hbad 1 (k + 1) _ _ (by decide) (by omega) hA (Fr.upS rfl) e1) ?_)
    rintro w h' ⟨⟨y, rfl, rfl⟩, hq⟩
    exact ⟨Or.inl rfl, hq⟩
end NAMES3
