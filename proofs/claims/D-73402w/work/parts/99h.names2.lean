section NAMES2
variable {d : Nat} {h0 : AH} {M : Nat} {A : Nat → List Int} {sc : Nat → Int} {t : List Int}
/-- a failed reading -/
abbrev rdBad (h0 : AH) (M : Nat) (A : Nat → List Int) (sc : Nat → Int) (e : Nat) : Rs → AH → Prop := fun r h' => r = .inl (some (vI 0)) ∧ ∃ A' sc', h' = tw h0 M A' sc' ∧ lens A' ∧ Fr JR KR A A' sc sc' ∧ sc' 3 = ((e : Nat) : Int)
theorem bad_at {k p : Nat} (hA : lens A) (hk : k ≤ 7) (hp : p ≤ 1000) : wp (d + 1) 294 (0, ent 3 [vR (some M), vI ((k : Nat) : Int), vI ((p : Nat) : Int)], [], tw h0 M A sc) (rdBad h0 M A sc (8 * p + k)) := by
  refine wpd.mono ?_ _ _ _ (fails_spec (d := d) (k := k) (p := p) hk hp)
  rintro r h' ⟨rfl, rfl⟩
  exact ⟨rfl, _, _, rfl, hA, Fr.upS rfl, up_eq _ _ _⟩
theorem rdBad.of {A' : Nat → List Int} {sc' : Nat → Int} {e : Nat} {r : Rs} {h' : AH} (hF : Fr JR KR A A' sc sc') (h : rdBad h0 M A' sc' e r h') : rdBad h0 M A sc e r h' := by
  obtain ⟨h1, A'', sc'', h2, h3, h4, h5⟩ := h
  exact ⟨h1, A'', sc'', h2, h3, hF.trans h4, h5⟩
abbrev lenTo (G : Gr) (to : Int) (isB : Bool) : Prop := (G = gNil ∧ to = -1 ∧ isB = false) ∨ (G.ok ∧ 0 ≤ to ∧ to < ((G.1 : Nat) : Int) ∧ (isB = false → deg G to.toNat ≠ 4))
theorem readsLength_spec {k : Nat} {G : Gr} {to : Int} {isB : Bool} (h : RD A sc t k G) (hk : k ≤ t.length) (hto : lenTo G to isB) :
    wp (d + 4) 300 (0, ent 5 [vR (some M), vI to, vI (z01 isB)], [], tw h0 M A sc) (fun r h' => match lenR t k G to isB with
      | .inl e => rdBad h0 M A sc e r h'
      | .inr y => r = .inl (some (vI 1)) ∧ ∃ X, h' = tw h0 M (up A 6 X) (up sc 2 ((y.1 : Nat) : Int)) ∧ X.length = 17 ∧ isRow X 0 y.2) := by
  obtain ⟨hA, hT, h2, h6⟩ := h
  have hlen := hT.2.1
  have hn : G.1 ≤ 16 := by
    rcases hto with ⟨rfl, -⟩ | ⟨q, -⟩
    · exact Nat.zero_le _
    · exact q.1.2.1
  have hsc : up sc 2 ((k : Nat) : Int) = sc := by rw [← h2]; exact upn_self
  have hfail : ∀ (x : Nat) (A' : Nat → List Int) (sc' : Nat → Int), x ≤ 7 → Fr JR KR A A' sc sc' → lens A' → lenR t k G to isB = .inl (8 * k + x) → wp (d + 1) 294 (0, ent 3 [vR (some M), vI ((x : Nat) : Int), vI ((k : Nat) : Int)], [], tw h0 M A' sc') (fun r h' => match lenR t k G to isB with
      | .inl e => rdBad h0 M A sc e r h'
      | .inr y => r = .inl (some (vI 1)) ∧ ∃ X, h' = tw h0 M (up A 6 X) (up sc 2 ((y.1 : Nat) : Int)) ∧ X.length = 17 ∧ isRow X 0 y.2) := by
    intro x A' sc' hx hF hA' e
    rw [e]
    exact use (bad_at (d := d) (k := x) (p := k) hA' hx (by omega)) fun r h' q => q.of hF
  have hTu : ∀ x, tapeOk (A 5) (up sc 2 x 1) t := fun x => by rw [upn_ne _ _ (by decide)]; exact hT
  have z0 : ∀ (r : Rs) (h' : AH) (e : Nat), lenR t k G to isB = .inl e → (fun r h' => match lenR t k G to isB with
      | .inl e => rdBad h0 M A sc e r h'
      | .inr y => r = .inl (some (vI 1)) ∧ ∃ X, h' = tw h0 M (up A 6 X) (up sc 2 ((y.1 : Nat) : Int)) ∧ X.length = 17 ∧ isRow X 0 y.2) r h' → ∃ v, r = .inl (some (vI v)) ∧ v = 0 := by
    intro r h' e he q
    rw [he] at q
    exact ⟨0, q.1, rfl⟩
  refine wp.go [68] 60 fun W C hW hC => ?_
  refine ⟨_, _, _, _, twF, rfl, rfl, ?_⟩
  rw [h2]
  refine ⟨_, _, _, twF, rfl, ?_⟩
  refine hC _ _ _ (use (wpd.up (show d + 2 ≤ d + 3 by omega) (isDigit_spec (d := d) (k := k) hA hT h2)) ?_); rintro _ _ ⟨rfl, rfl⟩
  refine ⟨fun c1 => ?_, fun c1 => ?_⟩
  · have c1 := b1.mp c1
    refine ⟨_, _, _, twF, rfl, ?_⟩
    have hdg := digits_spec (d := d) (h0 := h0) (M := M) hA hT hk
    rw [hsc] at hdg
    refine hC _ _ _ (use hdg ?_)
    rintro _ _ ⟨v, rfl, hv, rfl⟩
    refine hC _ _ _ (use (wpd.up (show d + 1 ≤ d + 3 by omega) (isIn_s (d := d) _ _ _ _)) ?_); rintro _ _ ⟨rfl, rfl⟩
    refine ⟨fun c2 => ?_, fun c2 => ?_⟩
    · have c2 := b1.mp c2
      obtain rfl : v = (digs t k 0).2 := by rcases hv with rfl | hv <;> omega
      have c3 : 1 ≤ (digs t k 0).2 ∧ (digs t k 0).2 ≤ 16 := by omega
      have tail : ¬ (isB = true ∧ deg G to.toNat = 4) → wp (d + 4) 300 (68, [some (vR (some M)), some (vI to), some (vI (z01 isB)), some (vI ((k : Nat) : Int)), some (vI (((digs t k 0).2 : Nat) : Int))], [], tw h0 M A (up sc 2 (((digs t k 0).1 : Nat) : Int))) (fun r h' => match lenR t k G to isB with
      | .inl e => rdBad h0 M A sc e r h'
      | .inr y => r = .inl (some (vI 1)) ∧ ∃ X, h' = tw h0 M (up A 6 X) (up sc 2 ((y.1 : Nat) : Int)) ∧ X.length = 17 ∧ isRow X 0 y.2) := by
        intro c4
        have hl : lenR t k G to isB = (if 16 < G.1 + (digs t k 0).2 then .inl (8 * k + 4) else .inr ((digs t k 0).1, gAdds G to (digs t k 0).2)) := by
          unfold lenR
          rw [if_neg (Classical.not_not.mpr c1), if_neg (Classical.not_not.mpr c3), if_neg c4]
        refine wp.go [] 60 fun W C hW hC => ?_
        refine ⟨_, _, _, _, twF, rfl, rfl, ?_⟩
        refine ⟨_, _, _, twI rfl rfl, rfl, (by omega), gt_at (0) (by omega) (lenlt (j := 6) (hA) (show (0) < 17 by omega)), ?_⟩
        rw [h6.1]
        (conv => whnf); simp (disch := omega) only [iadd_eq, isub_eq, imul_eq]
        refine ⟨fun c5 => ?_, fun c5 => ?_⟩
        · rw [if_neg (by omega)] at hl
          rw [hl]
          have hrd : rdTo G to := by
            rcases hto with ⟨q1, q2, -⟩ | ⟨q1, q2, q3, q4⟩
            · exact Or.inl ⟨q1, q2⟩
            · refine Or.inr ⟨q1, q2, q3, ?_⟩
              cases isB with
              | false => exact q4 rfl
              | true => exact fun q => c4 ⟨rfl, q⟩
          refine ⟨_, _, _, twF, rfl, ?_⟩
          refine hC _ _ _ (use (wpd.up (show d + 1 ≤ d + 3 by omega) (adds_spec (d := d) (n := (digs t k 0).2) hA h6 hrd (by omega))) ?_)
          rintro _ _ ⟨rfl, X, rfl, hX, hXr⟩
          exact ⟨Or.inr rfl, rfl, X, rfl, hX, hXr⟩
        · rw [if_pos (by omega)] at hl
          refine ⟨_, _, _, twF, rfl, ?_⟩
          refine hC _ _ _ (use (wpd.up (show d + 1 ≤ d + 3 by omega) (hfail 4 _ _ (by decide) (Fr.upS rfl) hA hl)) ?_)
          intro r h' q
          obtain ⟨v, rfl, rfl⟩ := z0 r h' _ hl q
          exact ⟨Or.inl rfl, q⟩
      cases hB : isB with
      | false =>
        subst hB
        refine ⟨fun _ => ?_, fun c => absurd rfl c⟩
        exact hW _ (tail (by simp))
      | true =>
        subst hB
        refine ⟨fun c => absurd c (by decide), fun _ => ?_⟩
        have hg : G.ok ∧ 0 ≤ to ∧ to < ((G.1 : Nat) : Int) := by
          rcases hto with ⟨-, -, q⟩ | ⟨q1, q2, q3, q4⟩
          · cases q
          · exact ⟨q1, q2, q3⟩
        obtain ⟨c', rfl⟩ : ∃ c' : Nat, to = (c' : Int) := ⟨to.toNat, by omega⟩
        refine ⟨_, _, _, twF, rfl, ?_⟩
        refine hC _ _ _ (use (wpd.up (show d + 2 ≤ d + 3 by omega) (degRead_spec (d := d) hA hn h6 (c := c') (by omega))) ?_); rintro _ _ ⟨rfl, rfl⟩
        refine ⟨fun c4 => ?_, fun c4 => ?_⟩
        · refine hW _ (tail (fun q => c4 ?_))
          have : deg G c' = 4 := q.2
          rw [this]; rfl
        · have c5 : deg G c' = 4 := by have : ((deg G c' : Nat) : Int) = 4 := c4; omega
          have hl : lenR t k G (c' : Int) true = .inl (8 * k + 3) := by
            unfold lenR
            rw [if_neg (Classical.not_not.mpr c1), if_neg (Classical.not_not.mpr c3), if_pos ⟨rfl, c5⟩]
          refine ⟨_, _, _, twF, rfl, ?_⟩
          refine hC _ _ _ (use (wpd.up (show d + 1 ≤ d + 3 by omega) (hfail 3 _ _ (by decide) (Fr.upS rfl) hA hl)) ?_)
          intro r h' q
          obtain ⟨v, rfl, rfl⟩ := z0 r h' _ hl q
          exact ⟨Or.inl rfl, q⟩
    · have c2 := b0.mp c2
      have c3 : ¬ (1 ≤ (digs t k 0).2 ∧ (digs t k 0).2 ≤ 16) := by rcases hv with rfl | hv <;> omega
      have hl : lenR t k G to isB = .inl (8 * k + 2) := by
        unfold lenR
        rw [if_neg (Classical.not_not.mpr c1), if_pos c3]
      refine ⟨_, _, _, twF, rfl, ?_⟩
      refine hC _ _ _ (use (wpd.up (show d + 1 ≤ d + 3 by omega) (hfail 2 _ _ (by decide) (Fr.upS rfl) hA hl)) ?_)
      intro r h' q
      obtain ⟨v, rfl, rfl⟩ := z0 r h' _ hl q
      exact ⟨Or.inl rfl, q⟩
  · have c1 := b0.mp c1
    have hl : lenR t k G to isB = .inl (8 * k + 1) := by unfold lenR; rw [if_pos c1]
    refine ⟨_, _, _, _, twF, rfl, rfl, ?_⟩
    rw [h2]
    refine ⟨_, _, _, twF, rfl, ?_⟩
    refine hC _ _ _ (use (wpd.up (show d + 1 ≤ d + 3 by omega) (hfail 1 _ _ (by decide) Fr.refl hA hl)) ?_)
    intro r h' q
    obtain ⟨v, rfl, rfl⟩ := z0 r h' _ hl q
    exact ⟨Or.inl rfl, q⟩
/-- chains that are open: first carbon, how long, the latest place -/
def stkN (A : Nat → List Int) (st : List Op) : Prop := ∀ i x, st.reverse[i]? = some x → gt (A 7) i = ((x.1 : Nat) : Int) ∧ gt (A 8) i = ((x.2.1 : Nat) : Int) ∧ gt (A 9) i = ((x.2.2 : Nat) : Int)
theorem stkN_top {x : Op} {r : List Op} (h : stkN A (x :: r)) : gt (A 7) r.length = ((x.1 : Nat) : Int) ∧ gt (A 8) r.length = ((x.2.1 : Nat) : Int) ∧ gt (A 9) r.length = ((x.2.2 : Nat) : Int) := by
  refine h _ _ ?_
  rw [List.reverse_cons, List.getElem?_append_right (by rw [List.length_reverse]; exact Nat.le_refl _), List.length_reverse, Nat.sub_self]
  rfl
theorem stkN_cons {x : Op} {r : List Op} (hr : stkN A r) (h : gt (A 7) r.length = ((x.1 : Nat) : Int) ∧ gt (A 8) r.length = ((x.2.1 : Nat) : Int) ∧ gt (A 9) r.length = ((x.2.2 : Nat) : Int)) : stkN A (x :: r) := by
  intro i z hz
  rw [List.reverse_cons] at hz
  by_cases e : i = r.length
  · subst e
    rw [List.getElem?_append_right (by rw [List.length_reverse]; exact Nat.le_refl _), List.length_reverse, Nat.sub_self] at hz
    cases hz
    exact h
  · have hi := (List.getElem?_eq_some_iff.mp hz).1
    rw [List.length_append, List.length_reverse, List.length_singleton] at hi
    rw [List.getElem?_append_left (by rw [List.length_reverse]; omega)] at hz
    exact hr i z hz
theorem stkN_tail {x : Op} {r : List Op} (h : stkN A (x :: r)) : stkN A r := by
  intro i z hz
  refine h i z ?_
  rw [List.reverse_cons]
  have hi := (List.getElem?_eq_some_iff.mp hz).1
  rw [List.getElem?_append_left hi]
  exact hz
theorem stkN_keep {A' : Nat → List Int} {r : List Op} (h : stkN A r) (h7 : ∀ i, i < r.length → gt (A' 7) i = gt (A 7) i) (h8 : ∀ i, i < r.length → gt (A' 8) i = gt (A 8) i) (h9 : ∀ i, i < r.length → gt (A' 9) i = gt (A 9) i) : stkN A' r := by
  intro i z hz
  have hi := (List.getElem?_eq_some_iff.mp hz).1
  rw [List.length_reverse] at hi
  rw [h7 i hi, h8 i hi, h9 i hi]
  exact h i z hz
theorem opensChain_spec {k op : Nat} {G : Gr} {to : Int} (h : RD A sc t k G) (hk : k ≤ t.length) (hto : lenTo G to false) (ho : sc 4 = ((op : Nat) : Int)) (hop : op < 20) :
    wp (d + 5) 299 (0, ent 3 [vR (some M), vI to], [], tw h0 M A sc) (fun r h' => match lenR t k G to false with
      | .inl e => rdBad h0 M A sc e r h'
      | .inr y => r = .inl (some (vI 1)) ∧ ∃ X, h' = tw h0 M (up (up (up (up A 6 X) 7 ((A 7).set op ((G.1 : Nat) : Int))) 8 ((A 8).set op ((y.2.1 - G.1 : Nat) : Int))) 9 ((A 9).set op 1)) (up sc 2 ((y.1 : Nat) : Int)) ∧ X.length = 17 ∧ isRow X 0 y.2) := by
  obtain ⟨hA, hT, h2, h6⟩ := id h
  have hl7 : (A 7).length = 20 := by rw [hA.eq 7]; rfl
  have hl8 : (A 8).length = 20 := by rw [hA.eq 8]; rfl
  have hl9 : (A 9).length = 20 := by rw [hA.eq 9]; rfl
  refine wp.go [] 60 fun W C hW hC => ?_
  refine ⟨_, _, _, _, twF, rfl, rfl, ?_⟩
  refine ⟨_, _, _, twI rfl rfl, rfl, (by omega), gt_at (0) (by omega) (lenlt (j := 6) (hA) (show (0) < 17 by omega)), ?_⟩
  rw [h6.1]
  refine ⟨_, _, _, twF, rfl, ?_⟩
  refine hC _ _ _ (use (readsLength_spec (d := d) (isB := false) h hk hto) ?_)
  intro r h' hq
  cases e : lenR t k G to false with
  | inl x =>
    rw [e] at hq
    dsimp only at hq
    obtain ⟨rfl, hq⟩ := hq
    refine ⟨fun c => absurd rfl c, fun _ => ?_⟩
    exact ⟨Or.inl rfl, rfl, hq⟩
  | inr y =>
    rw [e] at hq
    dsimp only at hq
    obtain ⟨rfl, X, rfl, hX, hXr⟩ := hq
    have hy : y.2.ok ∧ G.1 < y.2.1 := by
      have := len_ok (isB := false) hk (by rcases hto with ⟨q1, q2, -⟩ | q; exact Or.inl ⟨q1, q2⟩; exact Or.inr q) e
      exact ⟨this.2.2.1, this.2.2.2⟩
    have hn := hy.1.1.2.1
    have ho' : up sc 2 ((y.1 : Nat) : Int) 4 = ((op : Nat) : Int) := by rw [upn_ne _ _ (by decide)]; exact ho
    refine ⟨fun _ => ?_, fun c => absurd c (by decide)⟩
    have hA1 : lens (up A 6 X) := hA.up (by rw [hX]; rfl)
    refine ⟨_, _, _, _, twF, rfl, rfl, ?_⟩
    refine ⟨_, _, _, _, twF, rfl, rfl, ?_⟩
    rw [ho']
    (refine ⟨_, twI rfl rfl, (by omega), (ilt (op) (by omega) (lenlt (j := 7) (hA1) (show (op) < 20 by omega))), ?_⟩; rw [twSetI rfl rfl]; try rw [Int.toNat_natCast])
    rw [upn_ne A X (show 7 ≠ 6 by decide)]
    have hA2 : lens (up (up A 6 X) 7 ((A 7).set op ((G.1 : Nat) : Int))) := hA1.up (by rw [List.length_set, hl7]; rfl)
    refine ⟨_, _, _, _, twF, rfl, rfl, ?_⟩
    refine ⟨_, _, _, _, twF, rfl, rfl, ?_⟩
    rw [ho']
    refine ⟨_, _, _, _, twF, rfl, rfl, ?_⟩
    refine ⟨_, _, _, twI rfl rfl, rfl, (by omega), gt_at (0) (by omega) (lenlt (j := 6) (hA2) (show (0) < 17 by omega)), ?_⟩
    rw [upn_ne _ _ (show 6 ≠ 7 by decide), up_eq, hXr.1]
    (conv => whnf); simp (disch := omega) only [iadd_eq, isub_eq, imul_eq]
    (refine ⟨_, twI rfl rfl, (by omega), (ilt (op) (by omega) (lenlt (j := 8) (hA2) (show (op) < 20 by omega))), ?_⟩; rw [twSetI rfl rfl]; try rw [Int.toNat_natCast])
    rw [upn_ne _ _ (show 8 ≠ 7 by decide), upn_ne _ _ (show 8 ≠ 6 by decide)]
    have hA3 : lens (up (up (up A 6 X) 7 ((A 7).set op ((G.1 : Nat) : Int))) 8 ((A 8).set op (((y.2.1 : Nat) : Int) - ((G.1 : Nat) : Int)))) := hA2.up (by rw [List.length_set, hl8]; rfl)
    refine ⟨_, _, _, _, twF, rfl, rfl, ?_⟩
    refine ⟨_, _, _, _, twF, rfl, rfl, ?_⟩
    rw [ho']
    (refine ⟨_, twI rfl rfl, (by omega), (ilt (op) (by omega) (lenlt (j := 9) (hA3) (show (op) < 20 by omega))), ?_⟩; rw [twSetI rfl rfl]; try rw [Int.toNat_natCast])
    rw [upn_ne _ _ (show 9 ≠ 8 by decide), upn_ne _ _ (show 9 ≠ 7 by decide), upn_ne _ _ (show 9 ≠ 6 by decide)]
    refine ⟨Or.inr rfl, rfl, X, ?_, hX, hXr⟩
    rw [show ((y.2.1 : Nat) : Int) - ((G.1 : Nat) : Int) = ((y.2.1 - G.1 : Nat) : Int) by omega]
end NAMES2
