theorem bStep_beg {t : List Int} {k : Nat} {G : Gr} {st : List Int} {beg : Bool} {z : Nat × Gr × List Int × Bool} (e : bStep t k G st beg = .inr z) : z.2.2.2 = !decide (chr t k = 40) := by
  unfold bStep at e
  split at e
  · rename_i c1
    rw [c1]
    cases e2 : atomR t k G (hdI st) with
    | inl x => rw [e2] at e; cases e
    | inr y => rw [e2] at e; cases e; rfl
  · split at e
    · rename_i c2
      rw [c2.2]
      cases e; rfl
    · split at e
      · rename_i c3
        rw [c3.2.1]
        cases e; rfl
      · cases e
section BONDS2
variable {d : Nat} {h0 : AH} {M : Nat} {A : Nat → List Int} {sc : Nat → Int} {t : List Int}
abbrev JR : List Nat := [6, 7, 8, 9]
abbrev KR : List Nat := [2, 3, 4]
def BSt (A : Nat → List Int) (sc : Nat → Int) (t : List Int) (k : Nat) (G : Gr) (st : List Int) (beg : Bool) : Prop := RD A sc t k G ∧ stkAt (A 7) st ∧ sc 4 = ((st.length - 1 : Nat) : Int) ∧ bOk t k G st beg
theorem bOk_len {k : Nat} {G : Gr} {st : List Int} {beg : Bool} (h : bOk t k G st beg) : 1 ≤ st.length ∧ st.length ≤ 17 ∧ (beg = true → st.length ≤ 16) := by
  obtain ⟨h1, h2, h3⟩ := h
  rcases h3 with ⟨g1, g2, g3⟩ | ⟨g1, g2, g3, g4⟩
  · rw [g2]; exact ⟨by decide, by decide, fun _ => by decide⟩
  · have := g1.1.2.1
    refine ⟨h2, ?_, fun q => ?_⟩
    · cases beg
      · have g3 : st.length - 1 + 0 ≤ G.1 := g3; omega
      · have g3 : st.length - 1 + 1 ≤ G.1 := g3; omega
    · subst q
      have g3 : st.length - 1 + 1 ≤ G.1 := g3
      omega
theorem readsBond_spec {k0 : Nat} {G : Gr} {st : List Int} {beg : Bool} (h : BSt A sc t k0 G st beg) :
    wp (d + 5) 291 (0, ent 3 [vR (some M), vI (z01 beg)], [], tw h0 M A sc) (fun r h' => match bStep t (skp t k0) G st beg with
      | .inl e => r = .inl (some (vI 0)) ∧ ∃ A' sc', h' = tw h0 M A' sc' ∧ lens A' ∧ Fr JR KR A A' sc sc' ∧ sc' 3 = ((e : Nat) : Int)
      | .inr z => r = .inl (some (vI 1)) ∧ ∃ A' sc', h' = tw h0 M A' sc' ∧ Fr JR KR A A' sc sc' ∧ BSt A' sc' t z.1 z.2.1 z.2.2.1 z.2.2.2) := by
  obtain ⟨⟨hA, hT, h2, h6⟩, hs, h4, hb0⟩ := h
  have hb := bOk_skp hb0
  have hlen := hT.2.1
  obtain ⟨l1, l2, l3⟩ := bOk_len hb
  have hl7 : (A 7).length = 20 := by rw [hA.eq 7]; rfl
  have hsk := skp_le (t := t) (t.length - k0) k0 (by have := hb0.1; omega)
  have hstep := fun z => step_ok (z := z) hb
  have hsc : up sc 2 ((k0 : Nat) : Int) = sc := by rw [← h2]; exact upn_self
  have hpass := passes_spec (d := d + 2) (h0 := h0) (M := M) hA hT (t.length - k0) k0 (by have := hb0.1; omega)
  rw [hsc] at hpass
  generalize hk : skp t k0 = k at *
  have hT' : tapeOk (A 5) (up sc 2 ((k : Nat) : Int) 1) t := by rw [upn_ne _ _ (by decide)]; exact hT
  have h4' : up sc 2 ((k : Nat) : Int) 4 = ((st.length - 1 : Nat) : Int) := by rw [upn_ne _ _ (by decide)]; exact h4
  have hRD : RD A (up sc 2 ((k : Nat) : Int)) t k G := ⟨hA, hT', up_eq _ _ _, h6⟩
  have bad : bStep t k G st beg = .inl (8 * k + 1) → wp (d + 5) 291 (109, [some (vR (some M)), some (vI (z01 beg)), some (vI (chr t k))], [], tw h0 M A (up sc 2 ((k : Nat) : Int))) (fun r h' => match bStep t k G st beg with
      | .inl e => r = .inl (some (vI 0)) ∧ ∃ A' sc', h' = tw h0 M A' sc' ∧ lens A' ∧ Fr JR KR A A' sc sc' ∧ sc' 3 = ((e : Nat) : Int)
      | .inr z => r = .inl (some (vI 1)) ∧ ∃ A' sc', h' = tw h0 M A' sc' ∧ Fr JR KR A A' sc sc' ∧ BSt A' sc' t z.1 z.2.1 z.2.2.1 z.2.2.2) := by
    intro e
    rw [e]
    refine wp.go [] 20 fun W C hW hC => ?_
    refine ⟨_, _, _, _, twF, rfl, rfl, ?_⟩
    rw [up_eq]
    refine ⟨_, _, _, twF, rfl, ?_⟩
    refine hC _ _ _ (use (wpd.up (show d + 1 ≤ d + 4 by omega) (fails_spec (d := d) (k := 1) (p := k) (by decide) (by omega))) ?_)
    rintro _ _ ⟨rfl, rfl⟩
    exact ⟨Or.inl rfl, rfl, _, _, rfl, hA, (Fr.upS rfl).trans (Fr.upS rfl), up_eq _ _ _⟩
  have atom : chr t k = 99 → ((G = gNil ∧ hdI st = -1) ∨ (G.ok ∧ 0 ≤ hdI st ∧ hdI st < ((G.1 : Nat) : Int))) → wp (d + 5) 291 (36, [some (vR (some M)), some (vI (z01 beg)), some (vI (chr t k))], [vI (hdI st), vR (some M)], tw h0 M A (up sc 2 ((k : Nat) : Int))) (fun r h' => match bStep t k G st beg with
      | .inl e => r = .inl (some (vI 0)) ∧ ∃ A' sc', h' = tw h0 M A' sc' ∧ lens A' ∧ Fr JR KR A A' sc sc' ∧ sc' 3 = ((e : Nat) : Int)
      | .inr z => r = .inl (some (vI 1)) ∧ ∃ A' sc', h' = tw h0 M A' sc' ∧ Fr JR KR A A' sc sc' ∧ BSt A' sc' t z.1 z.2.1 z.2.2.1 z.2.2.2) := by
    intro c1 hto
    have hkl := chr_in (t := t) (k := k) (by rw [c1]; decide)
    have hbs : bStep t k G st beg = (match atomR t k G (hdI st) with
      | .inl e => .inl e
      | .inr z => .inr (z.1, z.2, (((z.2.1 : Nat) : Int) - 1) :: st.tail, true)) := by unfold bStep; rw [if_pos c1]; cases atomR t k G (hdI st) <;> rfl
    refine wp.go [] 20 fun W C hW hC => ?_
    refine ⟨_, _, _, twF, rfl, ?_⟩
    refine hC _ _ _ (use (readsAtom_spec (d := d) (op := st.length - 1) hRD hkl hto h4' (by omega)) ?_)
    intro r h' hq
    cases e2 : atomR t k G (hdI st) with
    | inl x =>
      rw [e2] at hq hbs
      dsimp only at hq hbs
      rw [hbs]
      obtain ⟨rfl, A', sc', rfl, i1, i2, i3⟩ := hq
      exact ⟨Or.inl rfl, rfl, A', sc', rfl, i1, (Fr.upS rfl).trans (i2.wide rfl rfl), i3⟩
    | inr z =>
      rw [e2] at hq hbs
      dsimp only at hq hbs
      have hz := hstep _ hbs
      rw [hbs]
      obtain ⟨rfl, X, rfl, hX, hXr⟩ := hq
      refine ⟨Or.inr rfl, rfl, _, _, rfl, (((Fr.upA rfl).trans (Fr.upA rfl)).trans (Fr.upS rfl)).trans (Fr.upS rfl), ⟨(hA.up (by rw [hX]; rfl)).up (by rw [List.length_set, hl7]; rfl), ?_, up_eq _ _ _, ?_⟩, ?_, ?_, hz.2⟩
      · rw [upn_ne _ _ (by decide), upn_ne _ _ (by decide), upn_ne _ _ (by decide)]; exact hT'
      · rw [upn_ne _ _ (by decide), up_eq]; exact hXr
      · rw [up_eq]; exact stk_set hs (by omega) l1
      · rw [upn_ne _ _ (by decide)]
        rw [h4', List.length_cons, List.length_tail]
        congr 1
  have close : chr t k ≠ 99 → ¬ (beg = true ∧ chr t k = 40) → wp (d + 5) 291 (92, [some (vR (some M)), some (vI (z01 beg)), some (vI (chr t k))], [], tw h0 M A (up sc 2 ((k : Nat) : Int))) (fun r h' => match bStep t k G st beg with
      | .inl e => r = .inl (some (vI 0)) ∧ ∃ A' sc', h' = tw h0 M A' sc' ∧ lens A' ∧ Fr JR KR A A' sc sc' ∧ sc' 3 = ((e : Nat) : Int)
      | .inr z => r = .inl (some (vI 1)) ∧ ∃ A' sc', h' = tw h0 M A' sc' ∧ Fr JR KR A A' sc sc' ∧ BSt A' sc' t z.1 z.2.1 z.2.2.1 z.2.2.2) := by
    intro c1 c2
    have hbs : bStep t k G st beg = (if beg = true ∧ chr t k = 41 ∧ 1 < st.length then .inr (k + 1, G, st.tail, true) else .inl (8 * k + 1)) := by
      unfold bStep; rw [if_neg c1, if_neg c2]
    refine wp.go [109] 40 fun W C hW hC => ?_
    cases hbeg : beg with
    | false =>
      subst hbeg
      refine ⟨fun _ => ?_, fun c => absurd rfl c⟩
      refine hW _ (bad ?_)
      rw [hbs, if_neg (by simp)]
    | true =>
      subst hbeg
      refine ⟨fun c => absurd c (by decide), fun _ => ?_⟩
      refine ⟨fun c3 => ?_, fun c3 => ?_⟩
      · refine hW _ (bad ?_)
        rw [hbs, if_neg (fun q => c3 q.2.1)]
      · refine ⟨_, _, _, _, twF, rfl, rfl, ?_⟩
        rw [h4']
        refine ⟨fun c4 => ?_, fun c4 => ?_⟩
        · have hkl := chr_in (t := t) (k := k) (by rw [c3]; decide)
          rw [if_pos ⟨rfl, c3, by omega⟩] at hbs
          have hz := hstep _ hbs
          rw [hbs]
          refine ⟨_, _, _, _, twF, rfl, rfl, ?_⟩
          rw [up_eq]
          (conv => whnf); simp (disch := omega) only [iadd_eq, isub_eq, imul_eq]
          (refine ⟨_, _, _, twF, rfl, (Nat.le_of_ble_eq_true rfl), ?_⟩; rw [twP2])
          rw [up_up]
          refine ⟨_, _, _, _, twF, rfl, rfl, ?_⟩
          rw [show up sc 2 (((k : Nat) : Int) + 1) 4 = ((st.length - 1 : Nat) : Int) by rw [upn_ne _ _ (by decide)]; exact h4]
          (conv => whnf); simp (disch := omega) only [iadd_eq, isub_eq, imul_eq]
          (refine ⟨_, _, _, twF, rfl, (Nat.le_of_ble_eq_true rfl), ?_⟩; rw [twP4])
          refine ⟨Or.inr rfl, rfl, _, _, rfl, (Fr.upS rfl).trans (Fr.upS rfl), ⟨hA, ?_, ?_, h6⟩, stk_pop hs, ?_, hz.2⟩
          · rw [upn_ne _ _ (by decide), upn_ne _ _ (by decide)]; exact hT
          · rw [upn_ne _ _ (by decide), up_eq]; show _ = ((k + 1 : Nat) : Int); omega
          · rw [up_eq]; show _ = ((st.tail.length - 1 : Nat) : Int); rw [List.length_tail]; omega
        · refine hW _ (bad ?_)
          rw [hbs, if_neg (fun q => by have := q.2.2; omega)]
  refine wp.go [36, 92] 60 fun W C hW hC => ?_
  refine ⟨_, _, _, twF, rfl, ?_⟩
  refine hC _ _ _ (use hpass ?_)
  rintro _ _ ⟨rfl, rfl⟩
  refine ⟨fun c1 => ?_, fun c1 => ?_⟩
  · cases hbeg : beg with
    | false =>
      subst hbeg
      refine ⟨fun _ => ?_, fun c => absurd rfl c⟩
      exact hW _ (close c1 (by simp))
    | true =>
      subst hbeg
      refine ⟨fun c => absurd c (by decide), fun _ => ?_⟩
      refine ⟨fun c2 => ?_, fun c2 => ?_⟩
      · exact hW _ (close c1 (fun q => c2 q.2))
      · have hbs : bStep t k G st true = .inr (k + 1, G, hdI st :: st, false) := by
          unfold bStep; rw [if_neg c1, if_pos ⟨rfl, c2⟩]
        have hkl := chr_in (t := t) (k := k) (by rw [c2]; decide)
        have hz := hstep _ hbs
        have hhd : hdI st ≠ -1 := by
          rcases hb.2.2 with ⟨-, -, q⟩ | ⟨-, q, -, -⟩
          · cases q
          · cases st with
            | nil => simp at l1
            | cons x r => have := (q x List.mem_cons_self).1; show x ≠ -1; omega
        have htop := stk_top hs l1 hhd
        have l3 := l3 rfl
        rw [hbs]
        refine ⟨_, _, _, _, twF, rfl, rfl, ?_⟩
        rw [up_eq]
        (conv => whnf); simp (disch := omega) only [iadd_eq, isub_eq, imul_eq]
        (refine ⟨_, _, _, twF, rfl, (Nat.le_of_ble_eq_true rfl), ?_⟩; rw [twP2])
        rw [up_up]
        refine ⟨_, _, _, _, twF, rfl, rfl, ?_⟩
        rw [show up sc 2 (((k : Nat) : Int) + 1) 4 = ((st.length - 1 : Nat) : Int) by rw [upn_ne _ _ (by decide)]; exact h4]
        (conv => whnf); simp (disch := omega) only [iadd_eq, isub_eq, imul_eq]
        (refine ⟨_, _, _, twF, rfl, (Nat.le_of_ble_eq_true rfl), ?_⟩; rw [twP4])
        refine ⟨_, _, _, _, twF, rfl, rfl, ?_⟩
        refine ⟨_, _, _, _, twF, rfl, rfl, ?_⟩
        rw [up_eq]
        refine ⟨_, _, _, _, twF, rfl, rfl, ?_⟩
        refine ⟨_, _, _, _, twF, rfl, rfl, ?_⟩
        rw [up_eq]
        (conv => whnf); simp (disch := omega) only [iadd_eq, isub_eq, imul_eq]
        refine ⟨_, _, _, twI rfl rfl, rfl, (by omega), gt_at (st.length - 1) (by omega) (lenlt (j := 7) (hA) (show (st.length - 1) < 20 by omega)), ?_⟩
        rw [htop]
        (refine ⟨_, twI rfl rfl, (by omega), (ilt (st.length) (by omega) (lenlt (j := 7) (hA) (show (st.length) < 20 by omega))), ?_⟩; rw [twSetI rfl rfl]; try rw [Int.toNat_natCast])
        rw [show (((st.length - 1 : Nat) : Int) + 1).toNat = st.length by omega]
        refine ⟨Or.inr rfl, rfl, _, _, rfl, (Fr.upA rfl).trans ((Fr.upS rfl).trans (Fr.upS rfl)), ⟨hA.up (by rw [List.length_set, hl7]; rfl), ?_, ?_, ?_⟩, ?_, ?_, hz.2⟩
        · rw [upn_ne _ _ (by decide), upn_ne _ _ (by decide), upn_ne _ _ (by decide)]; exact hT
        · rw [upn_ne _ _ (by decide), up_eq]; show _ = ((k + 1 : Nat) : Int); omega
        · rw [upn_ne _ _ (by decide)]; exact h6
        · rw [up_eq]; exact stk_push hs (by omega)
        · rw [up_eq]; show _ = (((hdI st :: st).length - 1 : Nat) : Int); rw [List.length_cons]; omega
  · have okc : (beg = true ∨ 2 ≤ st.length) → gt (A 7) (st.length - 1) = hdI st ∧ ((G = gNil ∧ hdI st = -1) ∨ (G.ok ∧ 0 ≤ hdI st ∧ hdI st < ((G.1 : Nat) : Int))) := by
      intro q
      rcases hb.2.2 with ⟨q1, q2, q3⟩ | ⟨q1, q2, -, -⟩
      · rw [q2, q3] at q
        rcases q with q | q
        · cases q
        · simp at q
      · have hx : 0 ≤ hdI st ∧ hdI st < ((G.1 : Nat) : Int) := by
          cases st with
          | nil => simp at l1
          | cons x r => exact q2 x List.mem_cons_self
        exact ⟨stk_top hs l1 (by omega), Or.inr ⟨q1, hx⟩⟩
    refine ⟨fun c2 => ?_, fun c2 => ?_⟩
    · have hbeg : beg = true := by
        cases beg with
        | true => rfl
        | false => exact absurd rfl c2
      obtain ⟨o1, o2⟩ := okc (Or.inl hbeg)
      refine ⟨_, _, _, _, twF, rfl, rfl, ?_⟩
      refine ⟨_, _, _, _, twF, rfl, rfl, ?_⟩
      rw [h4']
      refine ⟨_, _, _, twI rfl rfl, rfl, (by omega), gt_at (st.length - 1) (by omega) (lenlt (j := 7) (hA) (show (st.length - 1) < 20 by omega)), ?_⟩
      rw [o1]
      exact hW _ (atom c1 o2)
    · have hbeg : beg = false := by
        cases beg with
        | false => rfl
        | true => exact absurd c2 (by decide)
      refine ⟨_, _, _, _, twF, rfl, rfl, ?_⟩
      rw [h4']
      refine ⟨fun c3 => ?_, fun c3 => ?_⟩
      · have hnil : G = gNil ∧ st = [-1] := by
          rcases hb.2.2 with ⟨q1, q2, -⟩ | ⟨-, -, -, q⟩
          · exact ⟨q1, q2⟩
          · have := q hbeg; omega
        have := atom c1 (Or.inl ⟨hnil.1, by rw [hnil.2]; rfl⟩)
        rw [show hdI st = -1 by rw [hnil.2]; rfl] at this
        exact hW _ this
      · obtain ⟨o1, o2⟩ := okc (Or.inr (by omega))
        refine ⟨_, _, _, _, twF, rfl, rfl, ?_⟩
        refine ⟨_, _, _, _, twF, rfl, rfl, ?_⟩
        rw [h4']
        refine ⟨_, _, _, twI rfl rfl, rfl, (by omega), gt_at (st.length - 1) (by omega) (lenlt (j := 7) (hA) (show (st.length - 1) < 20 by omega)), ?_⟩
        rw [o1]
        exact hW _ (atom c1 o2)
theorem BSt.go {A0 : Nat → List Int} {sc0 : Nat → Int} : ∀ (f k : Nat) (G : Gr) (st : List Int) (beg : Bool) (A : Nat → List Int) (sc : Nat → Int) (x3 : Option AV), t.length < k + f → Fr JR KR A0 A sc0 sc → BSt A sc t k G st beg → wp (d + 6) 288 (9, [some (vR (some M)), some (vI 1), some (vI (z01 beg)), x3], [], tw h0 M A sc) (fun r h' => match bRun t f k G st beg with
      | .inl e => r = .inl (some (vI 0)) ∧ ∃ A' sc', h' = tw h0 M A' sc' ∧ lens A' ∧ Fr JR KR A0 A' sc0 sc' ∧ sc' 3 = ((e : Nat) : Int)
      | .inr H => r = .inl (some (vI 1)) ∧ ∃ A' sc', h' = tw h0 M A' sc' ∧ lens A' ∧ Fr JR KR A0 A' sc0 sc' ∧ isRow (A' 6) 0 H) := by
  intro f
  induction f with
  | zero =>
    intro k G st beg A sc x3 hf hF h
    have := h.2.2.2.1
    omega
  | succ f ih =>
    intro k G st beg A sc x3 hf hF h
    obtain ⟨⟨hA, hT, h2, h6⟩, hs, h4, hb⟩ := id h
    have hkl := hb.1
    have hsk := skp_le (t := t) (t.length - k) k (by omega)
    have hsc : up sc 2 ((k : Nat) : Int) = sc := by rw [← h2]; exact upn_self
    have hp := fun j sc' (hT' : tapeOk (A 5) (sc' 1) t) => passes_spec (d := d + 3) (h0 := h0) (M := M) (A := A) (sc := sc') hA hT' (t.length - j) j
    have hT' : tapeOk (A 5) (up sc 2 ((skp t k : Nat) : Int) 1) t := by rw [upn_ne _ _ (by decide)]; exact hT
    have hss : skp t (skp t k) = skp t k := skp_else hsk.2.2
    have hB2 : BSt A (up sc 2 ((skp t k : Nat) : Int)) t (skp t k) G st beg := ⟨⟨hA, hT', up_eq _ _ _, h6⟩, hs, by rw [upn_ne _ _ (by decide)]; exact h4, bOk_skp hb⟩
    obtain ⟨l1, l2, l3⟩ := bOk_len hb
    /- one thing more -/
    have step : ¬ (beg = true ∧ st.length ≤ 1 ∧ chr t (skp t k) = -1) → ∀ sc1, (sc1 = sc ∨ sc1 = up sc 2 ((skp t k : Nat) : Int)) → wp (d + 6) 288 (32, [some (vR (some M)), some (vI 1), some (vI (z01 beg)), x3], [], tw h0 M A sc1) (fun r h' => match bRun t (f + 1) k G st beg with
      | .inl e => r = .inl (some (vI 0)) ∧ ∃ A' sc', h' = tw h0 M A' sc' ∧ lens A' ∧ Fr JR KR A0 A' sc0 sc' ∧ sc' 3 = ((e : Nat) : Int)
      | .inr H => r = .inl (some (vI 1)) ∧ ∃ A' sc', h' = tw h0 M A' sc' ∧ lens A' ∧ Fr JR KR A0 A' sc0 sc' ∧ isRow (A' 6) 0 H) := by
      intro hne sc1 hsc1
      have hpass : wp (d + 5) 289 (0, ent 1 [vR (some M)], [], tw h0 M A sc1) (fun r h' => r = .inl (some (vI (chr t (skp t k)))) ∧ h' = tw h0 M A (up sc 2 ((skp t k : Nat) : Int))) := by
        rcases hsc1 with rfl | rfl
        · have := hp k sc1 hT (by omega)
          rw [hsc] at this
          exact this
        · have := hp (skp t k) (up sc 2 ((skp t k : Nat) : Int)) hT' (by omega)
          rw [up_up, hss, up_up] at this
          exact this
      have hrun : bRun t (f + 1) k G st beg = (match bStep t (skp t k) G st beg with
        | .inl e => .inl e
        | .inr z => bRun t f z.1 z.2.1 z.2.2.1 z.2.2.2) := by
        show (if beg = true ∧ st.length ≤ 1 ∧ chr t (skp t k) = -1 then _ else _) = _
        rw [if_neg hne]
        cases bStep t (skp t k) G st beg <;> rfl
      rw [hrun]
      have hbond := readsBond_spec (d := d) (h0 := h0) (M := M) hB2
      rw [hss] at hbond
      have hstep := fun z => step_ok (z := z) (bOk_skp hb)
      refine wp.go [9] 60 fun W C hW hC => ?_
      refine ⟨_, _, _, twF, rfl, ?_⟩
      refine hC _ _ _ (use hpass ?_)
      rintro _ _ ⟨rfl, rfl⟩
      refine ⟨_, _, _, twF, rfl, ?_⟩
      refine hC _ _ _ (use hbond ?_)
      intro r h' hq
      cases e2 : bStep t (skp t k) G st beg with
      | inl e =>
        rw [e2] at hq
        obtain ⟨rfl, A', sc', rfl, i1, i2, i3⟩ := hq
        have fin : ∀ y, wp (d + 6) 288 (9, [some (vR (some M)), some (vI 0), some (vI y), some (vI (chr t (skp t k)))], [], tw h0 M A' sc') (fun r h' => r = .inl (some (vI 0)) ∧ ∃ A' sc', h' = tw h0 M A' sc' ∧ lens A' ∧ Fr JR KR A0 A' sc0 sc' ∧ sc' 3 = ((e : Nat) : Int)) := by
          intro y
          refine wp.go [9] 20 fun W C hW hC => ?_
          refine ⟨fun _ => ?_, fun c => absurd rfl c⟩
          exact ⟨Or.inl rfl, rfl, A', sc', rfl, i1, hF.trans ((Fr.upS rfl).trans i2), i3⟩
        rw [e2] at hW
        dsimp only at hW
        refine ⟨fun c => ?_, fun c => ?_⟩
        · exact hW _ (fin 0)
        · exact hW _ (fin 1)
      | inr z =>
        rw [e2] at hq hW
        dsimp only at hq hW
        have hb4 := bStep_beg e2
        have hlt := (hstep z e2).1
        obtain ⟨z1, z2, z3, z4⟩ := z
        dsimp only at hq hW hb4 hlt
        obtain ⟨rfl, A', sc', rfl, i1, i2⟩ := hq
        have := ih z1 z2 z3 z4 A' sc' (some (vI (chr t (skp t k)))) (by omega) (hF.trans ((Fr.upS rfl).trans i1)) i2
        refine ⟨fun c => ?_, fun c => ?_⟩
        · rw [decide_eq_true c] at hb4
          subst hb4
          exact hW _ this
        · rw [decide_eq_false c] at hb4
          subst hb4
          exact hW _ this
    refine wp.go [9, 32] 40 fun W C hW hC => ?_
    refine ⟨fun c => absurd c (by decide), fun _ => ?_⟩
    refine ⟨fun c => ?_, fun c => ?_⟩
    · refine hW _ (step (fun q => ?_) sc (Or.inl rfl))
      rw [q.1] at c
      exact absurd c (by decide)
    · have hbeg : beg = true := by
        cases beg with
        | true => rfl
        | false => exact absurd rfl c
      refine ⟨_, _, _, _, twF, rfl, rfl, ?_⟩
      rw [h4]
      refine ⟨fun c2 => ?_, fun c2 => ?_⟩
      · exact hW _ (step (fun q => by omega) sc (Or.inl rfl))
      · have hpass := hp k sc hT (by omega)
        rw [hsc] at hpass
        refine ⟨_, _, _, twF, rfl, ?_⟩
        refine hC _ _ _ (use hpass ?_)
        rintro _ _ ⟨rfl, rfl⟩
        refine ⟨fun c3 => ?_, fun c3 => ?_⟩
        · have hrun : bRun t (f + 1) k G st beg = .inr G := by
            show (if beg = true ∧ st.length ≤ 1 ∧ chr t (skp t k) = -1 then _ else _) = _
            rw [if_pos ⟨hbeg, by omega, c3⟩]
          rw [hrun]
          exact ⟨Or.inr rfl, rfl, _, _, rfl, hA, hF.trans (Fr.upS rfl), h6⟩
        · exact hW _ (step (fun q => c3 q.2.2) _ (Or.inr rfl))
theorem readsBonds_spec (hA : lens A) (hT : tapeOk (A 5) (sc 1) t) (h2 : sc 2 = 0) (h6 : gt (A 6) 0 = 0) : wp (d + 6) 288 (0, ent 4 [vR (some M)], [], tw h0 M A sc) (fun r h' => match bRun t 122 0 gNil [-1] false with
      | .inl e => r = .inl (some (vI 0)) ∧ ∃ A' sc', h' = tw h0 M A' sc' ∧ lens A' ∧ Fr JR KR A A' sc sc' ∧ sc' 3 = ((e : Nat) : Int)
      | .inr H => r = .inl (some (vI 1)) ∧ ∃ A' sc', h' = tw h0 M A' sc' ∧ lens A' ∧ Fr JR KR A A' sc sc' ∧ isRow (A' 6) 0 H) := by
  have hlen := hT.2.1
  refine wp.go [9] 20 fun W C hW hC => ?_
  (refine ⟨_, _, _, twF, rfl, (Nat.le_of_ble_eq_true rfl), ?_⟩; rw [twP4])
  refine hW _ (BSt.go (A0 := A) (sc0 := sc) 122 0 gNil [-1] false A (up sc 4 0) none (by omega) (Fr.upS rfl) ⟨⟨hA, ?_, ?_, h6, fun c hc => absurd hc (Nat.not_lt_zero c)⟩, fun i x hx hne => ?_, up_eq _ _ _, Nat.zero_le _, by decide, Or.inl ⟨rfl, rfl, rfl⟩⟩)
  · rw [upn_ne _ _ (by decide)]; exact hT
  · rw [upn_ne _ _ (by decide)]; exact h2
  · have hi := (List.getElem?_eq_some_iff.mp hx).1
    have hi : i < 1 := hi
    obtain rfl : i = 0 := by omega
    cases hx
    exact absurd rfl hne
end BONDS2
