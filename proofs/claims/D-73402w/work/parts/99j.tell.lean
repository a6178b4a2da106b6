section TELL
variable {d : Nat} {h0 : AH} {M : Nat} {A : Nat → List Int} {sc : Nat → Int} {t : List Int} {S : AS}
abbrev rdEnd (h0 : AH) (M : Nat) (A0 : Nat → List Int) (sc0 : Nat → Int) (z : Nat ⊕ Gr) : Rs → AH → Prop := fun r h' => match z with
  | .inl e => r = .inl (some (vI 0)) ∧ ∃ A' sc', h' = tw h0 M A' sc' ∧ lens A' ∧ Fr JR KR A0 A' sc0 sc' ∧ sc' 3 = ((e : Nat) : Int)
  | .inr H => r = .inl (some (vI 1)) ∧ ∃ A' sc', h' = tw h0 M A' sc' ∧ lens A' ∧ Fr JR KR A0 A' sc0 sc' ∧ isRow (A' 6) 0 H
theorem name_go {A0 : Nat → List Int} {sc0 : Nat → Int} : ∀ (f k : Nat) (G : Gr) (st : List Op) (A : Nat → List Int) (sc : Nat → Int), t.length < k + f → Fr JR KR A0 A sc0 sc → NSt A sc t k G st → wp (d + 7) 298 (17, [some (vR (some M)), some (vI 1)], [], tw h0 M A sc) (rdEnd h0 M A0 sc0 (nRun t f k G st)) := by
  intro f
  induction f with
  | zero =>
    intro k G st A sc hf hF h
    have := h.2.2.2.1
    omega
  | succ f ih =>
    intro k G st A sc hf hF h
    obtain ⟨⟨hA, hT, h2, h6⟩, hs, h4, hb⟩ := id h
    have hkl := hb.1
    have hl1 := hb.2.1
    have hst := hb.2.2.2.2
    have hgn := hb.2.2.1.1.2.1
    have hlen := hT.2.1
    have hstep := fun z => nstep_ok (z := z) hb
    have fin : ∀ (e : Nat) (A' : Nat → List Int) (sc' : Nat → Int), lens A' → Fr JR KR A0 A' sc0 sc' → sc' 3 = ((e : Nat) : Int) → nRun t (f + 1) k G st = .inl e → wp (d + 7) 298 (17, [some (vR (some M)), some (vI 0)], [], tw h0 M A' sc') (rdEnd h0 M A0 sc0 (nRun t (f + 1) k G st)) := by
      intro e A' sc' i1 i2 i3 hr
      rw [hr]
      refine wp.go [17] 20 fun W C hW hC => ?_
      refine ⟨fun _ => ?_, fun c => absurd rfl c⟩
      exact ⟨Or.inl rfl, rfl, A', sc', rfl, i1, i2, i3⟩
    have hgo : ¬ (st.length ≤ 1 ∧ chr t k = -1) → wp (d + 7) 298 (40, [some (vR (some M)), some (vI 1)], [], tw h0 M A sc) (rdEnd h0 M A0 sc0 (nRun t (f + 1) k G st)) := by
      intro hne
      have hrun : nRun t (f + 1) k G st = (match nStep t k G st with
        | .inl e => .inl e
        | .inr z => nRun t f z.1 z.2.1 z.2.2) := by
        show (if st.length ≤ 1 ∧ chr t k = -1 then _ else _) = _
        rw [if_neg hne]
        cases nStep t k G st <;> rfl
      have bad : nStep t k G st = .inl (8 * k + 1) → wp (d + 7) 298 (104, [some (vR (some M)), some (vI 1)], [], tw h0 M A sc) (rdEnd h0 M A0 sc0 (nRun t (f + 1) k G st)) := by
        intro e
        rw [e] at hrun
        refine wp.go [17] 20 fun W C hW hC => ?_
        refine ⟨_, _, _, _, twF, rfl, rfl, ?_⟩
        rw [h2]
        refine ⟨_, _, _, twF, rfl, ?_⟩
        refine hC _ _ _ (use (wpd.up (show d + 1 ≤ d + 6 by omega) (fails_spec (d := d) (k := 1) (p := k) (by decide) (by omega))) ?_)
        rintro _ _ ⟨rfl, rfl⟩
        exact hW _ (fin _ _ _ hA (hF.trans (Fr.upS rfl)) (up_eq _ _ _) hrun)
      refine wp.go [17, 104] 60 fun W C hW hC => ?_
      refine ⟨_, _, _, _, twF, rfl, rfl, ?_⟩
      rw [h2]
      refine ⟨_, _, _, twF, rfl, ?_⟩
      refine hC _ _ _ (use (wpd.up (show d + 1 ≤ d + 6 by omega) (byteAt_spec (d := d) (k := k) hA hT)) ?_); rintro _ _ ⟨rfl, rfl⟩
      refine ⟨fun c1 => ?_, fun c1 => ?_⟩
      · have hns : nStep t k G st = (if chr t k = 41 ∧ 1 < st.length then .inr (k + 1, G, st.tail) else .inl (8 * k + 1)) := by
          unfold nStep; rw [if_neg c1]
        refine ⟨_, _, _, _, twF, rfl, rfl, ?_⟩
        rw [h4]
        refine ⟨fun c2 => ?_, fun c2 => ?_⟩
        · refine hW _ (bad ?_)
          rw [hns, if_neg (fun q => by have := q.2; omega)]
        · refine ⟨_, _, _, _, twF, rfl, rfl, ?_⟩
          rw [h2]
          refine ⟨_, _, _, twF, rfl, ?_⟩
          refine hC _ _ _ (use (wpd.up (show d + 1 ≤ d + 6 by omega) (byteAt_spec (d := d) (k := k) hA hT)) ?_); rintro _ _ ⟨rfl, rfl⟩
          refine ⟨fun c3 => ?_, fun c3 => ?_⟩
          · refine hW _ (bad ?_)
            rw [hns, if_neg (fun q => c3 q.1)]
          · rw [if_pos ⟨c3, by omega⟩] at hns
            have hok := hstep _ hns
            rw [hns] at hrun
            dsimp only at hrun
            rw [hrun] at hW
            refine ⟨_, _, _, _, twF, rfl, rfl, ?_⟩
            rw [h2]
            (conv => whnf); simp (disch := omega) only [iadd_eq, isub_eq, imul_eq]
            (refine ⟨_, _, _, twF, rfl, (Nat.le_of_ble_eq_true rfl), ?_⟩; rw [twP2])
            refine ⟨_, _, _, _, twF, rfl, rfl, ?_⟩
            rw [show up sc 2 (((k : Nat) : Int) + 1) 4 = ((st.length - 1 : Nat) : Int) by rw [upn_ne _ _ (by decide)]; exact h4]
            (conv => whnf); simp (disch := omega) only [iadd_eq, isub_eq, imul_eq]
            (refine ⟨_, _, _, twF, rfl, (Nat.le_of_ble_eq_true rfl), ?_⟩; rw [twP4])
            refine hW _ (ih (k + 1) G st.tail A _ (by omega) (hF.trans ((Fr.upS rfl).trans (Fr.upS rfl))) ⟨⟨hA, ?_, ?_, h6⟩, ?_, ?_, hok.2⟩)
            · rw [upn_ne _ _ (by decide), upn_ne _ _ (by decide)]; exact hT
            · rw [upn_ne _ _ (by decide), up_eq]; omega
            · cases st with
              | nil => exact hs
              | cons x r => exact stkN_tail hs
            · rw [up_eq, List.length_tail]; omega
      · refine ⟨_, _, _, twF, rfl, ?_⟩
        refine hC _ _ _ (use (readsBranch_spec (d := d) h c1) ?_)
        intro r h' hq
        cases e2 : nStep t k G st with
        | inl e =>
          rw [e2] at hq hrun
          dsimp only at hq hrun
          obtain ⟨rfl, A', sc', rfl, i1, i2, i3⟩ := hq
          exact hW _ (fin e A' sc' i1 (hF.trans i2) i3 hrun)
        | inr z =>
          rw [e2] at hq hrun
          dsimp only at hq hrun
          have hlt := (hstep z e2).1
          rw [hrun] at hW
          obtain ⟨rfl, A', sc', rfl, i1, i2⟩ := hq
          exact hW _ (ih z.1 z.2.1 z.2.2 A' sc' (by omega) (hF.trans i1) i2)
    refine wp.go [17, 40] 40 fun W C hW hC => ?_
    refine ⟨fun c => absurd c (by decide), fun _ => ?_⟩
    refine ⟨_, _, _, _, twF, rfl, rfl, ?_⟩
    rw [h4]
    refine ⟨fun c => ?_, fun c => ?_⟩
    · exact hW _ (hgo (fun q => by have := q.1; omega))
    · refine ⟨_, _, _, _, twF, rfl, rfl, ?_⟩
      rw [h2]
      refine ⟨_, _, _, twF, rfl, ?_⟩
      refine hC _ _ _ (use (wpd.up (show d + 1 ≤ d + 6 by omega) (byteAt_spec (d := d) (k := k) hA hT)) ?_); rintro _ _ ⟨rfl, rfl⟩
      refine ⟨fun c3 => ?_, fun c3 => ?_⟩
      · have hrun : nRun t (f + 1) k G st = .inr G := by
          show (if st.length ≤ 1 ∧ chr t k = -1 then _ else _) = _
          rw [if_pos ⟨by omega, c3⟩]
        rw [hrun]
        exact ⟨Or.inr rfl, rfl, _, _, rfl, hA, hF, h6⟩
      · exact hW _ (hgo (fun q => c3 q.2))
theorem readsName_spec (hA : lens A) (hT : tapeOk (A 5) (sc 1) t) (h2 : sc 2 = 0) (h6 : gt (A 6) 0 = 0) : wp (d + 7) 298 (0, ent 2 [vR (some M)], [], tw h0 M A sc) (rdEnd h0 M A sc (nBegin t)) := by
  have hlen := hT.2.1
  have hl7 : (A 7).length = 20 := by rw [hA.eq 7]; rfl
  have hl8 : (A 8).length = 20 := by rw [hA.eq 8]; rfl
  have hl9 : (A 9).length = 20 := by rw [hA.eq 9]; rfl
  have hR : RD A (up sc 4 0) t 0 gNil := ⟨hA, by rw [upn_ne _ _ (by decide)]; exact hT, by rw [upn_ne _ _ (by decide)]; exact h2, h6, fun c hc => absurd hc (Nat.not_lt_zero c)⟩
  refine wp.go [17] 40 fun W C hW hC => ?_
  (refine ⟨_, _, _, twF, rfl, (Nat.le_of_ble_eq_true rfl), ?_⟩; rw [twP4])
  refine ⟨_, _, _, twF, rfl, ?_⟩
  refine hC _ _ _ (use (wpd.up (show d + 5 ≤ d + 6 by omega) (opensChain_spec (d := d) (op := 0) hR (Nat.zero_le _) (Or.inl ⟨rfl, rfl, rfl⟩) (up_eq _ _ _) (by decide))) ?_)
  intro r h' hq
  cases e : lenR t 0 gNil (-1) false with
  | inl x =>
    have hb : nBegin t = .inl x := by unfold nBegin; rw [e]
    rw [e] at hq
    dsimp only at hq
    rw [hb]
    obtain ⟨rfl, A', sc', rfl, i1, i2, i3⟩ := hq
    refine ⟨fun c => absurd rfl c, fun _ => ?_⟩
    exact ⟨Or.inl rfl, rfl, A', sc', rfl, i1, (Fr.upS rfl).trans i2, i3⟩
  | inr y =>
    have hb : nBegin t = nRun t 122 y.1 y.2 [(0, y.2.1, 1)] := by unfold nBegin; rw [e]
    obtain ⟨o1, o2, o3, o4⟩ := len_ok (Nat.zero_le _) (Or.inl ⟨rfl, rfl⟩) e
    rw [e] at hq
    dsimp only at hq
    rw [hb] at hW
    obtain ⟨rfl, X, rfl, hX, hXr⟩ := hq
    refine ⟨fun _ => ?_, fun c => absurd c (by decide)⟩
    refine hW _ (name_go (A0 := A) (sc0 := sc) 122 y.1 y.2 [(0, y.2.1, 1)] _ _ (by omega) (((((Fr.upA rfl).trans (Fr.upA rfl)).trans (Fr.upA rfl)).trans (Fr.upA rfl)).trans ((Fr.upS rfl).trans (Fr.upS rfl))) ⟨⟨?_, ?_, up_eq _ _ _, ?_⟩, ?_, ?_, o2, Nat.le_refl 1, o3, fun w hw => ?_, o3.1.1⟩)
    · exact (((hA.up (by rw [hX]; rfl)).up (by rw [List.length_set, hl7]; rfl)).up (by rw [List.length_set, hl8]; rfl)).up (by rw [List.length_set, hl9]; rfl)
    · rw [upn_ne _ _ (show 5 ≠ 9 by decide), upn_ne _ _ (show 5 ≠ 8 by decide), upn_ne _ _ (show 5 ≠ 7 by decide), upn_ne _ _ (show 5 ≠ 6 by decide), upn_ne _ _ (show 1 ≠ 2 by decide), upn_ne _ _ (show 1 ≠ 4 by decide)]; exact hT
    · rw [upn_ne _ _ (show 6 ≠ 9 by decide), upn_ne _ _ (show 6 ≠ 8 by decide), upn_ne _ _ (show 6 ≠ 7 by decide), up_eq]; exact hXr
    · refine stkN_cons (fun i z hz => by simp at hz) ?_
      rw [List.length_nil, upn_ne _ _ (show 7 ≠ 9 by decide), upn_ne _ _ (show 7 ≠ 8 by decide), up_eq, upn_ne _ _ (show 8 ≠ 9 by decide), up_eq, up_eq, gt_set (by rw [hl7]; decide), if_pos rfl, gt_set (by rw [hl8]; decide), if_pos rfl, gt_set (by rw [hl9]; decide), if_pos rfl]
      exact ⟨rfl, rfl, rfl⟩
    · rw [upn_ne _ _ (show 4 ≠ 2 by decide), up_eq]; rfl
    · rw [List.mem_singleton.mp hw]
      exact ⟨by show 0 + y.2.1 ≤ y.2.1; omega, Nat.le_refl _⟩
/-- what a text tells: by bonds, by a name -/
def rdR (t : List Int) (w : Int) : Nat ⊕ Gr := if w = 0 then bRun t 122 0 gNil [-1] false else nBegin t
def aTell (S : AS) (w : Int) : Int × AS := if 0 ≤ w ∧ w ≤ 1 then (match rdR S.2.2.2 w with
  | .inl e => (isub (-2) ((e : Nat) : Int), (S.1, S.2.1, S.2.2.1, []))
  | .inr H => (((H.1 : Nat) : Int), (H, pushG S.2.1 S.1, S.2.2.1, []))) else (-1, S)
theorem rdR_ok {t : List Int} {w : Int} (H : Gr) (e : rdR t w = .inr H) : H.ok := by
  unfold rdR at e
  split at e
  · exact bRun_ok 122 0 gNil [-1] false ⟨Nat.zero_le _, by decide, Or.inl ⟨rfl, rfl, rfl⟩⟩ H e
  · exact nBegin_ok H e
theorem tell_copy {V : Nat → List Int} {G : Gr} (hV : lens V) (hG : G.1 ≤ 16) (hr : isRow (V 6) 0 G) {w x2 : Int} {Q : Rs → AH → Prop}
    (hQ : ∀ N, N.length = 17 → isRow N 0 G → Q (.inl (some (vI ((G.1 : Nat) : Int)))) (tw h0 M (up V 1 N) sc)) :
    ∀ (j i : Nat) (N : List Int), j + i = 17 → N.length = 17 → (∀ x, x < i → gt N x = gt (V 6) x) → wp (d + 1) 287 (63, [some (vR (some M)), some (vI w), some (vI x2), some (vI ((i : Nat) : Int))], [], tw h0 M (up V 1 N) sc) Q := by
  intro j
  induction j with
  | zero =>
    intro i N hj hN he
    obtain rfl : i = 17 := by omega
    have hA2 : lens (up V 1 N) := hV.up (by rw [hN]; rfl)
    have hNr : isRow N 0 G := hr.congr hG fun x hx => by rw [Nat.zero_add]; exact he x hx
    refine wp.go [63] 30 fun W C hW hC => ?_
    refine ⟨fun _ => ?_, fun c => absurd c (by omega)⟩
    refine ⟨_, _, _, _, twF, rfl, rfl, ?_⟩
    refine ⟨_, _, _, twI rfl rfl, rfl, (by omega), gt_at (0) (by omega) (lenlt (j := 1) (hA2) (show (0) < 17 by omega)), ?_⟩
    rw [up_eq, hNr.1]
    exact hQ N hN hNr
  | succ j ih =>
    intro i N hj hN he
    have hA2 : lens (up V 1 N) := hV.up (by rw [hN]; rfl)
    refine wp.go [63] 30 fun W C hW hC => ?_
    refine ⟨fun c => absurd c (by omega), fun _ => ?_⟩
    refine ⟨_, _, _, _, twF, rfl, rfl, ?_⟩
    refine ⟨_, _, _, _, twF, rfl, rfl, ?_⟩
    refine ⟨_, _, _, twI rfl rfl, rfl, (by omega), gt_at (i) (by omega) (lenlt (j := 6) (hA2) (show (i) < 17 by omega)), ?_⟩
    rw [upn_ne _ _ (by decide)]
    (refine ⟨_, twI rfl rfl, (by omega), (ilt (i) (by omega) (lenlt (j := 1) (hA2) (show (i) < 17 by omega))), ?_⟩; rw [twSetI rfl rfl]; try rw [Int.toNat_natCast])
    rw [up_up, up_eq]
    (conv => whnf); simp (disch := omega) only [iadd_eq, isub_eq, imul_eq]
    refine hW _ (ih (i + 1) _ (by omega) (by rw [List.length_set]; exact hN) fun x hx => ?_)
    rw [gt_set (by omega)]
    by_cases e : x = i
    · rw [if_pos e, e]
    · rw [if_neg e]; exact he x (by omega)
theorem tell_tw (h : TW A sc S) (ho : S.ok) {w : Int} : wp (d + 8) 287 (0, ent 4 [vR (some M), vI w], [], tw h0 M A sc) (twEnd h0 M (vI (aTell S w).1) (aTell S w).2) := by
  obtain ⟨h1, h2, h3, h4, h5, h6, h7⟩ := id h
  have hl6 : (A 6).length = 17 := by rw [h1.eq 6]; rfl
  have tail : ∀ z, rdR S.2.2.2 w = z → 0 ≤ w ∧ w ≤ 1 → ∀ r h', rdEnd h0 M (up A 6 ((A 6).set 0 0)) (up sc 2 0) z r h' → ∃ v, r = .inl (some (vI v)) ∧ wp (d + 8) 287 (39, [some (vR (some M)), some (vI w), none, none], [vI v], h') (twEnd h0 M (vI (aTell S w).1) (aTell S w).2) := by
    intro z hz hw r h' hq
    unfold aTell
    rw [if_pos hw, hz]
    have keepT : ∀ A' sc', lens A' → Fr JR KR (up A 6 ((A 6).set 0 0)) A' (up sc 2 0) sc' → isRow (A' 1) 0 S.1 ∧ hist (A' 2) (sc' 0) S.2.1 ∧ shelvesOk (A' 3) (A' 4) S.2.2.1 ∧ listOk (A' 29) (A' 30) (A' 31) (sc' 7) ∧ countOk (A' 34) (A' 35) (A' 36) (sc' 8) := by
      intro A' sc' i1 i2
      have e : ∀ j, JR.elem j = false → j ≠ 6 → A' j = A j := fun j hj h6 => by rw [i2.1 j hj, upn_ne _ _ h6]
      have f : ∀ j, KR.elem j = false → j ≠ 2 → sc' j = sc j := fun j hj h6 => by rw [i2.2 j hj, upn_ne _ _ h6]
      rw [e 1 rfl (by decide), e 2 rfl (by decide), e 3 rfl (by decide), e 4 rfl (by decide), e 29 rfl (by decide), e 30 rfl (by decide), e 31 rfl (by decide), e 34 rfl (by decide), e 35 rfl (by decide), e 36 rfl (by decide), f 0 rfl (by decide), f 7 rfl (by decide), f 8 rfl (by decide)]
      exact ⟨h2, h3, h4, h6, h7⟩
    have tp : ∀ X : List Int, tapeOk X 0 [] := fun X => ⟨rfl, Nat.zero_le _, fun i hi => absurd hi (Nat.not_lt_zero i)⟩
    cases z with
    | inl e =>
      obtain ⟨rfl, A', sc', rfl, i1, i2, i3⟩ := hq
      obtain ⟨k1, k2, k3, k4, k5⟩ := keepT A' sc' i1 i2
      refine ⟨0, rfl, ?_⟩
      refine wp.go [63] 60 fun W C hW hC => ?_
      (refine ⟨_, _, _, twF, rfl, (Nat.le_of_ble_eq_true rfl), ?_⟩; rw [twP1])
      refine ⟨fun c => absurd rfl c, fun _ => ?_⟩
      refine ⟨_, _, _, _, twF, rfl, rfl, ?_⟩
      rw [upn_ne _ _ (show 3 ≠ 1 by decide), i3]
      conv => whnf
      dsimp only
      refine ⟨?_, _, _, rfl, i1, k1, ?_, k3, ?_, ?_, ?_⟩
      · rfl
      · rw [upn_ne _ _ (show 0 ≠ 1 by decide)]; exact k2
      · rw [up_eq]; exact tp _
      · rw [upn_ne _ _ (show 7 ≠ 1 by decide)]; exact k4
      · rw [upn_ne _ _ (show 8 ≠ 1 by decide)]; exact k5
    | inr H =>
      have hH := rdR_ok H hz
      obtain ⟨rfl, A', sc', rfl, i1, i2, i3⟩ := hq
      obtain ⟨k1, k2, k3, k4, k5⟩ := keepT A' sc' i1 i2
      refine ⟨1, rfl, ?_⟩
      refine wp.go [63] 60 fun W C hW hC => ?_
      (refine ⟨_, _, _, twF, rfl, (Nat.le_of_ble_eq_true rfl), ?_⟩; rw [twP1])
      refine ⟨fun _ => ?_, fun c => absurd c (by decide)⟩
      refine ⟨_, _, _, twF, rfl, hC _ _ _ (use (wpd.up (show d + 1 ≤ d + 7 by omega) (keepsAct_spec (d := d) i1 (by rw [upn_ne _ _ (show 0 ≠ 1 by decide)]; exact k2) ho.1.1.2.1 k1)) ?_)⟩
      rintro _ _ ⟨rfl, V, u, rfl, hV, hh⟩
      have hA2 : lens (up A' 2 V) := i1.up (by rw [hV]; rfl)
      have hl1 : (up A' 2 V 1).length = 17 := by rw [hA2.eq 1]; rfl
      have key := tell_copy (d := d + 7) (h0 := h0) (M := M) (sc := up (up sc' 1 0) 0 u) (V := up A' 2 V) (G := H) (w := w) (x2 := 1) hA2 hH.1.2.1 (by rw [upn_ne _ _ (by decide)]; exact i3) (Q := twEnd h0 M (vI ((H.1 : Nat) : Int)) (H, pushG S.2.1 S.1, S.2.2.1, [])) (fun N hN hNr => ?_) 17 0 _ rfl hl1 (fun x hx => absurd hx (by omega))
      · rw [upn_self] at key
        exact hW _ key
      · refine ⟨rfl, _, _, rfl, hA2.up (by rw [hN]; rfl), ?_, ?_, ?_, ?_, ?_, ?_⟩
        · rw [up_eq]; exact hNr
        · rw [upn_ne _ _ (show 2 ≠ 1 by decide), up_eq, up_eq]; exact hh
        · rw [upn_ne _ _ (show 3 ≠ 1 by decide), upn_ne _ _ (show 3 ≠ 2 by decide), upn_ne _ _ (show 4 ≠ 1 by decide), upn_ne _ _ (show 4 ≠ 2 by decide)]; exact k3
        · rw [upn_ne _ _ (show 1 ≠ 0 by decide), up_eq]; exact tp _
        · rw [upn_ne _ _ (show 29 ≠ 1 by decide), upn_ne _ _ (show 29 ≠ 2 by decide), upn_ne _ _ (show 30 ≠ 1 by decide), upn_ne _ _ (show 30 ≠ 2 by decide), upn_ne _ _ (show 31 ≠ 1 by decide), upn_ne _ _ (show 31 ≠ 2 by decide), upn_ne _ _ (show 7 ≠ 0 by decide), upn_ne _ _ (show 7 ≠ 1 by decide)]; exact k4
        · rw [upn_ne _ _ (show 34 ≠ 1 by decide), upn_ne _ _ (show 34 ≠ 2 by decide), upn_ne _ _ (show 35 ≠ 1 by decide), upn_ne _ _ (show 35 ≠ 2 by decide), upn_ne _ _ (show 36 ≠ 1 by decide), upn_ne _ _ (show 36 ≠ 2 by decide), upn_ne _ _ (show 8 ≠ 0 by decide), upn_ne _ _ (show 8 ≠ 1 by decide)]; exact k5
  refine wp.go [39] 60 fun W C hW hC => ?_
  refine hC _ _ _ (use (wpd.up (show d + 1 ≤ d + 7 by omega) (isIn_s (d := d) _ _ _ _)) ?_); rintro _ _ ⟨rfl, rfl⟩
  refine ⟨fun c => ?_, fun c => ?_⟩
  · have c1 := b1.mp c
    (refine ⟨_, _, _, twF, rfl, (Nat.le_of_ble_eq_true rfl), ?_⟩; rw [twP2])
    refine ⟨_, _, _, _, twF, rfl, rfl, ?_⟩
    (refine ⟨_, twI rfl rfl, (by omega), (ilt (0) (by omega) (lenlt (j := 6) (h1) (show (0) < 17 by omega))), ?_⟩; rw [twSetI rfl rfl]; try rw [Int.toNat_natCast])
    have hA1 : lens (up A 6 ((A 6).set 0 0)) := h1.up (by rw [List.length_set, hl6]; rfl)
    have hT1 : tapeOk (up A 6 ((A 6).set 0 0) 5) (up sc 2 0 1) S.2.2.2 := by rw [upn_ne _ _ (by decide), upn_ne _ _ (by decide)]; exact h5
    have h60 : gt (up A 6 ((A 6).set 0 0) 6) 0 = 0 := by rw [up_eq, gt_set (by omega), if_pos rfl]
    refine ⟨fun c2 => ?_, fun c2 => ?_⟩
    · refine ⟨_, _, _, twF, rfl, ?_⟩
      refine hC _ _ _ (use (readsName_spec (d := d) (t := S.2.2.2) hA1 hT1 (up_eq _ _ _) h60) ?_)
      intro r h' hq
      obtain ⟨v, rfl, ht⟩ := tail _ (by unfold rdR; rw [if_neg c2]) c1 r h' hq
      exact hW _ ht
    · refine ⟨_, _, _, twF, rfl, ?_⟩
      refine hC _ _ _ (use (wpd.up (show d + 6 ≤ d + 7 by omega) (readsBonds_spec (d := d) (t := S.2.2.2) hA1 hT1 (up_eq _ _ _) h60)) ?_)
      intro r h' hq
      obtain ⟨v, rfl, ht⟩ := tail _ (by unfold rdR; rw [if_pos c2]) c1 r h' hq
      exact hW _ ht
  · unfold aTell
    rw [if_neg (b0.mp c)]
    exact ⟨rfl, _, _, rfl, h⟩
end TELL
