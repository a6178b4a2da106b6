/-! THE TWIN LISTS all skeletons of a size -/
section CODANY
variable {G : Gr} {D E : Nat → Nat → Nat}
theorem root_any (hG : G.wf) (hD : Far G D) (hE : Far G E) : TT G 16 (fstC G D) = TT G 16 (fstC G E) := root_cert hG hD (fstC_lt hG hE) (root_is hG hE)
theorem codG_any (hG : G.wf) (hD : Far G D) (hE : Far G E) : codG G D = codG G E := by unfold codG; rw [root_any hG hD hE]
end CODANY
abbrev JX : List Nat := [10, 11, 12, 13, 14, 15, 16, 17, 18, 19, 20, 21, 22, 23, 24, 25, 26, 27, 28, 29, 30, 31, 32]
/-- some of the codes of n stand there; what was there of less is as it was -/
def LI (n : Nat) (A0 : Nat → List Int) (sc0 : Nat → Int) (A : Nat → List Int) (sc : Nat → Int) (P : List Nat → Bool) : Prop :=
  lens A ∧ Fr JX [5, 6] A0 A sc0 sc ∧ ListAt A n (offL n) ((codesL n).filter P) ∧ (∀ m, m ≠ n → gt (A 29) m = gt (A0 29) m ∧ gt (A 30) m = gt (A0 30) m) ∧ ∀ p, p < offL n → gt (A 31) p = gt (A0 31) p
theorem ListAt.low {A A' : Nat → List Int} {m f b : Nat} {Ls : List (List Nat)} (h : ListAt A m f Ls) (h1 : gt (A' 29) m = gt (A 29) m) (h2 : gt (A' 30) m = gt (A 30) m) (hb : f + m * Ls.length ≤ b) (h3 : ∀ p, p < b → gt (A' 31) p = gt (A 31) p) : ListAt A' m f Ls := by
  obtain ⟨l1, l2, l3, l4⟩ := h
  refine ⟨h1.trans l1, h2.trans l2, l3, fun k L hk => ?_⟩
  obtain ⟨p1, p2, p3⟩ := l4 k L hk
  refine ⟨p1, p2, fun i x hi => ?_⟩
  have hk2 := (List.getElem?_eq_some_iff.mp hk).1
  have hi2 := (List.getElem?_eq_some_iff.mp hi).1
  have : m * (k + 1) ≤ m * Ls.length := Nat.mul_le_mul_left m hk2
  rw [Nat.mul_succ] at this
  rw [h3 _ (by omega)]
  exact p3 i x hi
/-- what was looked at so far: codes below k, of k carbons below c -/
def LDone (m : Nat) (P : List Nat → Bool) (k c : Nat) : Prop := ∀ k' L c' D, (codesL m)[k']? = some L → c' < m → deg (gC L (m - 1)) c' ≠ 4 → (k' < k ∨ (k' = k ∧ c' < c)) → Far (gGrow (gC L (m - 1)) c') D → P (codG (gGrow (gC L (m - 1)) c') D) = true
section LISTSOF
variable {d : Nat} {h0 : AH} {M : Nat} {A0 : Nat → List Int} {sc0 : Nat → Int}
theorem lo_in {m : Nat} (hm1 : 1 ≤ m) (hm : m ≤ 10) (hL : ListAt A0 m (offL m) (codesL m)) {k : Nat} {L : List Nat} (hk : (codesL m)[k]? = some L) {Q : Rs → AH → Prop}
    (hQ : ∀ A sc P x3, LI (m + 1) A0 sc0 A sc P → LDone m P (k + 1) 0 → wp (d + 11) 305 (140, [some (vR (some M)), some (vI ((m + 1 : Nat) : Int)), some (vI ((k : Nat) : Int)), x3], [], tw h0 M A sc) Q) :
    ∀ (j c : Nat) (A : Nat → List Int) (sc : Nat → Int) (P : List Nat → Bool), j + c = m → LI (m + 1) A0 sc0 A sc P → LDone m P k c → wp (d + 11) 305 (44, [some (vR (some M)), some (vI ((m + 1 : Nat) : Int)), some (vI ((k : Nat) : Int)), some (vI ((c : Nat) : Int))], [], tw h0 M A sc) Q := by
  have e1 : isub ((m + 1 : Nat) : Int) 1 = ((m : Nat) : Int) := by rw [isub_eq (by omega)]; omega
  have hkl := (List.getElem?_eq_some_iff.mp hk).1
  have hoff := off_succ m hm1 hm
  have hroom := off_room (m + 1) (by omega) (by omega)
  obtain ⟨cl, cb, cok, cgr⟩ := cod_at hm1 (by omega) (List.mem_of_getElem? hk)
  have hg := cgr (m - 1) (by omega)
  have hgn : (gC L (m - 1)).1 = m := by rw [gC_n]; omega
  intro j
  induction j with
  | zero =>
    intro c A sc P hj hI hD
    obtain rfl : c = m := by omega
    refine wp.go [44, 140, 134] 30 fun W C hW hC => ?_
    conv => whnf
    rw [e1]
    refine ⟨fun _ => ?_, fun c => absurd c (by omega)⟩
    refine hW _ (hQ A sc P _ hI fun k' L' c' D h1 h2 h3 h4 h5 => hD k' L' c' D h1 h2 h3 ?_ h5)
    omega
  | succ j ih =>
    intro c A sc P hj hI hD
    obtain ⟨i1, i2, i3, i4, i5⟩ := id hI
    have hLm : ListAt A m (offL m) (codesL m) := hL.low (i4 m (by omega)).1 (i4 m (by omega)).2 (by omega : offL m + m * (codesL m).length ≤ offL (m + 1)) i5
    have step : ∀ A sc P, LI (m + 1) A0 sc0 A sc P → LDone m P k (c + 1) → wp (d + 11) 305 (134, [some (vR (some M)), some (vI ((m + 1 : Nat) : Int)), some (vI ((k : Nat) : Int)), some (vI ((c : Nat) : Int))], [], tw h0 M A sc) Q := by
      intro A sc P hI hD
      refine wp.go [44, 140] 10 fun W C hW hC => ?_
      (conv => whnf); simp (disch := omega) only [iadd_eq, isub_eq, imul_eq]
      exact hW _ (ih (c + 1) A sc P (by omega) hI hD)
    have hr1 := hLm.room hkl
    obtain ⟨p1, p2, p3⟩ := hLm.2.2.2 k L hk
    refine wp.go [44, 140, 134] 90 fun W C hW hC => ?_
    conv => whnf
    rw [e1]
    refine ⟨fun c => absurd c (by omega), fun _ => ?_⟩
    conv => whnf
    rw [e1]
    refine ⟨_, _, _, twF, rfl, ?_⟩
    refine hC _ _ _ (use (wpd.up (show d + 1 ≤ d + 10 by omega) (codeAt_spec (d := d) (k := k) i1 (by omega) hLm.2.1 (by omega))) ?_); rintro _ _ ⟨rfl, rfl⟩
    conv => whnf
    rw [e1]
    refine ⟨_, _, _, twF, rfl, ?_⟩
    refine hC _ _ _ (use (wpd.up (show d + 1 ≤ d + 10 by omega) (makes_spec (d := d) i1 hm1 (by omega) hr1 cl cok p3 cb)) ?_)
    rintro _ _ ⟨rfl, X, rfl, hX, hXr⟩
    have hA2 : lens (up A 32 X) := i1.up (by rw [hX]; rfl)
    have hrow := row_lt hg.1.2.1 (c := c)
    refine ⟨_, _, _, _, twF, rfl, rfl, ?_⟩
    (conv => whnf); simp (disch := omega) only [iadd_eq, isub_eq, imul_eq]
    refine ⟨_, _, _, twI rfl rfl, rfl, (by omega), gt_at (1 + c) (by omega) (lenlt (j := 32) (hA2) (show (1 + c) < 17 by omega)), ?_⟩
    rw [up_eq, isRow0 hXr (by omega)]
    refine hC _ _ _ (use (wpd.up (show d + 1 ≤ d + 10 by omega) (size_spec (d := d) (by omega))) ?_); rintro _ _ ⟨rfl, rfl⟩
    rw [row_deg hg.1.2.1]
    refine ⟨fun c3 => ?_, fun c3 => ?_⟩
    · have c3 : deg (gC L (m - 1)) c ≠ 4 := by have c3 : ((deg (gC L (m - 1)) c : Nat) : Int) ≠ 4 := c3; omega
      have ho := grow_ok hg (c := c) (by omega) (by omega) c3
      obtain ⟨D, hDf⟩ := ho.2.2
      refine ⟨_, _, _, _, twF, rfl, rfl, ?_⟩
      conv => whnf
      rw [pow_i (by omega)]
      (refine ⟨_, twI rfl rfl, (by omega), (ilt (m + 1) (by omega) (lenlt (j := 32) (hA2) (show (m + 1) < 17 by omega))), ?_⟩; rw [twSetI rfl rfl]; try rw [Int.toNat_natCast])
      rw [up_up, up_eq]
      have hA3 : lens (up A 32 (X.set (m + 1) ((2 ^ c : Nat) : Int))) := i1.up (by rw [List.length_set, hX]; rfl)
      refine ⟨_, _, _, _, twF, rfl, rfl, ?_⟩
      (conv => whnf); simp (disch := omega) only [iadd_eq, isub_eq, imul_eq]
      refine ⟨_, _, _, twI rfl rfl, rfl, (by omega), gt_at (1 + c) (by omega) (lenlt (j := 32) (hA3) (show (1 + c) < 17 by omega)), ?_⟩
      rw [up_eq, gt_set (by omega), if_neg (by omega), isRow0 hXr (by omega)]
      conv => whnf
      rw [e1, pow_i (by omega), ior_eq (by omega) (by have := pow16 (k := m) (by omega); omega)]
      (refine ⟨_, twI rfl rfl, (by omega), (ilt (1 + c) (by omega) (lenlt (j := 32) (hA3) (show (1 + c) < 17 by omega))), ?_⟩; rw [twSetI rfl rfl]; try rw [Int.toNat_natCast])
      rw [up_up, up_eq, show ((1 + (c : Int)).toNat) = 1 + c by omega]
      have hA4 : lens (up A 32 ((X.set (m + 1) ((2 ^ c : Nat) : Int)).set (1 + c) ((row (gC L (m - 1)) c ||| 2 ^ m : Nat) : Int))) := i1.up (by rw [List.length_set, List.length_set, hX]; rfl)
      refine ⟨_, _, _, _, twF, rfl, rfl, ?_⟩
      (refine ⟨_, twI rfl rfl, (by omega), (ilt (0) (by omega) (lenlt (j := 32) (hA4) (show (0) < 17 by omega))), ?_⟩; rw [twSetI rfl rfl]; try rw [Int.toNat_natCast])
      rw [up_up, up_eq]
      have hlen : (((X.set (m + 1) ((2 ^ c : Nat) : Int)).set (1 + c) ((row (gC L (m - 1)) c ||| 2 ^ m : Nat) : Int)).set 0 ((m + 1 : Nat) : Int)).length = 17 := by rw [List.length_set, List.length_set, List.length_set, hX]
      have hA5 : lens (up A 32 (((X.set (m + 1) ((2 ^ c : Nat) : Int)).set (1 + c) ((row (gC L (m - 1)) c ||| 2 ^ m : Nat) : Int)).set 0 ((m + 1 : Nat) : Int))) := i1.up (by rw [hlen]; rfl)
      have hrw : isRow (((X.set (m + 1) ((2 ^ c : Nat) : Int)).set (1 + c) ((row (gC L (m - 1)) c ||| 2 ^ m : Nat) : Int)).set 0 ((m + 1 : Nat) : Int)) 0 (gGrow (gC L (m - 1)) c) := by
        refine ⟨?_, fun i hi => ?_⟩
        · rw [gt_set (by rw [List.length_set, List.length_set]; omega), if_pos rfl]
          show _ = (((gC L (m - 1)).1 + 1 : Nat) : Int)
          rw [hgn]
        · have hi : i < (gC L (m - 1)).1 + 1 := hi
          rw [Nat.zero_add, gt_set (by rw [List.length_set, List.length_set]; omega), if_neg (by omega), gt_set (by rw [List.length_set]; omega)]
          by_cases e : i = m
          · subst e
            rw [if_neg (by omega), gt_set (by omega), if_pos (by omega)]
            have := row_grow_n hg.1 (c := c) (by omega) (by omega)
            rw [hgn] at this
            rw [this, Nat.zero_or]
          · rw [row_grow hg.1 (by omega) (by omega) (by omega), hgn]
            by_cases e2 : i = c
            · subst e2
              rw [if_pos rfl, if_pos rfl]
            · rw [if_neg (by omega), if_neg e2, gt_set (by omega), if_neg (by omega)]
              exact isRow0 hXr (by omega)
      refine ⟨_, _, _, _, twF, rfl, rfl, ?_⟩
      refine ⟨_, _, _, twF, rfl, ?_⟩
      refine hC _ _ _ (use (looksAt_spec ho hDf hA5 (jr := 32) (w := 0) rfl rfl rfl (by decide) (by rw [up_eq, hlen]; decide) (by decide) (by rw [up_eq]; exact hrw)) ?_)
      rintro _ _ ⟨rfl, A6, sc6, tab, rfl, hS, hF6⟩
      refine ⟨_, _, _, twF, rfl, ?_⟩
      refine hC _ _ _ (use (wpd.up (show d + 6 ≤ d + 10 by omega) (codes_spec (d := d) ho.1 hDf hS)) ?_)
      rintro _ _ ⟨rfl, Y1, Y2, Y3, hY1, hY2, hY3, rfl, hZ⟩
      have hA7 : lens (up (up (up A6 26 Y3) 27 Y1) 28 Y2) := ((hS.1.1.up (by rw [hY3]; rfl)).up (by rw [hY1]; rfl)).up (by rw [hY2]; rfl)
      have hF7 : Fr JX [5, 6] A (up (up (up A6 26 Y3) 27 Y1) 28 Y2) sc sc6 := ((((Fr.upA (A := A) (j := 32) rfl).trans (hF6.wide rfl rfl)).trans (Fr.upA rfl)).trans (Fr.upA rfl)).trans (Fr.upA rfl)
      have k29 : ∀ j, [29, 30, 31].elem j = true → up (up (up A6 26 Y3) 27 Y1) 28 Y2 j = A j := by
        intro j hj
        have hj := List.mem_of_elem_eq_true hj
        have hj : j = 29 ∨ j = 30 ∨ j = 31 := by simpa using hj
        rw [upn_ne _ _ (by omega), upn_ne _ _ (by omega), upn_ne _ _ (by omega), hF6.1 j (by rcases hj with rfl | rfl | rfl <;> rfl), upn_ne _ _ (by omega)]
      have hLn : ListAt (up (up (up A6 26 Y3) 27 Y1) 28 Y2) (m + 1) (offL (m + 1)) ((codesL (m + 1)).filter P) := i3.low (by rw [k29 29 rfl]) (by rw [k29 30 rfl]) (Nat.le_refl _) (fun p _ => by rw [k29 31 rfl])
      have hflen : ((codesL (m + 1)).filter P).length ≤ (codesL (m + 1)).length := List.length_filter_le _ _
      have hfl2 : (m + 1) * ((codesL (m + 1)).filter P).length ≤ (m + 1) * (codesL (m + 1)).length := Nat.mul_le_mul_left _ hflen
      have hgn2 : (gGrow (gC L (m - 1)) c).1 = m + 1 := by show (gC L (m - 1)).1 + 1 = m + 1; rw [hgn]
      have hin : codG (gGrow (gC L (m - 1)) c) D ∈ codesL (m + 1) := by
        have := code_in ho hDf (by rw [hgn2]; omega)
        rw [hgn2] at this; exact this
      obtain ⟨q1, q2, -, -⟩ := cod_at (n := m + 1) (by omega) (by omega) hin
      refine ⟨_, _, _, twF, rfl, ?_⟩
      refine hC _ _ _ (use (wpd.up (show d + 3 ≤ d + 10 by omega) (comesIn_spec (d := d) hA7 (by omega) (by omega) hLn (by omega) q1 (by rw [upn_ne _ _ (by decide), upn_ne _ _ (by decide), up_eq]; exact hZ) q2)) ?_)
      rintro _ _ ⟨rfl, A8, rfl, hA8, hF8, hL8, h29, h31⟩
      rw [insC_filter (clS (m + 1) (by omega) (by omega)) hin P] at hL8
      refine hW _ (step A8 sc6 (fun X => P X || eqL X (codG (gGrow (gC L (m - 1)) c) D)) ⟨hA8, i2.trans (hF7.trans (hF8.wide rfl rfl)), hL8, fun q hq => ⟨?_, ?_⟩, fun p hp => ?_⟩ ?_)
      · rw [h29 q hq, k29 29 rfl]; exact (i4 q hq).1
      · rw [hF8.1 30 rfl, k29 30 rfl]; exact (i4 q hq).2
      · rw [h31 p hp, k29 31 rfl]; exact i5 p hp
      · intro k' L' c' D' g1 g2 g3 g4 g5
        by_cases e : k' = k ∧ c' = c
        · obtain ⟨rfl, rfl⟩ := e
          rw [hk] at g1
          cases g1
          rw [codG_any ho.1 g5 hDf]
          show (P _ || eqL _ _) = true
          have : ∀ K : List Nat, eqL K K = true := by
            intro K
            induction K with
            | nil => rfl
            | cons a k ih => unfold eqL; rw [Nat.beq_refl, ih]; rfl
          rw [this, Bool.or_true]
        · show (P _ || eqL _ _) = true
          rw [hD k' L' c' D' g1 g2 g3 (by omega) g5, Bool.true_or]
    · have c3 : deg (gC L (m - 1)) c = 4 := by have c3 : ((deg (gC L (m - 1)) c : Nat) : Int) = 4 := c3; omega
      refine hW _ (step (up A 32 X) sc P ⟨hA2, i2.trans (Fr.upA rfl), i3.low ?_ ?_ (Nat.le_refl _) (fun p _ => ?_), fun q hq => ?_, fun p hp => ?_⟩ ?_)
      · rw [upn_ne _ _ (by decide)]
      · rw [upn_ne _ _ (by decide)]
      · rw [upn_ne _ _ (by decide)]
      · rw [upn_ne _ _ (by decide), upn_ne _ _ (by decide)]; exact i4 q hq
      · rw [upn_ne _ _ (by decide)]; exact i5 p hp
      · intro k' L' c' D' g1 g2 g3 g4 g5
        refine hD k' L' c' D' g1 g2 g3 ?_ g5
        rcases g4 with g4 | ⟨rfl, g4⟩
        · exact Or.inl g4
        · by_cases e : c' = c
          · subst e
            rw [hk] at g1
            cases g1
            exact absurd c3 g3
          · exact Or.inr ⟨rfl, by omega⟩
theorem lo_out {m : Nat} (hm1 : 1 ≤ m) (hm : m ≤ 10) (hL : ListAt A0 m (offL m) (codesL m)) :
    ∀ (j k : Nat) (A : Nat → List Int) (sc : Nat → Int) (P : List Nat → Bool) (x3 : Option AV), j + k = (codesL m).length → LI (m + 1) A0 sc0 A sc P → LDone m P k 0 → wp (d + 11) 305 (30, [some (vR (some M)), some (vI ((m + 1 : Nat) : Int)), some (vI ((k : Nat) : Int)), x3], [], tw h0 M A sc) (fun r h' => r = .inl none ∧ ∃ A' sc' P', h' = tw h0 M A' sc' ∧ LI (m + 1) A0 sc0 A' sc' P' ∧ LDone m P' (codesL m).length 0) := by
  have e1 : isub ((m + 1 : Nat) : Int) 1 = ((m : Nat) : Int) := by rw [isub_eq (by omega)]; omega
  have hroom := off_room m hm1 (by omega)
  have hlen : (codesL m).length ≤ 3200 := by
    have : 1 * (codesL m).length ≤ m * (codesL m).length := Nat.mul_le_mul_right _ hm1
    omega
  intro j
  induction j with
  | zero =>
    intro k A sc P x3 hj hI hD
    obtain rfl : k = (codesL m).length := by omega
    obtain ⟨i1, i2, i3, i4, i5⟩ := id hI
    refine wp.go [30, 44] 30 fun W C hW hC => ?_
    refine ⟨_, _, _, _, twF, rfl, rfl, ?_⟩
    conv => whnf
    rw [e1]
    refine ⟨_, _, _, twI rfl rfl, rfl, (by omega), gt_at (m) (by omega) (lenlt (j := 29) (i1) (show (m) < 12 by omega)), ?_⟩
    rw [(i4 m (by omega)).1, hL.1]
    refine ⟨fun _ => ?_, fun c => absurd c (by omega)⟩
    exact ⟨rfl, A, sc, P, rfl, hI, hD⟩
  | succ j ih =>
    intro k A sc P x3 hj hI hD
    obtain ⟨i1, i2, i3, i4, i5⟩ := id hI
    refine wp.go [30, 44] 30 fun W C hW hC => ?_
    refine ⟨_, _, _, _, twF, rfl, rfl, ?_⟩
    conv => whnf
    rw [e1]
    refine ⟨_, _, _, twI rfl rfl, rfl, (by omega), gt_at (m) (by omega) (lenlt (j := 29) (i1) (show (m) < 12 by omega)), ?_⟩
    rw [(i4 m (by omega)).1, hL.1]
    refine ⟨fun c => absurd c (by omega), fun _ => ?_⟩
    refine hW _ (lo_in hm1 hm hL (k := k) (List.getElem?_eq_getElem (show k < (codesL m).length by omega)) (fun A' sc' P' x3' hI' hD' => ?_) m 0 A sc P rfl hI hD)
    refine wp.go [30] 10 fun W C hW hC => ?_
    (conv => whnf); simp (disch := omega) only [iadd_eq, isub_eq, imul_eq]
    exact hW _ (ih (k + 1) A' sc' P' x3' (by omega) hI' hD')
theorem listsOf_spec {m : Nat} (hm1 : 1 ≤ m) (hm : m ≤ 10) (hA : lens A0) (hL : ListAt A0 m (offL m) (codesL m)) :
    wp (d + 11) 305 (0, ent 4 [vR (some M), vI ((m + 1 : Nat) : Int)], [], tw h0 M A0 sc0) (fun r h' => r = .inl none ∧ ∃ A' sc', h' = tw h0 M A' sc' ∧ LI (m + 1) A0 sc0 A' sc' (fun _ => true)) := by
  have e1 : isub ((m + 1 : Nat) : Int) 1 = ((m : Nat) : Int) := by rw [isub_eq (by omega)]; omega
  have hoff := off_succ m hm1 hm
  have hroom := off_room (m + 1) (by omega) (by omega)
  have hl29 : (A0 29).length = 12 := by rw [hA.eq 29]; rfl
  have hl30 : (A0 30).length = 12 := by rw [hA.eq 30]; rfl
  refine wp.go [30] 60 fun W C hW hC => ?_
  refine ⟨_, _, _, _, twF, rfl, rfl, ?_⟩
  refine ⟨_, _, _, _, twF, rfl, rfl, ?_⟩
  conv => whnf
  rw [e1]
  refine ⟨_, _, _, twI rfl rfl, rfl, (by omega), gt_at (m) (by omega) (lenlt (j := 29) (hA) (show (m) < 12 by omega)), ?_⟩
  rw [hL.1]
  refine ⟨_, _, _, twF, rfl, ?_⟩
  refine hC _ _ _ (use (wpd.up (show d + 1 ≤ d + 10 by omega) (codeAt_spec (d := d) (k := (codesL m).length) hA (by omega) hL.2.1 (by omega))) ?_); rintro _ _ ⟨rfl, rfl⟩
  (refine ⟨_, twI rfl rfl, (by omega), (ilt (m + 1) (by omega) (lenlt (j := 30) (hA) (show (m + 1) < 12 by omega))), ?_⟩; rw [twSetI rfl rfl]; try rw [Int.toNat_natCast])
  have hA2 : lens (up A0 30 ((A0 30).set (m + 1) ((offL m + m * (codesL m).length : Nat) : Int))) := hA.up (by rw [List.length_set, hl30]; rfl)
  refine ⟨_, _, _, _, twF, rfl, rfl, ?_⟩
  (refine ⟨_, twI rfl rfl, (by omega), (ilt (m + 1) (by omega) (lenlt (j := 29) (hA2) (show (m + 1) < 12 by omega))), ?_⟩; rw [twSetI rfl rfl]; try rw [Int.toNat_natCast])
  rw [upn_ne _ _ (by decide)]
  have hA3 : lens (up (up A0 30 ((A0 30).set (m + 1) ((offL m + m * (codesL m).length : Nat) : Int))) 29 ((A0 29).set (m + 1) 0)) := hA2.up (by rw [List.length_set, hl29]; rfl)
  refine hW _ (use (lo_out (A0 := A0) (sc0 := sc0) hm1 hm hL (codesL m).length 0 _ sc0 (fun _ => false) none (by omega) ⟨hA3, (Fr.upA rfl).trans (Fr.upA rfl), ⟨?_, ?_, ?_, ?_⟩, fun q hq => ⟨?_, ?_⟩, fun p hp => ?_⟩ ?_) ?_)
  · rw [up_eq, gt_set (by omega), if_pos rfl, List.filter_eq_nil_iff.mpr (fun _ _ => by decide)]
    rfl
  · rw [upn_ne _ _ (by decide), up_eq, gt_set (by omega), if_pos rfl, hoff]
  · rw [List.filter_eq_nil_iff.mpr (fun _ _ => by decide)]
    show offL (m + 1) + (m + 1) * 0 ≤ 3200
    omega
  · intro k L hk
    rw [List.filter_eq_nil_iff.mpr (fun _ _ => by decide)] at hk
    simp at hk
  · rw [up_eq, gt_set (by omega), if_neg hq]
  · rw [upn_ne _ _ (by decide), up_eq, gt_set (by omega), if_neg hq]
  · rw [upn_ne _ _ (by decide), upn_ne _ _ (by decide)]
  · intro k' L' c' D' g1 g2 g3 g4 g5; omega
  · rintro _ _ ⟨rfl, A', sc', P', rfl, ⟨i1, i2, i3, i4, i5⟩, hD⟩
    refine ⟨rfl, A', sc', rfl, i1, i2, ?_, i4, i5⟩
    have : (codesL (m + 1)).filter P' = (codesL (m + 1)).filter fun _ => true := by
      refine List.filter_congr fun K hK => ?_
      obtain ⟨k, L, c, h1, h2, h3, h4⟩ := code_of (n := m + 1) (by omega) (by omega) hK
      rw [show m + 1 - 1 = m from rfl] at h1 h2
      rw [show m + 1 - 2 = m - 1 by omega] at h3 h4
      obtain ⟨-, -, -, cgr⟩ := cod_at hm1 (by omega) (List.mem_of_getElem? h1)
      have hg := cgr (m - 1) (by omega)
      have hgn : (gC L (m - 1)).1 = m := by rw [gC_n]; omega
      obtain ⟨D, hDf⟩ := (grow_ok hg (c := c) (by omega) (by omega) h3).2.2
      have := hD k L c D h1 h2 h3 (Or.inl (List.getElem?_eq_some_iff.mp h1).1) hDf
      rw [h4 D hDf] at this
      exact this
    rw [this] at i3
    exact i3
end LISTSOF
