/-! THE TWIN writes a chain -/
theorem chF_mono {G : Gr} {tx : Nat → Nat → Tx} {P : List Nat} {fr : Int} : ∀ (j m : Nat), (chF G tx P fr m).length ≤ (chF G tx P fr (m + j)).length
  | 0, m => Nat.le_refl _
  | j + 1, m => by
    have := chF_mono (G := G) (tx := tx) (P := P) (fr := fr) j m
    show _ ≤ (chF G tx P fr (m + j) ++ _).length
    rw [List.length_append]
    omega
section CHAIN
variable {d : Nat} {h0 : AH} {M : Nat} {A : Nat → List Int} {sc : Nat → Int} {tab : List Tr} {G : Gr} {D : Nat → Nat → Nat}
theorem LineOk.frame {A A' : Nat → List Int} {sc sc' : Nat → Int} {L : Tx} {J K : List Nat} (h : LineOk A sc L) (hA : lens A') (hF : Fr J K A A' sc sc') (h1 : J.elem 42 = false) (h2 : K.elem 13 = false) : LineOk A' sc' L := by
  refine ⟨hA, ?_⟩
  rw [hF.1 42 h1, hF.2 13 h2]
  exact h.2
/-- one text behind the line -/
theorem copy_go {a b fr : Int} {many i n k : Nat} {q : Nat} {t L0 : Tx} {A1 : Nat → List Int} {sc1 : Nat → Int} (hq : q < 256) (hto : okX t) (htl : t.length ≤ 96) (hL : L0.length + t.length ≤ 95) (hk4 : k < 4) (hkq : gt (A1 45) k = ((q : Nat) : Int)) (htx : txAt (A1 40) (96 * q) (gt (A1 41) q) t) {Q : Rs → AH → Prop}
    (hQ : ∀ A' sc' x8, LineOk A' sc' (L0 ++ t) → Fr [42] [13] A1 A' sc1 sc' → wp (d + 3) 384 (118, [some (vR (some M)), some (vI a), some (vI b), some (vI fr), some (vI ((many : Nat) : Int)), some (vI ((i : Nat) : Int)), some (vI ((n : Nat) : Int)), some (vI ((k : Nat) : Int)), x8], [], tw h0 M A' sc') Q) :
    ∀ (j x : Nat) (A' : Nat → List Int) (sc' : Nat → Int), j + x = t.length → LineOk A' sc' (L0 ++ t.take x) → Fr [42] [13] A1 A' sc1 sc' → wp (d + 3) 384 (73, [some (vR (some M)), some (vI a), some (vI b), some (vI fr), some (vI ((many : Nat) : Int)), some (vI ((i : Nat) : Int)), some (vI ((n : Nat) : Int)), some (vI ((k : Nat) : Int)), some (vI ((x : Nat) : Int))], [], tw h0 M A' sc') Q := by
  intro j
  induction j with
  | zero =>
    intro x A' sc' hj hL1 hF
    obtain rfl : x = t.length := by omega
    have hA := hL1.1
    rw [List.take_length] at hL1
    refine wp.go [73, 118] 40 fun W C hW hC => ?_
    refine ⟨_, _, _, _, twF, rfl, rfl, ?_⟩
    refine ⟨_, _, _, _, twF, rfl, rfl, ?_⟩
    refine ⟨_, _, _, twI rfl rfl, rfl, (by omega), gt_at (k) (by omega) (lenlt (j := 45) (hA) (show (k) < 4 by omega)), ?_⟩
    rw [hF.1 45 rfl, hkq]
    refine ⟨_, _, _, twI rfl rfl, rfl, (by omega), gt_at (q) (by omega) (lenlt (j := 41) (hA) (show (q) < 256 by omega)), ?_⟩
    rw [hF.1 41 rfl, htx.1]
    refine ⟨fun _ => ?_, fun c => absurd c (by omega)⟩
    exact hW _ (hQ A' sc' _ hL1 hF)
  | succ j ih =>
    intro x A' sc' hj hL1 hF
    have hA := hL1.1
    have hxl : x < t.length := by omega
    have ht := htx.2 x _ (List.getElem?_eq_getElem hxl)
    have hto2 := hto _ (List.getElem_mem hxl)
    refine wp.go [73, 118] 60 fun W C hW hC => ?_
    refine ⟨_, _, _, _, twF, rfl, rfl, ?_⟩
    refine ⟨_, _, _, _, twF, rfl, rfl, ?_⟩
    refine ⟨_, _, _, twI rfl rfl, rfl, (by omega), gt_at (k) (by omega) (lenlt (j := 45) (hA) (show (k) < 4 by omega)), ?_⟩
    rw [hF.1 45 rfl, hkq]
    refine ⟨_, _, _, twI rfl rfl, rfl, (by omega), gt_at (q) (by omega) (lenlt (j := 41) (hA) (show (q) < 256 by omega)), ?_⟩
    rw [hF.1 41 rfl, htx.1]
    refine ⟨fun c => absurd c (by omega), fun _ => ?_⟩
    refine ⟨_, _, _, _, twF, rfl, rfl, ?_⟩
    refine ⟨_, _, _, _, twF, rfl, rfl, ?_⟩
    refine ⟨_, _, _, twI rfl rfl, rfl, (by omega), gt_at (k) (by omega) (lenlt (j := 45) (hA) (show (k) < 4 by omega)), ?_⟩
    rw [hF.1 45 rfl, hkq]
    (conv => whnf); simp (disch := omega) only [iadd_eq, isub_eq, imul_eq]
    refine ⟨_, _, _, twI rfl rfl, rfl, (by omega), gt_at (96 * q + x) (by omega) (lenlt (j := 40) (hA) (show (96 * q + x) < 24576 by omega)), ?_⟩
    rw [hF.1 40 rfl, ht]
    refine ⟨_, _, _, twF, rfl, ?_⟩
    refine hC _ _ _ (use (wpd.up (show d + 1 ≤ d + 2 by omega) (writes_spec (d := d) hL1 (by rw [List.length_append, List.length_take]; omega) hto2)) ?_)
    rintro _ _ ⟨rfl, A2, sc2, rfl, i1, i2⟩
    (conv => whnf); simp (disch := omega) only [iadd_eq, isub_eq, imul_eq]
    refine hW _ (ih (x + 1) A2 sc2 (by omega) ?_ (hF.trans i2))
    rw [List.take_succ, List.getElem?_eq_getElem hxl]
    rw [List.append_assoc] at i1
    exact i1
/-- all texts of one place -/
theorem place_go {a b fr : Int} {many i : Nat} {R : List Nat} {c : Nat} {tx : Nat → Tx} {L0 : Tx} {A1 : Nat → List Int} {sc1 : Nat → Int} (hi : i < 90) (hc : c < 16) (hR4 : R.length ≤ 4) (hRx : ∀ x, x ∈ R → x < 16 ∧ okX (tx x) ∧ (tx x).length ≤ 96 ∧ txAt (A1 40) (96 * (16 * c + x)) (gt (A1 41) (16 * c + x)) (tx x)) (hv : hvAt (A1 45) c R) (hL : (L0 ++ ((R.map tx).reverse).flatMap (oneT i)).length ≤ 95) {Q : Rs → AH → Prop}
    (hQ : ∀ A' sc' x7 x8, LineOk A' sc' (L0 ++ ((R.map tx).reverse).flatMap (oneT i)) → Fr [42] [13] A1 A' sc1 sc' → wp (d + 3) 384 (124, [some (vR (some M)), some (vI a), some (vI b), some (vI fr), some (vI ((many : Nat) : Int)), some (vI ((i : Nat) : Int)), some (vI ((R.length : Nat) : Int)), x7, x8], [], tw h0 M A' sc') Q) :
    ∀ (j k : Nat) (A' : Nat → List Int) (sc' : Nat → Int) (x8 : Option AV), j + k = R.length → LineOk A' sc' (L0 ++ (((R.map tx).reverse).take k).flatMap (oneT i)) → Fr [42] [13] A1 A' sc1 sc' → wp (d + 3) 384 (43, [some (vR (some M)), some (vI a), some (vI b), some (vI fr), some (vI ((many : Nat) : Int)), some (vI ((i : Nat) : Int)), some (vI ((R.length : Nat) : Int)), some (vI ((k : Nat) : Int)), x8], [], tw h0 M A' sc') Q := by
  have hlr : ((R.map tx).reverse).length = R.length := by rw [List.length_reverse, List.length_map]
  intro j
  induction j with
  | zero =>
    intro k A' sc' x8 hj hL1 hF
    obtain rfl : k = R.length := by omega
    rw [show ((R.map tx).reverse).take R.length = (R.map tx).reverse by rw [← hlr, List.take_length]] at hL1
    refine wp.go [43, 73, 118, 124] 40 fun W C hW hC => ?_
    refine ⟨fun _ => ?_, fun c => absurd c (by omega)⟩
    exact hW _ (hQ A' sc' _ _ hL1 hF)
  | succ j ih =>
    intro k A' sc' x8 hj hL1 hF
    have hkr : k < R.reverse.length := by rw [List.length_reverse]; omega
    have hkl : k < ((R.map tx).reverse).length := by rw [hlr]; omega
    have hmem : R.reverse[k] ∈ R := List.mem_reverse.mp (List.getElem_mem hkr)
    obtain ⟨x1, x2, x3, x4⟩ := hRx _ hmem
    have hkq := hv k _ (List.getElem?_eq_getElem hkr)
    have het : ((R.map tx).reverse)[k] = tx (R.reverse[k]) := by
      have : (R.map tx).reverse = R.reverse.map tx := (List.map_reverse).symm
      simp only [this, List.getElem_map]
    have hpre : (((R.map tx).reverse).take (k + 1)).flatMap (oneT i) = (((R.map tx).reverse).take k).flatMap (oneT i) ++ oneT i (tx (R.reverse[k])) := by
      rw [List.take_succ, List.getElem?_eq_getElem hkl, List.flatMap_append, het]
      simp
    have hlen : (L0 ++ (((R.map tx).reverse).take k).flatMap (oneT i)).length + (oneT i (tx (R.reverse[k]))).length ≤ 95 := by
      refine Nat.le_trans ?_ hL
      have : (R.map tx).reverse = ((R.map tx).reverse).take (k + 1) ++ ((R.map tx).reverse).drop (k + 1) := (List.take_append_drop _ _).symm
      rw [this, List.flatMap_append, hpre]
      have e2 : (((R.map tx).reverse.take (k + 1) ++ (R.map tx).reverse.drop (k + 1)).take k) = ((R.map tx).reverse).take k := by rw [List.take_append_drop]
      rw [e2]
      simp only [List.length_append]
      omega
    have hone : (oneT i (tx (R.reverse[k]))).length = 1 + (numT (i + 1)).length + 1 + (tx (R.reverse[k])).length := by
      unfold oneT
      simp only [List.length_cons, List.length_append]
      omega
    have hnl := numT_len (i + 1)
    generalize hLL : L0 ++ (((R.map tx).reverse).take k).flatMap (oneT i) = LL at *
    refine wp.go [43, 73, 118, 124] 60 fun W C hW hC => ?_
    refine ⟨fun c => absurd c (by omega), fun _ => ?_⟩
    refine ⟨_, _, _, twF, rfl, ?_⟩
    refine hC _ _ _ (use (wpd.up (show d + 1 ≤ d + 2 by omega) (writes_spec (d := d) (c := 45) hL1 (by omega) ⟨by decide, by decide⟩)) ?_)
    rintro _ _ ⟨rfl, A2, sc2, rfl, i1, i2⟩
    refine ⟨_, _, _, twF, rfl, ?_⟩
    conv => whnf
    rw [iadd_eq (by omega), show ((i : Nat) : Int) + 1 = ((i + 1 : Nat) : Int) by omega]
    refine hC _ _ _ (use (writesN_spec (d := d) (v := i + 1) i1 (by rw [List.length_append, List.length_singleton]; omega) (by omega)) ?_)
    rintro _ _ ⟨rfl, A3, sc3, rfl, j1, j2⟩
    refine ⟨_, _, _, twF, rfl, ?_⟩
    refine hC _ _ _ (use (wpd.up (show d + 1 ≤ d + 2 by omega) (writes_spec (d := d) (c := 58) j1 (by rw [List.length_append, List.length_append, List.length_singleton]; omega) ⟨by decide, by decide⟩)) ?_)
    rintro _ _ ⟨rfl, A4, sc4, rfl, k1, k2⟩
    have hF4 : Fr [42] [13] A1 A4 sc1 sc4 := ((hF.trans i2).trans j2).trans k2
    have key := copy_go (d := d) (h0 := h0) (M := M) (a := a) (b := b) (fr := fr) (many := many) (i := i) (n := R.length) (k := k) (q := 16 * c + R.reverse[k]) (t := tx (R.reverse[k])) (L0 := LL ++ [45] ++ numT (i + 1) ++ [58]) (A1 := A1) (sc1 := sc1) (by omega) x2 x3 (by simp only [List.length_append, List.length_singleton]; omega) (by omega) hkq x4 (Q := Q) (fun A5 sc5 x8' h5 hF5 => ?_) (tx (R.reverse[k])).length 0 A4 sc4 (by omega) (by rw [List.take_zero, List.append_nil]; exact k1) hF4
    · exact hW _ key
    · refine wp.go [43] 10 fun W C hW hC => ?_
      (conv => whnf); simp (disch := omega) only [iadd_eq, isub_eq, imul_eq]
      refine hW _ (ih (k + 1) A5 sc5 x8' (by omega) ?_ hF5)
      rw [hpre, ← List.append_assoc, hLL]
      unfold oneT
      simpa using h5
end CHAIN
