/-! THE TWIN writes the text of a branch -/
abbrev JT : List Nat := [40, 41, 42, 43, 44, 45]
def TxtAt (A : Nat → List Int) (q : Nat) (L : Tx) : Prop := txAt (A 40) (96 * q) (gt (A 41) q) L
/-- other texts stay -/
def txKeep (A A' : Nat → List Int) (q : Nat) : Prop := ∀ q' K, q' ≠ q → q' < 256 → K.length ≤ 96 → TxtAt A q' K → TxtAt A' q' K
theorem txKeep.refl {A A' : Nat → List Int} {q : Nat} (h0 : A' 40 = A 40) (h1 : A' 41 = A 41) : txKeep A A' q := by
  intro q' K _ _ _ h
  unfold TxtAt
  rw [h0, h1]
  exact h
theorem txKeep.trans {A B C : Nat → List Int} {q : Nat} (h1 : txKeep A B q) (h2 : txKeep B C q) : txKeep A C q := fun q' K a b c h => h2 q' K a b c (h1 q' K a b c h)
section BRANCH
variable {d : Nat} {h0 : AH} {M : Nat} {A : Nat → List Int} {sc : Nat → Int} {tab : List Tr} {G : Gr} {D : Nat → Nat → Nat}
theorem SeenM.keepN {A' : Nat → List Int} {sc' : Nat → Int} (h : SeenM A sc tab G D) (hA : lens A') (hF : Fr JT KN A A' sc sc') : SeenM A' sc' tab G D := by
  obtain ⟨⟨⟨-, hT, hK, hV, hH, h5⟩, hr, hb, hat, hrt⟩, hf⟩ := h
  have e := fun j (hj : JT.elem j = false) => hF.1 j hj
  refine ⟨?_, ?_⟩
  · unfold Seen Tbl TbK TbV TbH at *
    rw [e 10 rfl, e 11 rfl, e 12 rfl, e 13 rfl, e 14 rfl, e 15 rfl, e 16 rfl, e 17 rfl, e 18 rfl, e 19 rfl, e 20 rfl, hF.2 5 rfl]
    exact ⟨⟨hA, hT, hK, hV, hH, h5⟩, hr, hb, hat, hrt⟩
  · rw [e 25 rfl]; exact hf
theorem laysSign_spec {q : Nat} {L : Tx} {c : Int} (hA : lens A) (hq : q < 256) (h : TxtAt A q L) (hl : L.length < 96) (hc : 0 ≤ c ∧ c ≤ 127) : wp (d + 1) 391 (0, ent 3 [vR (some M), vI ((q : Nat) : Int), vI c], [], tw h0 M A sc) (fun r h' => r = .inl none ∧ ∃ A', h' = tw h0 M A' sc ∧ lens A' ∧ Fr [40, 41] [] A A' sc sc ∧ TxtAt A' q (L ++ [c]) ∧ txKeep A A' q) := by
  obtain ⟨h1, h2⟩ := h
  have hl40 : (A 40).length = 24576 := by rw [hA.eq 40]; rfl
  have hl41 : (A 41).length = 256 := by rw [hA.eq 41]; rfl
  refine wp.go [] 40 fun W C hW hC => ?_
  refine ⟨_, _, _, _, twF, rfl, rfl, ?_⟩
  refine ⟨_, _, _, _, twF, rfl, rfl, ?_⟩
  refine ⟨_, _, _, twI rfl rfl, rfl, (by omega), gt_at (q) (by omega) (lenlt (j := 41) (hA) (show (q) < 256 by omega)), ?_⟩
  rw [h1]
  (conv => whnf); simp (disch := omega) only [iadd_eq, isub_eq, imul_eq]
  refine ⟨_, _, twI rfl rfl, by omega, (by rw [hl40]; omega), Or.inl ⟨rfl, ?_⟩⟩
  rw [twSetI rfl rfl, show (96 * ((q : Nat) : Int) + ((L.length : Nat) : Int)).toNat = 96 * q + L.length by omega, i2b_i2b, i2b_small hc]
  have hA1 : lens (up A 40 ((A 40).set (96 * q + L.length) c)) := hA.up (by rw [List.length_set, hl40]; rfl)
  refine ⟨_, _, _, _, twF, rfl, rfl, ?_⟩
  refine ⟨_, _, _, twI rfl rfl, rfl, (by omega), gt_at (q) (by omega) (lenlt (j := 41) (hA1) (show (q) < 256 by omega)), ?_⟩
  rw [upn_ne _ _ (by decide), h1]
  (conv => whnf); simp (disch := omega) only [iadd_eq, isub_eq, imul_eq]
  (refine ⟨_, twI rfl rfl, (by omega), (ilt (q) (by omega) (lenlt (j := 41) (hA1) (show (q) < 256 by omega))), ?_⟩; rw [twSetI rfl rfl]; try rw [Int.toNat_natCast])
  rw [upn_ne _ _ (by decide)]
  refine ⟨rfl, _, rfl, hA1.up (by rw [List.length_set, hl41]; rfl), (Fr.upA rfl).trans (Fr.upA rfl), ⟨?_, fun i x hi => ?_⟩, fun q' K hne hq' hK hT => ⟨?_, fun i x hi => ?_⟩⟩
  · rw [up_eq, gt_set (by omega), if_pos rfl, List.length_append]; rfl
  · rw [upn_ne _ _ (by decide), up_eq, gt_set (by omega)]
    by_cases e : i = L.length
    · subst e
      rw [List.getElem?_append_right (Nat.le_refl _), Nat.sub_self] at hi
      cases hi
      rw [if_pos rfl]
    · have hi2 := (List.getElem?_eq_some_iff.mp hi).1
      rw [List.length_append, List.length_singleton] at hi2
      rw [List.getElem?_append_left (by omega)] at hi
      rw [if_neg (by omega)]
      exact h2 i x hi
  · rw [up_eq, gt_set (by omega), if_neg hne]
    exact hT.1
  · have hi2 := (List.getElem?_eq_some_iff.mp hi).1
    rw [upn_ne _ _ (by decide), up_eq, gt_set (by omega), if_neg (by omega)]
    exact hT.2 i x hi
theorem wayB_len (hG : G.wf) (hD : Far G D) {a c e : Nat} (h : G.2 a c = true) (he : e ∈ endsB G D a c) : okX (wayT G D c e ((a : Nat) : Int)) ∧ 1 ≤ (wayT G D c e ((a : Nat) : Int)).length ∧ (wayT G D c e ((a : Nat) : Int)).length ≤ 80 := by
  have hn16 := hG.2.1
  have hc := (hG.2.2 _ _ h).2.1
  obtain ⟨e1, e2, e3⟩ := ends_mem.mp he
  have hl := pth_len (G := G) (D := D) (D c e) c e
  have hlt := Far.lt hG hD hc e1
  have hs : seenF G D a c e ((a : Nat) : Int) := Or.inl ⟨h, e2, rfl⟩
  have hall := hang_all hG hD hs hc e1 rfl
  rw [← bsz_eq hG hD h] at hall
  have hb := bsz_lt hG hD h
  have := chF_len (G := G) (tx := brT G D) (P := pthL G D (D c e) c e) (fr := ((a : Nat) : Int)) (bsz G D) (D c e + 1) (by omega) fun i hi x hx => by
    obtain ⟨o1, o2, o3⟩ := brT_len hG hD _ x (hn_mem hG hx)
    exact ⟨o1, by omega⟩
  have hnl := (numT_len (D c e + 1)).2
  unfold wayT chT
  rw [hl]
  rw [hl] at this
  exact ⟨this.1 (by omega), chF_pos _, by have := this.2; omega⟩
def accB (G : Gr) (D : Nat → Nat → Nat) (a c e : Nat) : Tx := ((List.range e).filter fun e => decide (inB D a c e) && decide (D c e + 1 = tallT (TT G a c))).foldl (fun acc e => minT acc (wayT G D c e ((a : Nat) : Int))) []
theorem accB_ok (hG : G.wf) (hD : Far G D) {a c e : Nat} (h : G.2 a c = true) (he : e ≤ G.1) : okX (accB G D a c e) ∧ (accB G D a c e).length ≤ 80 := by
  have hsub : ∀ x, x ∈ (List.range e).filter (fun e => decide (inB D a c e) && decide (D c e + 1 = tallT (TT G a c))) → x ∈ endsB G D a c := by
    intro x hx
    obtain ⟨h1, h2⟩ := List.mem_filter.mp hx
    exact List.mem_filter.mpr ⟨List.mem_range.mpr (by have := List.mem_range.mp h1; omega), h2⟩
  obtain ⟨m1, -⟩ := min_fold (fun e => wayT G D c e ((a : Nat) : Int)) ((List.range e).filter fun e => decide (inB D a c e) && decide (D c e + 1 = tallT (TT G a c))) [] fun x hx q => by
    have := (wayB_len hG hD h (hsub x hx)).2.1
    rw [q] at this
    simp at this
  unfold accB
  rcases m1 with q | ⟨x, hx, q⟩
  · rw [q]; exact ⟨fun x hx => (nomatch hx), Nat.zero_le _⟩
  · rw [q]
    have := wayB_len hG hD h (hsub x hx)
    exact ⟨this.1, this.2.2⟩
theorem accB_succ {a c e : Nat} : accB G D a c (e + 1) = if inB D a c e ∧ D c e + 1 = tallT (TT G a c) then minT (accB G D a c e) (wayT G D c e ((a : Nat) : Int)) else accB G D a c e := by
  unfold accB
  rw [List.range_succ, List.filter_append, List.foldl_append, List.filter_cons]
  by_cases q : inB D a c e ∧ D c e + 1 = tallT (TT G a c)
  · rw [if_pos (by rw [decide_eq_true q.1, decide_eq_true q.2]; rfl), if_pos q]
    rfl
  · rw [if_neg, if_neg q]
    · rfl
    · intro k
      rw [Bool.and_eq_true, decide_eq_true_eq, decide_eq_true_eq] at k
      exact q k
end BRANCH
