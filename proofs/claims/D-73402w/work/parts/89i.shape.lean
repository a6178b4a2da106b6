section SHAPE
variable {d : Nat} {h0 : AH} {M : Nat} {A : Nat → List Int} {sc : Nat → Int} {tab : List Tr}
theorem sof_fill (hA : lens A) {l : List Tr} (hl4 : l.length ≤ 4) {x2 x3 : Option AV} {Q : Rs → AH → Prop} (hQ : ∀ X, X.length = 4 → Found4 X tab l → wp (d + 7) 315 (23, [some (vR (some M)), some (vI 4), x2, x3], [], tw h0 M (up A 21 X) sc) Q) :
    ∀ (j k : Nat) (X : List Int), j + k = 4 → l.length ≤ k → X.length = 4 → (∀ m, m < k → atI X tab m l[m]?) → wp (d + 7) 315 (5, [some (vR (some M)), some (vI k), x2, x3], [], tw h0 M (up A 21 X) sc) Q := by
  intro j
  induction j with
  | zero =>
    intro k X hj hlk hX h
    obtain rfl : k = 4 := by omega
    refine wp.go [5, 23] 20 fun W C hW hC => ?_
    refine ⟨fun _ => hW _ (hQ X hX h), fun c => absurd c (by decide)⟩
  | succ j ih =>
    intro k X hj hlk hX h
    have hA' : lens (up A 21 X) := hA.up (by rw [hX]; rfl)
    refine wp.go [5, 23] 40 fun W C hW hC => ?_
    refine ⟨fun c => absurd c (by omega), fun _ => ?_⟩
    refine ⟨_, _, _, _, twF, rfl, rfl, ?_⟩
    (refine ⟨_, twI rfl rfl, (by omega), (ilt (k) (by omega) (lenlt (j := 21) (hA') (show (k) < 4 by omega))), ?_⟩; rw [twSetI rfl rfl]; try rw [Int.toNat_natCast])
    rw [up_up, up_eq]
    (conv => whnf); simp (disch := omega) only [iadd_eq, isub_eq, imul_eq]
    refine hW _ (ih (k + 1) _ (by omega) (by omega) (by rw [List.length_set, hX]) (fun m hm => ?_))
    by_cases e : m = k
    · subst e
      exact ⟨0, by omega, by rw [gt_set (by omega), if_pos rfl]; rfl, by rw [List.getElem?_eq_none (by omega)]; rfl⟩
    · obtain ⟨x, x1, x2, x3⟩ := h m (by omega)
      exact ⟨x, x1, by rw [gt_set (by omega), if_neg e]; exact x2, x3⟩
theorem sof_in (hA : lens A) (hT : TbT tab) (hK : TbK A tab) {l : List Tr} (hF : Found4 (A 21) tab l) {s : Nat} {t : Tr} (ht : gtT tab s = some t) {Q : Rs → AH → Prop} (hQ : ∀ b : Int, (b = 1 ∧ ∀ m, m < 4 → (kidsT t)[m]? = l[m]?) ∨ (b = 0 ∧ ¬ ∀ m, m < 4 → (kidsT t)[m]? = l[m]?) → wp (d + 7) 315 (77, [some (vR (some M)), some (vI s), some (vI b), some (vI 4)], [], tw h0 M A sc) Q) :
    ∀ (j k : Nat) (b : Int), j + k = 4 → (b = 1 ∧ ∀ m, m < k → (kidsT t)[m]? = l[m]?) ∨ (b = 0 ∧ ¬ ∀ m, m < k → (kidsT t)[m]? = l[m]?) → wp (d + 7) 315 (37, [some (vR (some M)), some (vI s), some (vI b), some (vI k)], [], tw h0 M A sc) Q := by
  have hs := gtT_le ht
  have hl63 := hT.2.2
  intro j
  induction j with
  | zero =>
    intro k b hj h
    obtain rfl : k = 4 := by omega
    refine wp.go [37, 77] 20 fun W C hW hC => ?_
    refine ⟨fun _ => hW _ (hQ b h), fun c => absurd c (by decide)⟩
  | succ j ih =>
    intro k b hj h
    have fin : ∀ b : Int, ((b = 1 ∧ ∀ m, m < k + 1 → (kidsT t)[m]? = l[m]?) ∨ (b = 0 ∧ ¬ ∀ m, m < k + 1 → (kidsT t)[m]? = l[m]?)) → ∀ b0 : Int, wp (d + 7) 315 (70, [some (vR (some M)), some (vI s), some (vI b0), some (vI k)], [vI b], tw h0 M A sc) Q := by
      intro b hb b0
      refine wp.go [37] 20 fun W C hW hC => ?_
      (conv => whnf); simp (disch := omega) only [iadd_eq, isub_eq, imul_eq]
      exact hW _ (ih (k + 1) b (by omega) hb)
    obtain ⟨x, x1, x2, x3⟩ := (hK s t ht).2.2.2 k (by omega)
    obtain ⟨y, y1, y2, y3⟩ := hF k (by omega)
    refine wp.go [37, 70, 77] 60 fun W C hW hC => ?_
    refine ⟨fun c => absurd c (by omega), fun _ => ?_⟩
    rcases h with ⟨rfl, h⟩ | ⟨rfl, h⟩
    · refine ⟨fun c => absurd c (by decide), fun _ => ?_⟩
      refine ⟨_, _, _, _, twF, rfl, rfl, ?_⟩
      (conv => whnf); simp (disch := omega) only [iadd_eq, isub_eq, imul_eq]
      refine ⟨_, _, _, twI rfl rfl, rfl, (by omega), gt_at (4 * s + k) (by omega) (lenlt (j := 11) (hA) (show (4 * s + k) < 256 by omega)), ?_⟩
      rw [x2]
      refine ⟨_, _, _, _, twF, rfl, rfl, ?_⟩
      refine ⟨_, _, _, twI rfl rfl, rfl, (by omega), gt_at (k) (by omega) (lenlt (j := 21) (hA) (show (k) < 4 by omega)), ?_⟩
      rw [y2]
      refine ⟨fun c => ?_, fun c => ?_⟩
      · refine hW _ (fin 0 (Or.inr ⟨rfl, fun hh => c ?_⟩) 1)
        rw [gtT_inj hT.1 x1 y1 (by rw [x3, y3]; exact hh k (by omega))]
      · have : x = y := by omega
        subst this
        refine hW _ (fin 1 (Or.inl ⟨rfl, fun m hm => ?_⟩) 1)
        by_cases e : m = k
        · subst e; exact x3.symm.trans y3
        · exact h m (by omega)
    · refine ⟨fun _ => ?_, fun c => absurd rfl c⟩
      exact hW _ (fin 0 (Or.inr ⟨rfl, fun hh => h fun m hm => hh m (by omega)⟩) 0)
theorem sof_out (hB : Tbl A sc tab) {l : List Tr} (hF : Found4 (A 21) tab l) (hn : sc 6 = ((l.length : Nat) : Int)) (hl4 : l.length ≤ 4) (hl : ∀ v, v ∈ l → v ∈ tab ∧ (kidsT v).length ≤ 3) (hs15 : sumS l ≤ 15) (h62 : tab.length ≤ 62) :
    ∀ (j s : Nat) (x2 x3 : Option AV), j + s = tab.length + 1 → 1 ≤ s → (∀ i t, i < s → gtT tab i = some t → t ≠ mkT l) → wp (d + 7) 315 (25, [some (vR (some M)), some (vI s), x2, x3], [], tw h0 M A sc) (fun r h' => ∃ i A' sc' tab', r = .inl (some (vI ((i : Nat) : Int))) ∧ h' = tw h0 M A' sc' ∧ Tbl A' sc' tab' ∧ (tab' = tab ∨ tab' = tab ++ [mkT l]) ∧ gtT tab' i = some (mkT l) ∧ Fr [10, 11, 12, 13, 14, 15, 16, 17, 22, 23, 24] [5] A A' sc sc') := by
  have hBB := hB
  obtain ⟨hA, hT, hK, hV, hH, h5⟩ := hB
  have ho : ∀ v, v ∈ l → okT0 v := fun v hv => (hT.2.1 v (hl v hv).1).1
  intro j
  induction j with
  | zero =>
    intro s x2 x3 hj h1 hno
    obtain rfl : s = tab.length + 1 := by omega
    have hnew : mkT l ∉ tab := by
      intro hm
      obtain ⟨i, hi⟩ := List.getElem?_of_mem hm
      have hlt := (List.getElem?_eq_some_iff.mp hi).1
      exact hno (i + 1) _ (by omega) hi rfl
    refine wp.go [25] 60 fun W C hW hC => ?_
    refine ⟨_, _, _, _, twF, rfl, rfl, ?_⟩
    rw [h5]
    refine ⟨fun _ => ?_, fun c => absurd c (by omega)⟩
    refine ⟨_, _, _, twF, rfl, ?_⟩
    refine hC _ _ _ (use (lays_spec hBB hF hn hl4 hl hs15 hnew h62) ?_)
    rintro _ _ ⟨rfl, A', sc', rfl, hB', hFr⟩
    refine ⟨_, _, _, _, twF, rfl, rfl, ?_⟩
    rw [hB'.2.2.2.2.2]
    conv => whnf
    rw [isub_eq (by simp; omega)]
    refine ⟨tab.length + 1, A', sc', _, ?_, rfl, hB', Or.inr rfl, gtT_new, hFr⟩
    simp
  | succ j ih =>
    intro s x2 x3 hj h1 hno
    have hsl : s - 1 < tab.length := by omega
    obtain ⟨t, ht⟩ : ∃ t, gtT tab s = some t := by
      obtain ⟨m, rfl⟩ : ∃ m, s = m + 1 := ⟨s - 1, by omega⟩
      exact ⟨_, List.getElem?_eq_getElem (by omega)⟩
    obtain ⟨t1, t2, t3, -⟩ := hT.2.1 t (gtT_le ht).2.2
    have hl63 := hT.2.2
    refine wp.go [25, 37] 60 fun W C hW hC => ?_
    refine ⟨_, _, _, _, twF, rfl, rfl, ?_⟩
    rw [h5]
    refine ⟨fun c => absurd c (by omega), fun _ => ?_⟩
    refine hW _ (sof_in hA hT hK hF ht (fun b hb => ?_) 4 0 1 rfl (Or.inl ⟨rfl, fun m hm => absurd hm (by omega)⟩))
    refine wp.go [25] 40 fun W C hW hC => ?_
    rcases hb with ⟨rfl, hb⟩ | ⟨rfl, hb⟩
    · refine ⟨fun c => absurd c (by decide), fun _ => ?_⟩
      have e : t = mkT l := kids_ext t1 (ok_mk l ho) t3 (by rw [kids_mk]; exact hl4) (fun k hk => by rw [kids_mk]; exact hb k hk)
      exact ⟨s, A, sc, tab, rfl, rfl, hBB, Or.inl rfl, by rw [ht, e], Fr.refl⟩
    · refine ⟨fun _ => ?_, fun c => absurd rfl c⟩
      (conv => whnf); simp (disch := omega) only [iadd_eq, isub_eq, imul_eq]
      refine hW _ (ih (s + 1) _ _ (by omega) (by omega) (fun i u hi hu => ?_))
      by_cases e : i = s
      · subst e
        rw [ht] at hu
        cases hu
        rintro rfl
        exact hb fun m hm => by rw [kids_mk]
      · exact hno i u (by omega) hu
/-- Model.shapeOfFound -/
theorem shapeOfFound_spec (hB : Tbl A sc tab) {l : List Tr} (hF : FoundOk (A 21) (sc 6) tab l) (hs15 : sumS l ≤ 15) (h62 : tab.length ≤ 62) :
    wp (d + 7) 315 (0, ent 4 [vR (some M)], [], tw h0 M A sc) (fun r h' => ∃ i A' sc' tab', r = .inl (some (vI ((i : Nat) : Int))) ∧ h' = tw h0 M A' sc' ∧ Tbl A' sc' tab' ∧ (tab' = tab ∨ tab' = tab ++ [mkT l]) ∧ gtT tab' i = some (mkT l) ∧ Fr [10, 11, 12, 13, 14, 15, 16, 17, 21, 22, 23, 24] [5] A A' sc sc') := by
  obtain ⟨f1, f2, f3, f4, f5⟩ := hF
  have hA := hB.1
  have hl : (A 21).length = 4 := by rw [hA.eq 21]; rfl
  refine wp.go [5] 20 fun W C hW hC => ?_
  refine ⟨_, _, _, _, twF, rfl, rfl, ?_⟩
  rw [f1]
  have key := sof_fill (d := d) (h0 := h0) (M := M) (sc := sc) (tab := tab) hA f2 (x2 := none) (x3 := none) (Q := fun r h' => ∃ i A' sc' tab', r = .inl (some (vI ((i : Nat) : Int))) ∧ h' = tw h0 M A' sc' ∧ Tbl A' sc' tab' ∧ (tab' = tab ∨ tab' = tab ++ [mkT l]) ∧ gtT tab' i = some (mkT l) ∧ Fr [10, 11, 12, 13, 14, 15, 16, 17, 21, 22, 23, 24] [5] A A' sc sc') (fun X hX h4 => ?_) (4 - l.length) l.length (A 21) (by omega) (Nat.le_refl _) hl f5
  · rw [upn_self] at key
    exact hW _ key
  · have hB' : Tbl (up A 21 X) sc tab := ⟨hA.up (by rw [hX]; rfl), hB.2⟩
    refine wp.go [25] 20 fun W C hW hC => ?_
    refine hW _ (wpd.mono ?_ _ _ _ (sof_out hB' (by rw [up_eq]; exact h4) f1 f2 f4 hs15 h62 tab.length 1 none none rfl (by omega) (fun i t hi ht => absurd (gtT_le ht).1 (by omega))))
    rintro r h' ⟨i, A', sc', tab', q1, q2, q3, q4, q5, q6⟩
    exact ⟨i, A', sc', tab', q1, q2, q3, q4, q5, (Fr.upA rfl).trans (q6.wide rfl rfl)⟩
end SHAPE
