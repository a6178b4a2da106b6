/-! THE TWIN LAYS A NEW SHAPE -/
theorem sz_snoc : ∀ (l : List Tr) (a : Tr), szT (mkT (l ++ [a])) = szT (mkT l) + szT a := by
  intro l a
  rw [sz_mk, sz_mk, List.map_append, List.sum_append]
  simp; omega
theorem tall_snoc : ∀ (l : List Tr) (a : Tr), tallT (mkT (l ++ [a])) = max (tallT (mkT l)) (tallT a + 1)
  | [], a => by simp [mkT, tallT]
  | b :: r, a => by
    have ih := tall_snoc r a
    simp only [List.cons_append, mkT, tallT, ih]
    omega
theorem sumS_app (l m : List Tr) : sumS (l ++ m) = sumS l + sumS m := by simp [sumS]
def Found4 (X : List Int) (tab l : List Tr) : Prop := ∀ k, k < 4 → atI X tab k l[k]?
section LAYS
variable {d : Nat} {h0 : AH} {M : Nat} {A : Nat → List Int} {sc : Nat → Int} {tab : List Tr}
/-- what lays has laid of a new shape s: its size up to ks parts, kk parts, its height up to kt parts -/
def LayP (A0 A : Nat → List Int) (sc : Nat → Int) (tab l : List Tr) (s ks kk kt : Nat) : Prop := lens A ∧ Fr [10, 11, 12, 13] [] A0 A sc sc ∧ ((∀ m, m < s → gt (A 10) m = gt (A0 10) m) ∧ (∀ m, m < s → gt (A 12) m = gt (A0 12) m) ∧ (∀ m, m < s → gt (A 13) m = gt (A0 13) m)) ∧ (∀ m, m < 4 * s → gt (A 11) m = gt (A0 11) m) ∧
  gt (A 10) s = ((szT (mkT (l.take ks)) : Nat) : Int) ∧ gt (A 12) s = ((l.length : Nat) : Int) ∧ gt (A 13) s = ((tallT (mkT (l.take kt)) : Nat) : Int) ∧ ∀ m, m < kk → atI (A 11) tab (4 * s + m) l[m]?
theorem lays_loop {A0 : Nat → List Int} (hT : TbT tab) (hK : TbK A0 tab) (hH : TbH A0) {l : List Tr} (hF : Found4 (A0 21) tab l) (hl4 : l.length ≤ 4) (hs15 : sumS l ≤ 15) (hn : sc 6 = ((l.length : Nat) : Int)) {s : Nat} (hst : tab.length < s) (hs63 : s ≤ 63) {Q : Rs → AH → Prop}
    (hQ : ∀ A, LayP A0 A sc tab l s 4 4 4 → wp (d + 6) 316 (137, [some (vR (some M)), some (vI s), some (vI 4)], [], tw h0 M A sc) Q) :
    ∀ (j k : Nat) (A : Nat → List Int), j + k = 4 → LayP A0 A sc tab l s k k k → wp (d + 6) 316 (41, [some (vR (some M)), some (vI s), some (vI k)], [], tw h0 M A sc) Q := by
  intro j
  induction j with
  | zero =>
    intro k A hj h
    obtain rfl : k = 4 := by omega
    refine wp.go [41, 137] 40 fun W C hW hC => ?_
    refine ⟨fun _ => hW _ (hQ A h), fun c => absurd c (by decide)⟩
  | succ j ih =>
    intro k A hj h
    obtain ⟨i, p1, p2, p3⟩ := hF k (by omega)
    have hszO : ∀ A, LayP A0 A sc tab l s k (k + 1) k → gt (A 10) i = ((szO l[k]? : Nat) : Int) := fun A h => by
      rw [h.2.2.1.1 i (by omega), ← p3]; exact hK.sz hH p1
    have tk : (l[k]? = none ∧ l.take (k + 1) = l.take k ∧ l.length ≤ k) ∨ ∃ v, l[k]? = some v ∧ l.take (k + 1) = l.take k ++ [v] ∧ k < l.length := by
      cases q : l[k]? with
      | none =>
        have hk := List.getElem?_eq_none_iff.mp q
        exact Or.inl ⟨rfl, by rw [List.take_of_length_le (by omega), List.take_of_length_le hk], hk⟩
      | some v => exact Or.inr ⟨v, rfl, by rw [List.take_succ, q]; rfl, (List.getElem?_eq_some_iff.mp q).1⟩
    have hsz1 : szT (mkT (l.take (k + 1))) = szT (mkT (l.take k)) + szO l[k]? := by
      rcases tk with ⟨q1, q2, -⟩ | ⟨v, q1, q2, -⟩
      · rw [q2, q1]; rfl
      · rw [q2, q1, sz_snoc]; rfl
    have htk : ∀ m, szT (mkT (l.take m)) ≤ 16 := fun m => by
      rw [sz_mk]
      have e := sumS_app (l.take m) (l.drop m)
      rw [List.take_append_drop] at e
      have : sumS (l.take m) = ((l.take m).map szT).sum := rfl
      omega
    have hsz16 := htk (k + 1)
    have htall : ∀ m, tallT (mkT (l.take m)) ≤ 16 := fun m => Nat.le_trans (tall_le_sz _) (htk m)
    have s131 : ∀ A, LayP A0 A sc tab l s (k + 1) (k + 1) (k + 1) → wp (d + 6) 316 (131, [some (vR (some M)), some (vI s), some (vI k)], [], tw h0 M A sc) Q := by
      intro A h
      refine wp.go [41] 20 fun W C hW hC => ?_
      (conv => whnf); simp (disch := omega) only [iadd_eq, isub_eq, imul_eq]
      exact hW _ (ih (k + 1) A (by omega) h)
    have s82 : ∀ A, LayP A0 A sc tab l s (k + 1) (k + 1) k → wp (d + 6) 316 (82, [some (vR (some M)), some (vI s), some (vI k)], [], tw h0 M A sc) Q := by
      intro A h
      have hh := h
      obtain ⟨hA, hFr, e1, e2, e3, e4, e5, e6⟩ := h
      refine wp.go [131] 60 fun W C hW hC => ?_
      refine ⟨_, _, _, _, twF, rfl, rfl, ?_⟩
      rw [hn]
      refine ⟨fun c => ?_, fun c => ?_⟩
      · rcases tk with ⟨q1, q2, -⟩ | ⟨v, q1, q2, q3⟩
        · exact hW _ (s131 A ⟨hA, hFr, e1, e2, e3, e4, by rw [q2]; exact e5, e6⟩)
        · exact absurd c (by omega)
      · rcases tk with ⟨q1, q2, q3⟩ | ⟨v, q1, q2, q3⟩
        · exact absurd c (by omega)
        · rw [q1] at p3
          have hti : gt (A 13) i = ((tallT v : Nat) : Int) := by
            rw [e1.2.2 i (by omega)]; exact (hK i v p3).2.2.1
          have ht1 := tall_snoc (l.take k) v
          rw [← q2] at ht1
          have hb1 := htall (k + 1)
          have hb2 := htall k
          refine ⟨_, _, _, _, twF, rfl, rfl, ?_⟩
          refine ⟨_, _, _, _, twF, rfl, rfl, ?_⟩
          refine ⟨_, _, _, twI rfl rfl, rfl, (by omega), gt_at (k) (by omega) (lenlt (j := 21) (hA) (show (k) < 4 by omega)), ?_⟩
          rw [hFr.1 21 rfl, p2]
          refine ⟨_, _, _, twI rfl rfl, rfl, (by omega), gt_at (i) (by omega) (lenlt (j := 13) (hA) (show (i) < 64 by omega)), ?_⟩
          rw [hti]
          refine ⟨_, _, _, _, twF, rfl, rfl, ?_⟩
          refine ⟨_, _, _, twI rfl rfl, rfl, (by omega), gt_at (s) (by omega) (lenlt (j := 13) (hA) (show (s) < 64 by omega)), ?_⟩
          rw [e5]
          conv => whnf
          rw [show iadd ((tallT v : Nat) : Int) 1 = ((tallT v + 1 : Nat) : Int) by rw [iadd_eq (by omega)]; omega]
          refine ⟨fun c1 => ?_, fun c1 => ?_⟩
          · exact hW _ (s131 A ⟨hA, hFr, e1, e2, e3, e4, by rw [ht1, e5]; congr 1; omega, e6⟩)
          · refine ⟨_, _, _, _, twF, rfl, rfl, ?_⟩
            refine ⟨_, _, _, _, twF, rfl, rfl, ?_⟩
            refine ⟨_, _, _, _, twF, rfl, rfl, ?_⟩
            refine ⟨_, _, _, twI rfl rfl, rfl, (by omega), gt_at (k) (by omega) (lenlt (j := 21) (hA) (show (k) < 4 by omega)), ?_⟩
            rw [hFr.1 21 rfl, p2]
            refine ⟨_, _, _, twI rfl rfl, rfl, (by omega), gt_at (i) (by omega) (lenlt (j := 13) (hA) (show (i) < 64 by omega)), ?_⟩
            rw [hti]
            conv => whnf
            rw [show iadd ((tallT v : Nat) : Int) 1 = ((tallT v + 1 : Nat) : Int) by rw [iadd_eq (by omega)]; omega]
            (refine ⟨_, twI rfl rfl, (by omega), (ilt (s) (by omega) (lenlt (j := 13) (hA) (show (s) < 64 by omega))), ?_⟩; rw [twSetI rfl rfl]; try rw [Int.toNat_natCast])
            have hlt := lenlt (j := 13) hA (show s < 64 by omega)
            refine hW _ (s131 _ ⟨hA.up (by rw [List.length_set]; exact hA.eq 13), hFr.trans (Fr.upA rfl), ⟨e1.1, e1.2.1, fun m hm => ?_⟩, e2, e3, e4, ?_, e6⟩)
            · rw [up_eq, gt_set hlt, if_neg (by omega)]; exact e1.2.2 m hm
            · rw [up_eq, gt_set hlt, if_pos rfl, ht1]; congr 1; omega
    have s62 : ∀ A, LayP A0 A sc tab l s k (k + 1) k → wp (d + 6) 316 (62, [some (vR (some M)), some (vI s), some (vI k)], [], tw h0 M A sc) Q := by
      intro A h
      have hi := hszO A h
      obtain ⟨hA, hFr, e1, e2, e3, e4, e5, e6⟩ := h
      refine wp.go [82] 60 fun W C hW hC => ?_
      refine ⟨_, _, _, _, twF, rfl, rfl, ?_⟩
      refine ⟨_, _, _, twI rfl rfl, rfl, (by omega), gt_at (s) (by omega) (lenlt (j := 10) (hA) (show (s) < 64 by omega)), ?_⟩
      rw [e3]
      refine ⟨_, _, _, _, twF, rfl, rfl, ?_⟩
      refine ⟨_, _, _, _, twF, rfl, rfl, ?_⟩
      refine ⟨_, _, _, twI rfl rfl, rfl, (by omega), gt_at (k) (by omega) (lenlt (j := 21) (hA) (show (k) < 4 by omega)), ?_⟩
      rw [hFr.1 21 rfl, p2]
      refine ⟨_, _, _, twI rfl rfl, rfl, (by omega), gt_at (i) (by omega) (lenlt (j := 10) (hA) (show (i) < 64 by omega)), ?_⟩
      rw [hi]
      conv => whnf
      rw [iaddN (by omega), ← hsz1]
      (refine ⟨_, twI rfl rfl, (by omega), (ilt (s) (by omega) (lenlt (j := 10) (hA) (show (s) < 64 by omega))), ?_⟩; rw [twSetI rfl rfl]; try rw [Int.toNat_natCast])
      have hlt := lenlt (j := 10) hA (show s < 64 by omega)
      refine hW _ (s82 _ ⟨hA.up (by rw [List.length_set]; exact hA.eq 10), hFr.trans (Fr.upA rfl), ⟨fun m hm => ?_, e1.2⟩, e2, ?_, e4, e5, e6⟩)
      · rw [up_eq, gt_set hlt, if_neg (by omega)]; exact e1.1 m hm
      · rw [up_eq, gt_set hlt, if_pos rfl]
    obtain ⟨hA, hFr, e1, e2, e3, e4, e5, e6⟩ := h
    refine wp.go [41, 62, 137] 60 fun W C hW hC => ?_
    refine ⟨fun c => absurd c (by omega), fun _ => ?_⟩
    refine ⟨_, _, _, _, twF, rfl, rfl, ?_⟩
    (conv => whnf); simp (disch := omega) only [iadd_eq, isub_eq, imul_eq]
    refine ⟨_, _, _, _, twF, rfl, rfl, ?_⟩
    refine ⟨_, _, _, twI rfl rfl, rfl, (by omega), gt_at (k) (by omega) (lenlt (j := 21) (hA) (show (k) < 4 by omega)), ?_⟩
    rw [hFr.1 21 rfl, p2]
    (refine ⟨_, twI rfl rfl, (by omega), (ilt (4 * s + k) (by omega) (lenlt (j := 11) (hA) (show (4 * s + k) < 256 by omega))), ?_⟩; rw [twSetI rfl rfl]; try rw [Int.toNat_natCast])
    have hlt := lenlt (j := 11) hA (show 4 * s + k < 256 by omega)
    refine hW _ (s62 _ ⟨hA.up (by rw [List.length_set]; exact hA.eq 11), hFr.trans (Fr.upA rfl), e1, fun m hm => ?_, e3, e4, e5, fun m hm => ?_⟩)
    · rw [up_eq, gt_set (by omega), if_neg (by omega)]; exact e2 m hm
    · by_cases c : m = k
      · subst c
        exact ⟨i, p1, by rw [up_eq, gt_set (by omega), if_pos (by omega)], p3⟩
      · obtain ⟨x, x1, x2, x3⟩ := e6 m (by omega)
        exact ⟨x, x1, by rw [up_eq, gt_set (by omega), if_neg (by omega)]; exact x2, x3⟩
end LAYS
