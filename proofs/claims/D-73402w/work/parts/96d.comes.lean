/-- a code comes into the list at its place -/
def insC (K : List Nat) (Ls : List (List Nat)) : List (List Nat) := if (match Ls[plc K Ls]? with | some L => decide (difC K L = 0) | none => false) = true then Ls else Ls.take (plc K Ls) ++ K :: Ls.drop (plc K Ls)
theorem plc_le (K : List Nat) (Ls : List (List Nat)) : plc K Ls ≤ Ls.length := by unfold plc; exact (List.takeWhile_sublist _).length_le
section COMES2
variable {d : Nat} {h0 : AH} {M : Nat} {A : Nat → List Int} {sc : Nat → Int}
theorem comesIn_spec (hA : lens A) {n f : Nat} (hn1 : 1 ≤ n) (hn : n < 12) {Ls : List (List Nat)} (hL : ListAt A n f Ls) (hroom : f + n * Ls.length + n ≤ 3200) {K : List Nat} (hK : K.length = n) (hKa : isAt (A 26) K) (hKb : ∀ x, x ∈ K → x < 100) :
    wp (d + 3) 332 (0, ent 4 [vR (some M), vI ((n : Nat) : Int)], [], tw h0 M A sc) (fun r h' => r = .inl none ∧ ∃ A', h' = tw h0 M A' sc ∧ lens A' ∧ Fr [29, 31] [] A A' sc sc ∧ ListAt A' n f (insC K Ls) ∧ (∀ m, m ≠ n → gt (A' 29) m = gt (A 29) m) ∧ ∀ p, p < f → gt (A' 31) p = gt (A 31) p) := by
  obtain ⟨l1, l2, l3, l4⟩ := id hL
  have hple := plc_le K Ls
  have hlen : Ls.length ≤ 3200 := by
    have : 1 * Ls.length ≤ n * Ls.length := Nat.mul_le_mul_right _ hn1
    omega
  have hl31 : (A 31).length = 3200 := by rw [hA.eq 31]; rfl
  have hl29 : (A 29).length = 12 := by rw [hA.eq 29]; rfl
  have hnk : n * plc K Ls ≤ n * Ls.length := Nat.mul_le_mul_left n hple
  have ins : insC K Ls = Ls.take (plc K Ls) ++ K :: Ls.drop (plc K Ls) → wp (d + 3) 332 (31, [some (vR (some M)), some (vI ((n : Nat) : Int)), some (vI ((plc K Ls : Nat) : Int)), none], [], tw h0 M A sc) (fun r h' => r = .inl none ∧ ∃ A', h' = tw h0 M A' sc ∧ lens A' ∧ Fr [29, 31] [] A A' sc sc ∧ ListAt A' n f (insC K Ls) ∧ (∀ m, m ≠ n → gt (A' 29) m = gt (A 29) m) ∧ ∀ p, p < f → gt (A' 31) p = gt (A 31) p) := by
    intro hI
    rw [hI]
    generalize plc K Ls = k at *
    refine wp.go [45] 60 fun W C hW hC => ?_
    refine ⟨_, _, _, _, twF, rfl, rfl, ?_⟩
    refine ⟨_, _, _, twI rfl rfl, rfl, (by omega), gt_at (n) (by omega) (lenlt (j := 29) (hA) (show (n) < 12 by omega)), ?_⟩
    rw [l1]
    refine ⟨_, _, _, twF, rfl, ?_⟩
    refine hC _ _ _ (use (wpd.up (show d + 1 ≤ d + 2 by omega) (codeAt_spec (d := d) (k := Ls.length) hA hn l2 (by omega))) ?_); rintro _ _ ⟨rfl, rfl⟩
    conv => whnf
    rw [isub_eq (by omega)]
    have key := comes_shift (d := d + 1) (h0 := h0) (M := M) (sc := sc) hA hn l2 hple hroom (Q := (fun r h' => r = .inl none ∧ ∃ A', h' = tw h0 M A' sc ∧ lens A' ∧ Fr [29, 31] [] A A' sc sc ∧ ListAt A' n f (Ls.take k ++ K :: Ls.drop k) ∧ (∀ m, m ≠ n → gt (A' 29) m = gt (A 29) m) ∧ ∀ p, p < f → gt (A' 31) p = gt (A 31) p)) (fun X x3 hX hXs => ?_) (n * Ls.length - n * k) (f + n * Ls.length) (A 31) (by omega) (Nat.le_refl _) hl31 (fun p hp => by unfold shf; rw [if_neg (by omega)])
    · rw [upn_self] at key
      exact hW _ key
    · refine wp.go [77] 20 fun W C hW hC => ?_
      refine hW _ (comes_fill (d := d + 1) (X0 := X) hA hn l2 (by omega) hK hKa (fun Y y3 hY hY1 hY2 => ?_) n 0 X rfl hX (fun _ _ _ => rfl) (fun i x hi => by simp at hi))
      have hA' : lens (up A 31 Y) := hA.up (by rw [hY]; rfl)
      refine wp.go [] 60 fun W C hW hC => ?_
      refine ⟨_, _, _, _, twF, rfl, rfl, ?_⟩
      refine ⟨_, _, _, twI rfl rfl, rfl, (by omega), gt_at (n) (by omega) (lenlt (j := 29) (hA') (show (n) < 12 by omega)), ?_⟩
      rw [upn_ne _ _ (by decide), l1]
      (conv => whnf); simp (disch := omega) only [iadd_eq, isub_eq, imul_eq]
      (refine ⟨_, twI rfl rfl, (by omega), (ilt (n) (by omega) (lenlt (j := 29) (hA') (show (n) < 12 by omega))), ?_⟩; rw [twSetI rfl rfl]; try rw [Int.toNat_natCast])
      rw [upn_ne _ _ (by decide)]
      have g29 : ∀ m, gt ((A 29).set n (((Ls.length : Nat) : Int) + 1)) m = if m = n then ((Ls.length : Nat) : Int) + 1 else gt (A 29) m := fun m => gt_set (by omega)
      refine ⟨rfl, _, rfl, hA'.up (by rw [List.length_set, hl29]; rfl), (Fr.upA rfl).trans (Fr.upA rfl), ⟨?_, ?_, ?_, ?_⟩, ?_, ?_⟩
      · rw [up_eq, g29, if_pos rfl]
        simp only [List.length_append, List.length_cons, List.length_take, List.length_drop]
        omega
      · rw [upn_ne _ _ (by decide), upn_ne _ _ (by decide)]; exact l2
      · simp only [List.length_append, List.length_cons, List.length_take, List.length_drop]
        rw [show min k Ls.length + (Ls.length - k + 1) = Ls.length + 1 by omega, Nat.mul_succ]
        omega
      · intro m L hm
        rw [upn_ne _ _ (by decide), up_eq]
        have hml := (List.getElem?_eq_some_iff.mp hm).1
        simp only [List.length_append, List.length_cons, List.length_take, List.length_drop] at hml
        have htk : (Ls.take k).length = k := by rw [List.length_take]; omega
        by_cases c1 : m < k
        · rw [List.getElem?_append_left (by omega), List.getElem?_take_of_lt c1] at hm
          obtain ⟨p1, p2, p3⟩ := l4 m L hm
          refine ⟨p1, p2, fun i x hi => ?_⟩
          have hi2 := (List.getElem?_eq_some_iff.mp hi).1
          have hmk : n * (m + 1) ≤ n * k := Nat.mul_le_mul_left n c1
          rw [Nat.mul_succ] at hmk
          rw [hY1 _ (by omega) (Or.inl (by omega)), hXs _ (by omega)]
          unfold shf
          rw [if_neg (by omega)]
          exact p3 i x hi
        · rw [List.getElem?_append_right (by omega), htk] at hm
          by_cases c2 : m = k
          · subst c2
            rw [Nat.sub_self] at hm
            cases hm
            exact ⟨hK, hKb, hY2⟩
          · obtain ⟨r, rfl⟩ : ∃ r, m = r + 1 := ⟨m - 1, by omega⟩
            rw [show r + 1 - k = (r - k) + 1 by omega, List.getElem?_cons_succ, List.getElem?_drop, show k + (r - k) = r by omega] at hm
            obtain ⟨p1, p2, p3⟩ := l4 r L hm
            refine ⟨p1, p2, fun i x hi => ?_⟩
            have hi2 := (List.getElem?_eq_some_iff.mp hi).1
            have hrk : n * k ≤ n * r := Nat.mul_le_mul_left n (by omega)
            have hrl : n * (r + 1) ≤ n * Ls.length := Nat.mul_le_mul_left n (by omega)
            rw [Nat.mul_succ] at hrl ⊢
            rw [hY1 _ (by omega) (Or.inr (by omega)), hXs _ (by omega)]
            unfold shf
            rw [if_pos (by omega), show f + (n * r + n) + i - n = f + n * r + i by omega]
            exact p3 i x hi
      · intro m hm
        rw [up_eq, g29, if_neg hm]
      · intro p hp
        rw [upn_ne _ _ (by decide), up_eq, hY1 p (by omega) (Or.inl (by omega)), hXs p (by omega)]
        unfold shf
        rw [if_neg (by omega)]
  refine wp.go [31] 60 fun W C hW hC => ?_
  refine ⟨_, _, _, twF, rfl, ?_⟩
  refine hC _ _ _ (use (placeOf_spec (d := d) hA hn1 hn hL hK hKa hKb) ?_); rintro _ _ ⟨rfl, rfl⟩
  refine ⟨_, _, _, _, twF, rfl, rfl, ?_⟩
  refine ⟨_, _, _, twI rfl rfl, rfl, (by omega), gt_at (n) (by omega) (lenlt (j := 29) (hA) (show (n) < 12 by omega)), ?_⟩
  rw [l1]
  refine ⟨fun c => hW _ (ins ?_), fun c => ?_⟩
  · unfold insC
    rw [List.getElem?_eq_none (by omega), if_neg (show ¬ (false = true) by decide)]
  · have hk : plc K Ls < Ls.length := by omega
    have room := hL.room hk
    obtain ⟨p1, p2, p3⟩ := l4 _ _ (List.getElem?_eq_getElem hk)
    refine ⟨_, _, _, twF, rfl, ?_⟩
    refine hC _ _ _ (use (wpd.up (show d + 1 ≤ d + 2 by omega) (codeAt_spec (d := d) (k := plc K Ls) hA hn l2 (by omega))) ?_); rintro _ _ ⟨rfl, rfl⟩
    refine ⟨_, _, _, twF, rfl, ?_⟩
    refine hC _ _ _ (use (wpd.up (show d + 1 ≤ d + 2 by omega) (against_spec (d := d) hA (by omega) (by omega) hK p1 hKa p3 hKb p2)) ?_); rintro _ _ ⟨rfl, rfl⟩
    refine ⟨fun c2 => hW _ (ins ?_), fun c2 => ?_⟩
    · unfold insC
      rw [List.getElem?_eq_getElem hk]
      rw [if_neg (by simpa using c2)]
    · have hI : insC K Ls = Ls := by
        unfold insC
        rw [List.getElem?_eq_getElem hk]
        rw [if_pos (by simpa using c2)]
      rw [hI]
      exact ⟨rfl, A, rfl, hA, Fr.refl, hL, fun _ _ => rfl, fun _ _ => rfl⟩
end COMES2
