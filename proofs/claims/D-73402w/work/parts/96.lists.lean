/-! THE TWIN's LISTS: codes and their order -/
def difC : List Nat → List Nat → Int
  | a :: k, b :: l => if a = b then difC k l else (a : Int) - (b : Int)
  | _, _ => 0
/-- a code lies in the list from f on -/
def codAt (X : List Int) (f : Nat) (L : List Nat) : Prop := ∀ i x, L[i]? = some x → gt X (f + i) = ((x : Nat) : Int)
section LISTS
variable {d : Nat} {h0 : AH} {M : Nat} {A : Nat → List Int} {sc : Nat → Int}
theorem codeAt_spec (hA : lens A) {n k f : Nat} (hn : n < 12) (hf : gt (A 30) n = ((f : Nat) : Int)) (hb : f + n * k ≤ 100000) : wp (d + 1) 306 (0, ent 3 [vR (some M), vI ((n : Nat) : Int), vI ((k : Nat) : Int)], [], tw h0 M A sc) (gives (tw h0 M A sc) ((f + n * k : Nat) : Int)) := by
  refine wp.go [] 30 fun W C hW hC => ?_
  refine ⟨_, _, _, _, twF, rfl, rfl, ?_⟩
  refine ⟨_, _, _, twI rfl rfl, rfl, (by omega), gt_at (n) (by omega) (lenlt (j := 30) (hA) (show (n) < 12 by omega)), ?_⟩
  rw [hf]
  conv => whnf
  rw [imulN (by omega), iaddN (by omega)]
  exact ⟨rfl, rfl⟩
theorem difC_skip : ∀ (i : Nat) (K L : List Nat), K.length = L.length → (∀ m, m < i → K[m]? = L[m]?) → difC K L = difC (K.drop i) (L.drop i)
  | 0, _, _, _, _ => rfl
  | i + 1, [], [], _, _ => rfl
  | i + 1, a :: K, b :: L, hl, h => by
    have h0 : a = b := Option.some.inj (h 0 (by omega))
    subst h0
    show (if a = a then difC K L else _) = _
    rw [if_pos rfl]
    exact difC_skip i K L (Nat.succ.inj hl) (fun m hm => h (m + 1) (by omega))
  | i + 1, [], b :: L, hl, _ => by simp at hl
  | i + 1, a :: K, [], hl, _ => by simp at hl
theorem against_spec (hA : lens A) {n f : Nat} (hn : n ≤ 16) (hf : f + n ≤ 3200) {K L : List Nat} (hK : K.length = n) (hL : L.length = n) (hKa : isAt (A 26) K) (hLa : codAt (A 31) f L) (hKb : ∀ x, x ∈ K → x < 100) (hLb : ∀ x, x ∈ L → x < 100) : wp (d + 1) 334 (0, ent 4 [vR (some M), vI ((f : Nat) : Int), vI ((n : Nat) : Int)], [], tw h0 M A sc) (gives (tw h0 M A sc) (difC K L)) := by
  have loop : ∀ (j i : Nat), j + i = n → (∀ m, m < i → K[m]? = L[m]?) → wp (d + 1) 334 (2, [some (vR (some M)), some (vI ((f : Nat) : Int)), some (vI ((n : Nat) : Int)), some (vI ((i : Nat) : Int))], [], tw h0 M A sc) (gives (tw h0 M A sc) (difC K L)) := by
    intro j
    induction j with
    | zero =>
      intro i hj hi
      rw [difC_skip i K L (by omega) hi, List.drop_of_length_le (by omega)]
      refine wp.go [2] 40 fun W C hW hC => ?_
      exact ⟨fun _ => ⟨rfl, rfl⟩, fun c => absurd c (by omega)⟩
    | succ j ih =>
      intro i hj hi
      have g1 := hKa i _ (List.getElem?_eq_getElem (show i < K.length by omega))
      have g2 := hLa i _ (List.getElem?_eq_getElem (show i < L.length by omega))
      have b1 := hKb _ (List.getElem_mem (show i < K.length by omega))
      have b2 := hLb _ (List.getElem_mem (show i < L.length by omega))
      refine wp.go [2] 60 fun W C hW hC => ?_
      refine ⟨fun c => absurd c (by omega), fun _ => ?_⟩
      refine ⟨_, _, _, _, twF, rfl, rfl, ?_⟩
      refine ⟨_, _, _, twI rfl rfl, rfl, (by omega), gt_at (i) (by omega) (lenlt (j := 26) (hA) (show (i) < 16 by omega)), ?_⟩
      rw [g1]
      refine ⟨_, _, _, _, twF, rfl, rfl, ?_⟩
      (conv => whnf); simp (disch := omega) only [iadd_eq, isub_eq, imul_eq]
      refine ⟨_, _, _, twI rfl rfl, rfl, (by omega), gt_at (f + i) (by omega) (lenlt (j := 31) (hA) (show (f + i) < 3200 by omega)), ?_⟩
      rw [g2]
      refine ⟨fun c => ?_, fun c => ?_⟩
      · (conv => whnf); simp (disch := omega) only [iadd_eq, isub_eq, imul_eq]
        refine hW _ (ih (i + 1) (by omega) (fun m hm => ?_))
        by_cases e : m = i
        · subst e
          rw [List.getElem?_eq_getElem (show m < K.length by omega), List.getElem?_eq_getElem (show m < L.length by omega)]
          congr 1; omega
        · exact hi m (by omega)
      · refine ⟨_, _, _, _, twF, rfl, rfl, ?_⟩
        refine ⟨_, _, _, twI rfl rfl, rfl, (by omega), gt_at (i) (by omega) (lenlt (j := 26) (hA) (show (i) < 16 by omega)), ?_⟩
        rw [g1]
        refine ⟨_, _, _, _, twF, rfl, rfl, ?_⟩
        (conv => whnf); simp (disch := omega) only [iadd_eq, isub_eq, imul_eq]
        refine ⟨_, _, _, twI rfl rfl, rfl, (by omega), gt_at (f + i) (by omega) (lenlt (j := 31) (hA) (show (f + i) < 3200 by omega)), ?_⟩
        rw [g2]
        conv => whnf
        rw [isub_eq (by omega)]
        refine ⟨?_, rfl⟩
        rw [difC_skip i K L (by omega) hi, List.drop_eq_getElem_cons (show i < K.length by omega), List.drop_eq_getElem_cons (show i < L.length by omega)]
        unfold difC
        rw [if_neg (fun e => c (by rw [e]))]
  refine wp.go [2] 20 fun W C hW hC => ?_
  exact hW _ (loop n 0 rfl (fun m hm => absurd hm (by omega)))
end LISTS
