def ListAt (A : Nat → List Int) (n f : Nat) (Ls : List (List Nat)) : Prop := gt (A 29) n = ((Ls.length : Nat) : Int) ∧ gt (A 30) n = ((f : Nat) : Int) ∧ f + n * Ls.length ≤ 3200 ∧ ∀ k L, Ls[k]? = some L → L.length = n ∧ (∀ x, x ∈ L → x < 100) ∧ codAt (A 31) (f + n * k) L
def plc (K : List Nat) (Ls : List (List Nat)) : Nat := (Ls.takeWhile fun L => decide (0 < difC K L)).length
theorem plc_at (K : List Nat) : ∀ (Ls : List (List Nat)) (k : Nat), k ≤ Ls.length → (∀ m L, m < k → Ls[m]? = some L → 0 < difC K L) → (∀ L, Ls[k]? = some L → ¬ 0 < difC K L) → plc K Ls = k
  | [], k, hk, _, _ => (Nat.le_zero.mp hk).symm
  | L :: Ls, 0, _, _, h2 => by
    unfold plc
    rw [List.takeWhile_cons, decide_eq_false (h2 L rfl)]; rfl
  | L :: Ls, k + 1, hk, h1, h2 => by
    unfold plc
    rw [List.takeWhile_cons, decide_eq_true (h1 0 L (by omega) rfl)]
    show (List.takeWhile _ Ls).length + 1 = k + 1
    rw [show (List.takeWhile (fun L => decide (0 < difC K L)) Ls).length = k from plc_at K Ls k (Nat.le_of_succ_le_succ hk) (fun m L hm hL => h1 (m + 1) L (by omega) hL) (fun L hL => h2 L hL)]
section PLACE
variable {d : Nat} {h0 : AH} {M : Nat} {A : Nat → List Int} {sc : Nat → Int}
theorem ListAt.room {n f : Nat} {Ls : List (List Nat)} (h : ListAt A n f Ls) {k : Nat} (hk : k < Ls.length) : f + n * k + n ≤ 3200 := by
  have h1 := h.2.2.1
  have : n * (k + 1) ≤ n * Ls.length := Nat.mul_le_mul_left n hk
  rw [Nat.mul_succ] at this
  omega
theorem placeOf_spec (hA : lens A) {n f : Nat} (hn1 : 1 ≤ n) (hn : n < 12) {Ls : List (List Nat)} (hL : ListAt A n f Ls) {K : List Nat} (hK : K.length = n) (hKa : isAt (A 26) K) (hKb : ∀ x, x ∈ K → x < 100) : wp (d + 2) 333 (0, ent 3 [vR (some M), vI ((n : Nat) : Int)], [], tw h0 M A sc) (gives (tw h0 M A sc) ((plc K Ls : Nat) : Int)) := by
  obtain ⟨l1, l2, l3, l4⟩ := id hL
  have hlen : Ls.length ≤ 3200 := by
    have : 1 * Ls.length ≤ n * Ls.length := Nat.mul_le_mul_right _ hn1
    omega
  have loop : ∀ (j k : Nat), j + k = Ls.length → k ≤ 3200 → (∀ m L, m < k → Ls[m]? = some L → 0 < difC K L) → wp (d + 2) 333 (2, [some (vR (some M)), some (vI ((n : Nat) : Int)), some (vI ((k : Nat) : Int))], [], tw h0 M A sc) (gives (tw h0 M A sc) ((plc K Ls : Nat) : Int)) := by
    intro j
    induction j with
    | zero =>
      intro k hj hk3 hi
      rw [plc_at K Ls k (by omega) hi (fun L hL => by rw [List.getElem?_eq_none (by omega)] at hL; cases hL)]
      refine wp.go [2] 40 fun W C hW hC => ?_
      refine ⟨_, _, _, _, twF, rfl, rfl, ?_⟩
      refine ⟨_, _, _, twI rfl rfl, rfl, (by omega), gt_at (n) (by omega) (lenlt (j := 29) (hA) (show (n) < 12 by omega)), ?_⟩
      rw [l1]
      exact ⟨fun _ => ⟨rfl, rfl⟩, fun c => absurd c (by omega)⟩
    | succ j ih =>
      intro k hj hk3 hi
      have hk : k < Ls.length := by omega
      have room := hL.room hk
      obtain ⟨p1, p2, p3⟩ := l4 k _ (List.getElem?_eq_getElem hk)
      refine wp.go [2] 60 fun W C hW hC => ?_
      refine ⟨_, _, _, _, twF, rfl, rfl, ?_⟩
      refine ⟨_, _, _, twI rfl rfl, rfl, (by omega), gt_at (n) (by omega) (lenlt (j := 29) (hA) (show (n) < 12 by omega)), ?_⟩
      rw [l1]
      refine ⟨fun c => absurd c (by omega), fun _ => ?_⟩
      refine ⟨_, _, _, twF, rfl, ?_⟩
      refine hC _ _ _ (use (codeAt_spec (d := d) hA hn l2 (by omega)) ?_); rintro _ _ ⟨rfl, rfl⟩
      refine ⟨_, _, _, twF, rfl, ?_⟩
      refine hC _ _ _ (use (against_spec (d := d) hA (by omega) (by omega) hK p1 hKa p3 hKb p2) ?_); rintro _ _ ⟨rfl, rfl⟩
      refine ⟨fun c => ?_, fun c => ?_⟩
      · refine ⟨?_, rfl⟩
        rw [plc_at K Ls k (by omega) hi (fun L hL => by rw [List.getElem?_eq_getElem hk] at hL; cases hL; omega)]
      · (conv => whnf); simp (disch := omega) only [iadd_eq, isub_eq, imul_eq]
        refine hW _ (ih (k + 1) (by omega) (by omega) (fun m L hm hL => ?_))
        · by_cases e : m = k
          · subst e
            rw [List.getElem?_eq_getElem hk] at hL
            cases hL; omega
          · exact hi m L (by omega) hL
  refine wp.go [2] 20 fun W C hW hC => ?_
  exact hW _ (loop Ls.length 0 rfl (by omega) (fun m L hm => absurd hm (by omega)))
end PLACE
