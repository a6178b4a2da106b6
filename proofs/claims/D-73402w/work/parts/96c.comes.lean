section COMES
variable {d : Nat} {h0 : AH} {M : Nat} {A : Nat → List Int} {sc : Nat → Int}
def shf (X : List Int) (n lo hi p : Nat) : Int := if lo + n ≤ p ∧ p < hi + n then gt X (p - n) else gt X p
theorem comes_shift (hA : lens A) {n f k len : Nat} (hn : n < 12) (hf : gt (A 30) n = ((f : Nat) : Int)) (hk : k ≤ len) (hr : f + n * len + n ≤ 3200) {Q : Rs → AH → Prop}
    (hQ : ∀ X x3, X.length = 3200 → (∀ p, p < 3200 → gt X p = shf (A 31) n (f + n * k) (f + n * len) p) → wp (d + 2) 332 (75, [some (vR (some M)), some (vI ((n : Nat) : Int)), some (vI ((k : Nat) : Int)), some (vI x3)], [], tw h0 M (up A 31 X) sc) Q) :
    ∀ (j q : Nat) (X : List Int), q = f + n * k + j → q ≤ f + n * len → X.length = 3200 → (∀ p, p < 3200 → gt X p = shf (A 31) n q (f + n * len) p) → wp (d + 2) 332 (45, [some (vR (some M)), some (vI ((n : Nat) : Int)), some (vI ((k : Nat) : Int)), some (vI ((q : Int) - 1))], [], tw h0 M (up A 31 X) sc) Q := by
  have hnk : n * k ≤ n * len := Nat.mul_le_mul_left n hk
  intro j
  induction j with
  | zero =>
    intro q X hq hq2 hX h
    have hA' : lens (up A 31 X) := hA.up (by rw [hX]; rfl)
    refine wp.go [45, 75] 40 fun W C hW hC => ?_
    refine ⟨_, _, _, twF, rfl, ?_⟩
    refine hC _ _ _ (use (codeAt_spec (d := d) (k := k) hA' hn (by rw [upn_ne _ _ (by decide)]; exact hf) (by omega)) ?_); rintro _ _ ⟨rfl, rfl⟩
    refine ⟨fun _ => hW _ (hQ X _ hX (fun p hp => by rw [h p hp, hq]; rfl)), fun c => absurd c (by omega)⟩
  | succ j ih =>
    intro q X hq hq2 hX h
    have hA' : lens (up A 31 X) := hA.up (by rw [hX]; rfl)
    obtain ⟨r, rfl⟩ : ∃ r, q = r + 1 := ⟨q - 1, by omega⟩
    have e0 : ((r + 1 : Nat) : Int) - 1 = ((r : Nat) : Int) := by omega
    rw [e0]
    refine wp.go [45, 75] 60 fun W C hW hC => ?_
    refine ⟨_, _, _, twF, rfl, ?_⟩
    refine hC _ _ _ (use (codeAt_spec (d := d) (k := k) hA' hn (by rw [upn_ne _ _ (by decide)]; exact hf) (by omega)) ?_); rintro _ _ ⟨rfl, rfl⟩
    refine ⟨fun c => absurd c (by omega), fun _ => ?_⟩
    refine ⟨_, _, _, _, twF, rfl, rfl, ?_⟩
    refine ⟨_, _, _, _, twF, rfl, rfl, ?_⟩
    (conv => whnf); simp (disch := omega) only [iadd_eq, isub_eq, imul_eq]
    refine ⟨_, _, _, twI rfl rfl, rfl, (by omega), gt_at (r) (by omega) (lenlt (j := 31) (hA') (show (r) < 3200 by omega)), ?_⟩
    (refine ⟨_, twI rfl rfl, (by omega), (ilt (r + n) (by omega) (lenlt (j := 31) (hA') (show (r + n) < 3200 by omega))), ?_⟩; rw [twSetI rfl rfl]; try rw [Int.toNat_natCast])
    rw [up_up, up_eq, show (((r : Nat) : Int) + ((n : Nat) : Int)).toNat = r + n by omega]
    (conv => whnf); simp (disch := omega) only [iadd_eq, isub_eq, imul_eq]
    have e1 : ((r : Nat) : Int) + -1 = ((r : Nat) : Int) - 1 := by omega
    rw [e1]
    refine hW _ (ih r _ (by omega) (by omega) (by rw [List.length_set, hX]) (fun p hp => ?_))
    have hr0 := h r (by omega)
    unfold shf at hr0 ⊢
    rw [if_neg (by omega)] at hr0
    rw [gt_set (by omega)]
    by_cases e : p = r + n
    · subst e
      rw [if_pos rfl, if_pos (by omega), hr0, Nat.add_sub_cancel]
    · rw [if_neg e, h p hp]
      unfold shf
      by_cases z : r + 1 + n ≤ p ∧ p < f + n * len + n
      · rw [if_pos z, if_pos (by omega)]
      · rw [if_neg z, if_neg (by omega)]
theorem comes_fill (hA : lens A) {n f k : Nat} (hn : n < 12) (hf : gt (A 30) n = ((f : Nat) : Int)) (hr : f + n * k + n ≤ 3200) {K : List Nat} (hK : K.length = n) (hKa : isAt (A 26) K) {X0 : List Int} {Q : Rs → AH → Prop}
    (hQ : ∀ X x3, X.length = 3200 → (∀ p, p < 3200 → (p < f + n * k ∨ f + n * k + n ≤ p) → gt X p = gt X0 p) → codAt X (f + n * k) K → wp (d + 2) 332 (107, [some (vR (some M)), some (vI ((n : Nat) : Int)), some (vI ((k : Nat) : Int)), some (vI x3)], [], tw h0 M (up A 31 X) sc) Q) :
    ∀ (j i : Nat) (X : List Int), j + i = n → X.length = 3200 → (∀ p, p < 3200 → (p < f + n * k ∨ f + n * k + n ≤ p) → gt X p = gt X0 p) → codAt X (f + n * k) (K.take i) → wp (d + 2) 332 (77, [some (vR (some M)), some (vI ((n : Nat) : Int)), some (vI ((k : Nat) : Int)), some (vI ((i : Nat) : Int))], [], tw h0 M (up A 31 X) sc) Q := by
  intro j
  induction j with
  | zero =>
    intro i X hj hX h1 h2
    obtain rfl : i = n := by omega
    rw [← hK, List.take_length, hK] at h2
    refine wp.go [77, 107] 20 fun W C hW hC => ?_
    refine ⟨fun _ => hW _ (hQ X _ hX h1 h2), fun c => absurd c (by omega)⟩
  | succ j ih =>
    intro i X hj hX h1 h2
    have hA' : lens (up A 31 X) := hA.up (by rw [hX]; rfl)
    have g := hKa i _ (List.getElem?_eq_getElem (show i < K.length by omega))
    refine wp.go [77, 107] 60 fun W C hW hC => ?_
    refine ⟨fun c => absurd c (by omega), fun _ => ?_⟩
    refine ⟨_, _, _, _, twF, rfl, rfl, ?_⟩
    refine ⟨_, _, _, twF, rfl, ?_⟩
    refine hC _ _ _ (use (codeAt_spec (d := d) (k := k) hA' hn (by rw [upn_ne _ _ (by decide)]; exact hf) (by omega)) ?_); rintro _ _ ⟨rfl, rfl⟩
    refine ⟨_, _, _, _, twF, rfl, rfl, ?_⟩
    refine ⟨_, _, _, twI rfl rfl, rfl, (by omega), gt_at (i) (by omega) (lenlt (j := 26) (hA') (show (i) < 16 by omega)), ?_⟩
    rw [upn_ne _ _ (by decide), g]
    (conv => whnf); simp (disch := omega) only [iadd_eq, isub_eq, imul_eq]
    (refine ⟨_, twI rfl rfl, (by omega), (ilt (f + n * k + i) (by omega) (lenlt (j := 31) (hA') (show (f + n * k + i) < 3200 by omega))), ?_⟩; rw [twSetI rfl rfl]; try rw [Int.toNat_natCast])
    rw [up_up, up_eq, show (((f + n * k : Nat) : Int) + ((i : Nat) : Int)).toNat = f + n * k + i by omega]
    (conv => whnf); simp (disch := omega) only [iadd_eq, isub_eq, imul_eq]
    refine hW _ (ih (i + 1) _ (by omega) (by rw [List.length_set, hX]) (fun p hp hp2 => ?_) (fun m x hm => ?_))
    · rw [gt_set (by omega), if_neg (by omega)]; exact h1 p hp hp2
    · have hm2 := (List.getElem?_eq_some_iff.mp hm).1
      rw [List.length_take] at hm2
      rw [List.getElem?_take_of_lt (by omega)] at hm
      rw [gt_set (by omega)]
      by_cases e : m = i
      · subst e
        rw [if_pos rfl]
        rw [List.getElem?_eq_getElem (show m < K.length by omega)] at hm
        cases hm; rfl
      · rw [if_neg (by omega)]; exact h2 m x (by rw [List.getElem?_take_of_lt (by omega)]; exact hm)
end COMES
