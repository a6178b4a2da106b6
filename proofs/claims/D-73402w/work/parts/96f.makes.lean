section MAKES2
variable {d : Nat} {h0 : AH} {M : Nat} {A : Nat → List Int} {sc : Nat → Int}
def MkP (X : List Int) (L : List Nat) (n c : Nat) : Prop := X.length = 17 ∧ gt X 0 = ((n : Nat) : Int) ∧ ∀ c', c = c' + 1 → rowsOf X (gC L c')
theorem mk_loop2 (hA : lens A) {f n : Nat} {L : List Nat} (hn1 : 1 ≤ n) (hn : n ≤ 16) (hf : f + n ≤ 3200) (hL : L.length = n) (hok : okC L) (hLa : codAt (A 31) f L) (hLb : ∀ x, x ∈ L → x < 100) :
    ∀ (j c : Nat) (X : List Int) (x4 : Option AV), j + c = n → MkP X L n c → wp (d + 1) 307 (9, [some (vR (some M)), some (vI ((f : Nat) : Int)), some (vI ((n : Nat) : Int)), some (vI ((c : Nat) : Int)), x4], [], tw h0 M (up A 32 X) sc) (fun r h' => r = .inl none ∧ ∃ X, h' = tw h0 M (up A 32 X) sc ∧ MkP X L n n) := by
  intro j
  induction j with
  | zero =>
    intro c X x4 hj hP
    obtain rfl : c = n := by omega
    refine wp.go [9] 20 fun W C hW hC => ?_
    exact ⟨fun _ => ⟨rfl, X, rfl, hP⟩, fun c => absurd c (by omega)⟩
  | succ j ih =>
    intro c X x4 hj hP
    obtain ⟨hX, hX0, hXr⟩ := hP
    have hA' : lens (up A 32 X) := hA.up (by rw [hX]; rfl)
    have nxt : ∀ (Y : List Int) (t : Int), MkP Y L n (c + 1) → wp (d + 1) 307 (99, [some (vR (some M)), some (vI ((f : Nat) : Int)), some (vI ((n : Nat) : Int)), some (vI ((c : Nat) : Int)), some (vI t)], [], tw h0 M (up A 32 Y) sc) (fun r h' => r = .inl none ∧ ∃ X, h' = tw h0 M (up A 32 X) sc ∧ MkP X L n n) := by
      intro Y t hY
      refine wp.go [9] 20 fun W C hW hC => ?_
      (conv => whnf); simp (disch := omega) only [iadd_eq, isub_eq, imul_eq]
      exact hW _ (ih (c + 1) Y _ (by omega) hY)
    have hX1 : (X.set (1 + c) 0).length = 17 := by rw [List.length_set]; exact hX
    have hA1 : lens (up A 32 (X.set (1 + c) 0)) := hA.up (by rw [hX1]; rfl)
    refine wp.go [9, 28] 40 fun W C hW hC => ?_
    refine ⟨fun c => absurd c (by omega), fun _ => ?_⟩
    refine ⟨_, _, _, _, twF, rfl, rfl, ?_⟩
    (conv => whnf); simp (disch := omega) only [iadd_eq, isub_eq, imul_eq]
    (refine ⟨_, twI rfl rfl, (by omega), (ilt (1 + c) (by omega) (lenlt (j := 32) (hA') (show (1 + c) < 17 by omega))), ?_⟩; rw [twSetI rfl rfl]; try rw [Int.toNat_natCast])
    rw [up_up, up_eq, show ((1 : Int) + ((c : Nat) : Int)).toNat = 1 + c by omega]
    (conv => whnf); simp (disch := omega) only [iadd_eq, isub_eq, imul_eq]
    refine hW _ (mk_find hA1 hn hf hL hLa hLb (show c < n by omega) (fun t ht => ?_) c (Nat.le_refl _) rfl)
    cases c with
    | zero =>
      have hp : parC L 0 = none := rfl
      rw [hp] at ht
      have ht : t = -1 := ht
      subst ht
      refine wp.go [99] 20 fun W C hW hC => ?_
      refine ⟨fun c => absurd c (by decide), fun _ => ?_⟩
      refine hW _ (nxt _ _ ⟨hX1, by rw [gt_set (by omega), if_neg (by omega)]; exact hX0, fun c' hc' i hi => ?_⟩)
      obtain rfl : c' = 0 := by omega
      have hi : i < 1 := hi
      obtain rfl : i = 0 := by omega
      rw [gt_set (by omega), if_pos rfl]
      rfl
    | succ c =>
      obtain ⟨r, hr⟩ := Option.isSome_iff_exists.mp (hok (c + 1) (by omega) (by omega))
      have hrl := parD_lt (L := L) hr
      rw [hr] at ht
      have ht : t = ((r : Nat) : Int) := ht
      subst ht
      have hw := gC_wf hok c (by omega) (by omega)
      have hgn := gC_n L c
      have hrow := row_lt (G := gC L c) hw.2.1 (c := r)
      have hrr := hXr c rfl r (by omega)
      have hp2 := pow16 (show r < 16 by omega)
      have hp3 := pow16 (show c + 1 < 16 by omega)
      refine wp.go [99] 60 fun W C hW hC => ?_
      refine ⟨fun _ => ?_, fun c => absurd c (by omega)⟩
      refine ⟨_, _, _, _, twF, rfl, rfl, ?_⟩
      (conv => whnf); simp (disch := omega) only [iadd_eq, isub_eq, imul_eq]
      refine ⟨_, _, _, twI rfl rfl, rfl, (by omega), gt_at (1 + (c + 1)) (by omega) (lenlt (j := 32) (hA1) (show (1 + (c + 1)) < 17 by omega)), ?_⟩
      rw [up_eq, gt_set (by omega), if_pos rfl]
      conv => whnf
      rw [pow_i (by omega)]
      have hor : ior 0 ((2 ^ r : Nat) : Int) = ((2 ^ r : Nat) : Int) := by
        have := ior_eq (a := 0) (b := 2 ^ r) (by decide) (by omega)
        rw [Nat.zero_or] at this
        exact this
      rw [hor]
      (refine ⟨_, twI rfl rfl, (by omega), (ilt (1 + (c + 1)) (by omega) (lenlt (j := 32) (hA1) (show (1 + (c + 1)) < 17 by omega))), ?_⟩; rw [twSetI rfl rfl]; try rw [Int.toNat_natCast])
      rw [up_up, up_eq, show ((1 : Int) + ((c + 1 : Nat) : Int)).toNat = 1 + (c + 1) by omega, List.set_set]
      have hX2 : (X.set (1 + (c + 1)) ((2 ^ r : Nat) : Int)).length = 17 := by rw [List.length_set]; exact hX
      have hA2 : lens (up A 32 (X.set (1 + (c + 1)) ((2 ^ r : Nat) : Int))) := hA.up (by rw [hX2]; rfl)
      refine ⟨_, _, _, _, twF, rfl, rfl, ?_⟩
      (conv => whnf); simp (disch := omega) only [iadd_eq, isub_eq, imul_eq]
      refine ⟨_, _, _, twI rfl rfl, rfl, (by omega), gt_at (1 + r) (by omega) (lenlt (j := 32) (hA2) (show (1 + r) < 17 by omega)), ?_⟩
      rw [up_eq, gt_set (by omega), if_neg (by omega), hrr]
      conv => whnf
      rw [pow_i (by omega), ior_eq (by omega) (by omega)]
      (refine ⟨_, twI rfl rfl, (by omega), (ilt (1 + r) (by omega) (lenlt (j := 32) (hA2) (show (1 + r) < 17 by omega))), ?_⟩; rw [twSetI rfl rfl]; try rw [Int.toNat_natCast])
      rw [up_up, up_eq, show ((1 : Int) + ((r : Nat) : Int)).toNat = 1 + r by omega]
      refine hW _ (nxt _ _ ⟨by rw [List.length_set]; exact hX2, by rw [gt_set (by omega), if_neg (by omega), gt_set (by omega), if_neg (by omega)]; exact hX0, fun c' hc' i hi => ?_⟩)
      obtain rfl : c' = c + 1 := by omega
      have hg : gC L (c + 1) = gGrow (gC L c) r := by show gGrow (gC L c) ((parC L (c + 1)).getD 0) = _; rw [hr]; rfl
      rw [gC_n] at hi
      rw [hg, gt_set (by omega)]
      by_cases e1 : i = c + 1
      · subst e1
        rw [if_neg (by omega), gt_set (by omega), if_pos rfl]
        have := row_grow_n hw (c := r) (by omega) (by omega)
        rw [hgn, Nat.zero_or] at this
        rw [this]
      · have := row_grow hw (c := r) (i := i) (by omega) (by omega) (by omega)
        rw [this, hgn]
        by_cases e2 : i = r
        · subst e2
          rw [if_pos rfl, if_pos rfl]
        · rw [if_neg (by omega), if_neg e2, gt_set (by omega), if_neg (by omega)]
          exact hXr c rfl i (by omega)
theorem makes_spec (hA : lens A) {f n : Nat} {L : List Nat} (hn1 : 1 ≤ n) (hn : n ≤ 16) (hf : f + n ≤ 3200) (hL : L.length = n) (hok : okC L) (hLa : codAt (A 31) f L) (hLb : ∀ x, x ∈ L → x < 100) :
    wp (d + 1) 307 (0, ent 5 [vR (some M), vI ((f : Nat) : Int), vI ((n : Nat) : Int)], [], tw h0 M A sc) (fun r h' => r = .inl none ∧ ∃ X, h' = tw h0 M (up A 32 X) sc ∧ X.length = 17 ∧ isRow X 0 (gC L (n - 1))) := by
  have hl32 : (A 32).length = 17 := by rw [hA.eq 32]; rfl
  refine wp.go [9] 40 fun W C hW hC => ?_
  refine ⟨_, _, _, _, twF, rfl, rfl, ?_⟩
  (refine ⟨_, twI rfl rfl, (by omega), (ilt (0) (by omega) (lenlt (j := 32) (hA) (show (0) < 17 by omega))), ?_⟩; rw [twSetI rfl rfl]; try rw [Int.toNat_natCast])
  refine hW _ (use (mk_loop2 (d := d) (h0 := h0) (M := M) (sc := sc) hA hn1 hn hf hL hok hLa hLb n 0 ((A 32).set 0 ((n : Nat) : Int)) none rfl ⟨by rw [List.length_set]; exact hl32, by rw [gt_set (by omega), if_pos rfl], fun c' hc' => absurd hc' (by omega)⟩) ?_)
  rintro _ _ ⟨rfl, X, rfl, h1, h2, h3⟩
  refine ⟨rfl, X, rfl, h1, ?_, fun i hi => ?_⟩
  · rw [gC_n]; rw [h2]; congr 1; omega
  · have := h3 (n - 1) (by omega) i hi
    rw [Nat.zero_add]; exact this
end MAKES2
