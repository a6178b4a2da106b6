/-! THE TWIN's MARKS: products -/
theorem sumR_mono {f : Nat → Nat} : ∀ {i j : Nat}, i ≤ j → sumR i f ≤ sumR j f
  | i, 0, h => by rw [Nat.le_zero.mp h]; exact Nat.le_refl _
  | i, j + 1, h => by
    by_cases c : i = j + 1
    · rw [c]; exact Nat.le_refl _
    · have := sumR_mono (f := f) (show i ≤ j by omega)
      simp only [sumR]; omega
section MARKS2
variable {d : Nat} {h0 : AH} {M : Nat} {A : Nat → List Int} {sc : Nat → Int} {tab : List Tr}
theorem mult_in {a b : Wm} (hA : lens A) (ha : ∀ k, k < 4 → gt (A 22) k = ((a k : Nat) : Int)) (hb : ∀ k, k < 4 → gt (A 23) k = ((b k : Nat) : Int)) (hB : ∀ k, k < 4 → timesM a b k ≤ 1000000000) {k : Nat} (hk : k < 4) {Q : Rs → AH → Prop}
    (hQ : ∀ X, X.length = 4 → (∀ m, m < k + 1 → gt X m = ((timesM a b m : Nat) : Int)) → wp (d + 1) 327 (51, [some (vR (some M)), some (vI k), some (vI ((k + 1 : Nat) : Int))], [], tw h0 M (up A 24 X) sc) Q) :
    ∀ (j i : Nat) (X : List Int), j + i = k + 1 → X.length = 4 → gt X k = ((sumR i (fun q => a q * b (k - q)) : Nat) : Int) → (∀ m, m < k → gt X m = ((timesM a b m : Nat) : Int)) → wp (d + 1) 327 (16, [some (vR (some M)), some (vI k), some (vI i)], [], tw h0 M (up A 24 X) sc) Q := by
  intro j
  induction j with
  | zero =>
    intro i X hj hX h1 h2
    obtain rfl : i = k + 1 := by omega
    refine wp.go [16, 51] 40 fun W C hW hC => ?_
    refine ⟨fun _ => ?_, fun c => absurd c (by omega)⟩
    refine hW _ (hQ X hX (fun m hm => ?_))
    by_cases e : m = k
    · subst e; exact h1
    · exact h2 m (by omega)
  | succ j ih =>
    intro i X hj hX h1 h2
    have hA' : lens (up A 24 X) := hA.up (by rw [hX]; rfl)
    have hs : sumR i (fun q => a q * b (k - q)) + a i * b (k - i) ≤ 1000000000 := by
      have := sumR_mono (f := fun q => a q * b (k - q)) (show i + 1 ≤ k + 1 by omega)
      have h3 := hB k hk
      simp only [timesM, sumR] at this h3
      omega
    refine wp.go [16, 51] 60 fun W C hW hC => ?_
    refine ⟨fun c => absurd c (by omega), fun _ => ?_⟩
    refine ⟨_, _, _, _, twF, rfl, rfl, ?_⟩
    refine ⟨_, _, _, twI rfl rfl, rfl, (by omega), gt_at (k) (by omega) (lenlt (j := 24) (hA') (show (k) < 4 by omega)), ?_⟩
    rw [up_eq, h1]
    refine ⟨_, _, _, _, twF, rfl, rfl, ?_⟩
    refine ⟨_, _, _, twI rfl rfl, rfl, (by omega), gt_at (i) (by omega) (lenlt (j := 22) (hA') (show (i) < 4 by omega)), ?_⟩
    rw [upn_ne _ _ (by decide), ha i (by omega)]
    refine ⟨_, _, _, _, twF, rfl, rfl, ?_⟩
    (conv => whnf); simp (disch := omega) only [iadd_eq, isub_eq, imul_eq]
    refine ⟨_, _, _, twI rfl rfl, rfl, (by omega), gt_at (k - i) (by omega) (lenlt (j := 23) (hA') (show (k - i) < 4 by omega)), ?_⟩
    rw [upn_ne _ _ (by decide), hb (k - i) (by omega)]
    conv => whnf
    rw [imulN (by omega), iaddN (by omega)]
    (refine ⟨_, twI rfl rfl, (by omega), (ilt (k) (by omega) (lenlt (j := 24) (hA') (show (k) < 4 by omega))), ?_⟩; rw [twSetI rfl rfl]; try rw [Int.toNat_natCast])
    rw [up_up, up_eq]
    (conv => whnf); simp (disch := omega) only [iadd_eq, isub_eq, imul_eq]
    refine hW _ (ih (i + 1) _ (by omega) (by rw [List.length_set, hX]) ?_ (fun m hm => ?_))
    · rw [gt_set (by omega), if_pos rfl]; rfl
    · rw [gt_set (by omega), if_neg (by omega)]; exact h2 m hm
theorem mult_out {a b : Wm} (hA : lens A) (ha : ∀ k, k < 4 → gt (A 22) k = ((a k : Nat) : Int)) (hb : ∀ k, k < 4 → gt (A 23) k = ((b k : Nat) : Int)) (hB : ∀ k, k < 4 → timesM a b k ≤ 1000000000) {Q : Rs → AH → Prop}
    (hQ : ∀ (X : List Int) (x2 : Option AV), X.length = 4 → (∀ m, m < 4 → gt X m = ((timesM a b m : Nat) : Int)) → wp (d + 1) 327 (57, [some (vR (some M)), some (vI 4), x2], [], tw h0 M (up A 24 X) sc) Q) :
    ∀ (j k : Nat) (X : List Int) (x2 : Option AV), j + k = 4 → X.length = 4 → (∀ m, m < k → gt X m = ((timesM a b m : Nat) : Int)) → wp (d + 1) 327 (2, [some (vR (some M)), some (vI k), x2], [], tw h0 M (up A 24 X) sc) Q := by
  intro j
  induction j with
  | zero =>
    intro k X x2 hj hX h
    obtain rfl : k = 4 := by omega
    refine wp.go [2, 57] 20 fun W C hW hC => ?_
    refine ⟨fun _ => hW _ (hQ X x2 hX h), fun c => absurd c (by decide)⟩
  | succ j ih =>
    intro k X x2 hj hX h
    have hA' : lens (up A 24 X) := hA.up (by rw [hX]; rfl)
    refine wp.go [2, 16, 57] 40 fun W C hW hC => ?_
    refine ⟨fun c => absurd c (by omega), fun _ => ?_⟩
    refine ⟨_, _, _, _, twF, rfl, rfl, ?_⟩
    (refine ⟨_, twI rfl rfl, (by omega), (ilt (k) (by omega) (lenlt (j := 24) (hA') (show (k) < 4 by omega))), ?_⟩; rw [twSetI rfl rfl]; try rw [Int.toNat_natCast])
    rw [up_up, up_eq]
    refine hW _ (mult_in hA ha hb hB (show k < 4 by omega) (fun Y hY h2 => ?_) (k + 1) 0 _ rfl (by rw [List.length_set, hX]) ?_ (fun m hm => ?_))
    · refine wp.go [2] 20 fun W C hW hC => ?_
      (conv => whnf); simp (disch := omega) only [iadd_eq, isub_eq, imul_eq]
      exact hW _ (ih (k + 1) Y _ (by omega) hY h2)
    · rw [gt_set (by omega), if_pos rfl]; rfl
    · rw [gt_set (by omega), if_neg (by omega)]; exact h m hm
theorem mult_copy {c : Wm} (hA : lens A) (hc : ∀ k, k < 4 → gt (A 24) k = ((c k : Nat) : Int)) {x2 : Option AV} :
    ∀ (j k : Nat) (X : List Int), j + k = 4 → X.length = 4 → (∀ m, m < k → gt X m = ((c m : Nat) : Int)) → wp (d + 1) 327 (59, [some (vR (some M)), some (vI k), x2], [], tw h0 M (up A 22 X) sc) (fun r h' => r = .inl none ∧ ∃ X, h' = tw h0 M (up A 22 X) sc ∧ X.length = 4 ∧ ∀ m, m < 4 → gt X m = ((c m : Nat) : Int)) := by
  intro j
  induction j with
  | zero =>
    intro k X hj hX h
    obtain rfl : k = 4 := by omega
    refine wp.go [59] 20 fun W C hW hC => ?_
    refine ⟨fun _ => ⟨rfl, X, rfl, hX, h⟩, fun c => absurd c (by decide)⟩
  | succ j ih =>
    intro k X hj hX h
    have hA' : lens (up A 22 X) := hA.up (by rw [hX]; rfl)
    refine wp.go [59] 40 fun W C hW hC => ?_
    refine ⟨fun c => absurd c (by omega), fun _ => ?_⟩
    refine ⟨_, _, _, _, twF, rfl, rfl, ?_⟩
    refine ⟨_, _, _, _, twF, rfl, rfl, ?_⟩
    refine ⟨_, _, _, twI rfl rfl, rfl, (by omega), gt_at (k) (by omega) (lenlt (j := 24) (hA') (show (k) < 4 by omega)), ?_⟩
    rw [upn_ne _ _ (by decide), hc k (by omega)]
    (refine ⟨_, twI rfl rfl, (by omega), (ilt (k) (by omega) (lenlt (j := 22) (hA') (show (k) < 4 by omega))), ?_⟩; rw [twSetI rfl rfl]; try rw [Int.toNat_natCast])
    rw [up_up, up_eq]
    (conv => whnf); simp (disch := omega) only [iadd_eq, isub_eq, imul_eq]
    refine hW _ (ih (k + 1) _ (by omega) (by rw [List.length_set, hX]) (fun m hm => ?_))
    rw [gt_set (by omega)]
    by_cases e : m = k
    · rw [if_pos e, e]
    · rw [if_neg e]; exact h m (by omega)
/-- Model.multiplies -/
theorem multiplies_spec {a b : Wm} (hA : lens A) (ha : ∀ k, k < 4 → gt (A 22) k = ((a k : Nat) : Int)) (hb : ∀ k, k < 4 → gt (A 23) k = ((b k : Nat) : Int)) (hB : ∀ k, k < 4 → timesM a b k ≤ 1000000000) : wp (d + 1) 327 (0, ent 3 [vR (some M)], [], tw h0 M A sc) (fun r h' => r = .inl none ∧ ∃ A', h' = tw h0 M A' sc ∧ lens A' ∧ Fr [22, 24] [] A A' sc sc ∧ ∀ k, k < 4 → gt (A' 22) k = ((timesM a b k : Nat) : Int)) := by
  have hl : (A 24).length = 4 := by rw [hA.eq 24]; rfl
  have hl2 : (A 22).length = 4 := by rw [hA.eq 22]; rfl
  refine wp.go [2] 20 fun W C hW hC => ?_
  have key := mult_out (d := d) (h0 := h0) (M := M) (sc := sc) hA ha hb hB (Q := fun r h' => r = .inl none ∧ ∃ A', h' = tw h0 M A' sc ∧ lens A' ∧ Fr [22, 24] [] A A' sc sc ∧ ∀ k, k < 4 → gt (A' 22) k = ((timesM a b k : Nat) : Int)) (fun X x2 hX h => ?_) 4 0 (A 24) none rfl hl (fun i hi => absurd hi (by omega))
  · rw [upn_self] at key
    exact hW _ key
  · have hA' : lens (up A 24 X) := hA.up (by rw [hX]; rfl)
    refine wp.go [59] 20 fun W C hW hC => ?_
    have k2 := mult_copy (d := d) (h0 := h0) (M := M) (sc := sc) (A := up A 24 X) (c := timesM a b) (x2 := x2) hA' (fun k hk => by rw [up_eq]; exact h k hk) 4 0 (A 22) rfl hl2 (fun i hi => absurd hi (by omega))
    have e : up (up A 24 X) 22 (A 22) = up A 24 X := by
      have : up A 24 X 22 = A 22 := upn_ne _ _ (by decide)
      rw [← this, upn_self]
    rw [e] at k2
    refine hW _ (wpd.mono ?_ _ _ _ k2)
    rintro r h' ⟨rfl, Y, rfl, hY, h2⟩
    refine ⟨rfl, _, rfl, hA'.up (by rw [hY]; rfl), ?_, fun k hk => by rw [up_eq]; exact h2 k hk⟩
    exact (Fr.upA (by decide)).trans (Fr.upA (by decide))
end MARKS2
