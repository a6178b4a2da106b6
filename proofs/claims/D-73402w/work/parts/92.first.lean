/-! THE TWIN's ROOTS, DISTANCES AND LIKE CARBONS -/
def maxR (n : Nat) (f : Nat → Nat) : Nat := match n with
  | 0 => 0
  | n + 1 => max (maxR n f) (f n)
theorem maxR_le {f : Nat → Nat} {B : Nat} : ∀ {n : Nat}, (∀ i, i < n → f i ≤ B) → maxR n f ≤ B
  | 0, _ => Nat.zero_le _
  | n + 1, h => Nat.max_le.mpr ⟨maxR_le fun i hi => h i (by omega), h n (by omega)⟩
theorem sumR_bd {f : Nat → Nat} {B : Nat} : ∀ {n : Nat}, (∀ i, i < n → f i ≤ B) → sumR n f ≤ n * B
  | 0, _ => Nat.zero_le _
  | n + 1, h => by
    have := sumR_bd (n := n) fun i hi => h i (by omega)
    have := h n (by omega)
    show sumR n f + f n ≤ _
    rw [Nat.add_mul]; omega
/-- the carbon from which the code is told -/
def fstC (G : Gr) (D : Nat → Nat → Nat) : Nat := match cens G D with
  | [a] => a
  | a :: b :: _ => if 0 ≤ cmpT (TT G b a) (TT G a b) then a else b
  | [] => 0
def farC (G : Gr) (D : Nat → Nat → Nat) (c : Nat) : Nat := maxR G.1 (D c)
def togC (G : Gr) (D : Nat → Nat → Nat) (c : Nat) : Nat := sumR G.1 (D c)
def difL : List Tr → Bool
  | a :: b :: l => !eqT a b && difL (b :: l)
  | _ => true
def asyT (t : Tr) : Bool := decide (2 < (kidsT t).length) && difL (kidsT t)
section FIRST
variable {d : Nat} {h0 : AH} {M : Nat} {A : Nat → List Int} {sc : Nat → Int} {tab : List Tr} {G : Gr} {D : Nat → Nat → Nat}
theorem cmpO_some {a b : Tr} : cmpO (some a) (some b) = cmpT a b := by
  unfold cmpO cmpT; rfl
theorem first_spec (hG : G.wf) (hD : Far G D) (hS : Seen A sc tab G D) : wp (d + 5) 329 (0, ent 3 [vR (some M)], [], tw h0 M A sc) (gives (tw h0 M A sc) ((fstC G D : Nat) : Int)) := by
  have hn := hG.2.1
  obtain ⟨⟨hA, hT, hK, hV, hH, -⟩, hr, hb, hat, hrt⟩ := id hS
  refine wp.go [] 60 fun W C hW hC => ?_
  refine ⟨_, _, _, twF, rfl, ?_⟩
  refine hC _ _ _ (use (centroidAt_spec (k := 0) hG hD hS (by decide)) ?_); rintro _ _ ⟨rfl, rfl⟩
  refine ⟨_, _, _, twF, rfl, ?_⟩
  refine hC _ _ _ (use (centroidAt_spec (k := 1) hG hD hS (by decide)) ?_); rintro _ _ ⟨rfl, rfl⟩
  rcases cens_cases hG hD with ⟨c, e, h1, h2⟩ | ⟨a, b, e, h1, h2, h3, h4, h5⟩
  · rw [e]
    refine ⟨fun c => absurd rfl c, fun _ => ⟨?_, rfl⟩⟩
    unfold fstC; rw [e]; rfl
  · rw [e]
    obtain ⟨i, i1, i2, i3⟩ := hat a b h3
    obtain ⟨j, j1, j2, j3⟩ := hat b a (hG.2.2 _ _ h3).2.2.1
    refine ⟨fun _ => ?_, fun c => absurd c (by show ¬ ((b : Nat) : Int) = -1; omega)⟩
    refine ⟨_, _, _, _, twF, rfl, rfl, ?_⟩
    conv => whnf
    have ea : atN [a, b] 0 = (a : Int) := rfl
    have eb : atN [a, b] 1 = (b : Int) := rfl
    rw [ea, eb]
    simp (disch := omega) only [iadd_eq, imul_eq]
    refine ⟨_, _, _, twI rfl rfl, rfl, (by omega), gt_at (16 * b + a) (by omega) (lenlt (j := 19) (hA) (show (16 * b + a) < 272 by omega)), ?_⟩
    rw [j2]
    refine ⟨_, _, _, _, twF, rfl, rfl, ?_⟩
    conv => whnf
    simp (disch := omega) only [iadd_eq, imul_eq]
    refine ⟨_, _, _, twI rfl rfl, rfl, (by omega), gt_at (16 * a + b) (by omega) (lenlt (j := 19) (hA) (show (16 * a + b) < 272 by omega)), ?_⟩
    rw [i2]
    refine ⟨_, _, _, twF, rfl, ?_⟩
    refine hC _ _ _ (use (compares_spec hA hT hK hH j1 i1) ?_); rintro _ _ ⟨rfl, rfl⟩
    rw [i3, j3, cmpO_some]
    have hf : fstC G D = if 0 ≤ cmpT (TT G b a) (TT G a b) then a else b := by unfold fstC; rw [e]
    refine ⟨fun c1 => ⟨?_, rfl⟩, fun c1 => ⟨?_, rfl⟩⟩
    · rw [hf, if_neg (by omega)]
    · rw [hf, if_pos (by omega)]
theorem fstC_lt (hG : G.wf) (hD : Far G D) : fstC G D < G.1 := by
  unfold fstC
  rcases cens_cases hG hD with ⟨c, e, h1, h2⟩ | ⟨a, b, e, h1, h2, h3, h4, h5⟩
  · rw [e]; exact h1
  · rw [e]
    show (if _ then a else b) < _
    split
    · omega
    · exact h2
theorem rootAt_spec (hS : Seen A sc tab G D) {c : Nat} (hc : c < G.1) (hn : G.1 ≤ 16) {Q : Rs → AH → Prop} (hQ : ∀ i, i ≤ tab.length → gtT tab i = some (TT G 16 c) → Q (.inl (some (vI ((i : Nat) : Int)))) (tw h0 M A sc)) : wp (d + 1) 363 (0, ent 2 [vR (some M), vI c], [], tw h0 M A sc) Q := by
  obtain ⟨i, i1, i2, i3⟩ := hS.2.2.2.2 c hc
  have hA := hS.1.1
  refine wp.go [] 30 fun W C hW hC => ?_
  refine ⟨_, _, _, _, twF, rfl, rfl, ?_⟩
  conv => whnf
  simp (disch := omega) only [iadd_eq]
  refine ⟨_, _, _, twI rfl rfl, rfl, (by omega), gt_at (256 + c) (by omega) (lenlt (j := 19) (hA) (show (256 + c) < 272 by omega)), ?_⟩
  rw [i2]
  exact hQ i i1 i3
theorem farthest_spec (hG : G.wf) (hD : Far G D) (hM : SeenM A sc tab G D) {c : Nat} (hc : c < G.1) : wp (d + 1) 359 (0, ent 4 [vR (some M), vI c], [], tw h0 M A sc) (gives (tw h0 M A sc) ((farC G D c : Nat) : Int)) := by
  have hn := hG.2.1
  have hA := hM.1.1.1
  have hr := hM.1.2.1
  have loop : ∀ (j e : Nat), j + e = G.1 → wp (d + 1) 359 (4, [some (vR (some M)), some (vI c), some (vI ((maxR e (D c) : Nat) : Int)), some (vI e)], [], tw h0 M A sc) (gives (tw h0 M A sc) ((farC G D c : Nat) : Int)) := by
    intro j
    induction j with
    | zero =>
      intro e hj
      obtain rfl : e = G.1 := by omega
      refine wp.go [4] 40 fun W C hW hC => ?_
      refine ⟨_, _, _, _, twF, rfl, rfl, ?_⟩
      refine ⟨_, _, _, twI rfl rfl, rfl, (by omega), gt_at (0) (by omega) (lenlt (j := 18) (hA) (show (0) < 17 by omega)), ?_⟩
      rw [hr.1]
      exact ⟨fun _ => ⟨rfl, rfl⟩, fun c => absurd c (by omega)⟩
    | succ j ih =>
      intro e hj
      have hx := hM.2 c e hc (by omega)
      refine wp.go [4] 60 fun W C hW hC => ?_
      refine ⟨_, _, _, _, twF, rfl, rfl, ?_⟩
      refine ⟨_, _, _, twI rfl rfl, rfl, (by omega), gt_at (0) (by omega) (lenlt (j := 18) (hA) (show (0) < 17 by omega)), ?_⟩
      rw [hr.1]
      refine ⟨fun c => absurd c (by omega), fun _ => ?_⟩
      refine ⟨_, _, _, _, twF, rfl, rfl, ?_⟩
      conv => whnf
      simp (disch := omega) only [iadd_eq, imul_eq]
      refine ⟨_, _, _, twI rfl rfl, rfl, (by omega), gt_at (16 * c + e) (by omega) (lenlt (j := 25) (hA) (show (16 * c + e) < 256 by omega)), ?_⟩
      rw [hx]
      have hm : maxR (e + 1) (D c) = max (maxR e (D c)) (D c e) := rfl
      refine ⟨fun c1 => ?_, fun c1 => ?_⟩
      · (conv => whnf); simp (disch := omega) only [iadd_eq, isub_eq, imul_eq]
        have k := ih (e + 1) (by omega)
        rw [hm, Nat.max_eq_left (by omega)] at k
        exact hW _ k
      · refine ⟨_, _, _, _, twF, rfl, rfl, ?_⟩
        conv => whnf
        simp (disch := omega) only [iadd_eq, imul_eq]
        refine ⟨_, _, _, twI rfl rfl, rfl, (by omega), gt_at (16 * c + e) (by omega) (lenlt (j := 25) (hA) (show (16 * c + e) < 256 by omega)), ?_⟩
        rw [hx]
        (conv => whnf); simp (disch := omega) only [iadd_eq, isub_eq, imul_eq]
        have k := ih (e + 1) (by omega)
        rw [hm, Nat.max_eq_right (by omega)] at k
        exact hW _ k
  refine wp.go [4] 20 fun W C hW hC => ?_
  exact hW _ (loop G.1 0 rfl)
theorem together_spec (hG : G.wf) (hD : Far G D) (hM : SeenM A sc tab G D) {c : Nat} (hc : c < G.1) : wp (d + 1) 367 (0, ent 4 [vR (some M), vI c], [], tw h0 M A sc) (gives (tw h0 M A sc) ((togC G D c : Nat) : Int)) := by
  have hn := hG.2.1
  have hA := hM.1.1.1
  have hr := hM.1.2.1
  have hs := hD.small hG hc
  have loop : ∀ (j e : Nat), j + e = G.1 → wp (d + 1) 367 (4, [some (vR (some M)), some (vI c), some (vI ((sumR e (D c) : Nat) : Int)), some (vI e)], [], tw h0 M A sc) (gives (tw h0 M A sc) ((togC G D c : Nat) : Int)) := by
    intro j
    induction j with
    | zero =>
      intro e hj
      obtain rfl : e = G.1 := by omega
      refine wp.go [4] 40 fun W C hW hC => ?_
      refine ⟨_, _, _, _, twF, rfl, rfl, ?_⟩
      refine ⟨_, _, _, twI rfl rfl, rfl, (by omega), gt_at (0) (by omega) (lenlt (j := 18) (hA) (show (0) < 17 by omega)), ?_⟩
      rw [hr.1]
      exact ⟨fun _ => ⟨rfl, rfl⟩, fun c => absurd c (by omega)⟩
    | succ j ih =>
      intro e hj
      have hx := hM.2 c e hc (by omega)
      have hb := sumR_bd (f := D c) (B := 16) (n := e) (fun i hi => by have := hs i (by omega); omega)
      have hb2 := hs e (by omega)
      refine wp.go [4] 60 fun W C hW hC => ?_
      refine ⟨_, _, _, _, twF, rfl, rfl, ?_⟩
      refine ⟨_, _, _, twI rfl rfl, rfl, (by omega), gt_at (0) (by omega) (lenlt (j := 18) (hA) (show (0) < 17 by omega)), ?_⟩
      rw [hr.1]
      refine ⟨fun c => absurd c (by omega), fun _ => ?_⟩
      refine ⟨_, _, _, _, twF, rfl, rfl, ?_⟩
      conv => whnf
      simp (disch := omega) only [iadd_eq, imul_eq]
      refine ⟨_, _, _, twI rfl rfl, rfl, (by omega), gt_at (16 * c + e) (by omega) (lenlt (j := 25) (hA) (show (16 * c + e) < 256 by omega)), ?_⟩
      rw [hx]
      (conv => whnf); simp (disch := omega) only [iadd_eq, isub_eq, imul_eq]
      have k := ih (e + 1) (by omega)
      exact hW _ k
  refine wp.go [4] 20 fun W C hW hC => ?_
  exact hW _ (loop G.1 0 rfl)
end FIRST
