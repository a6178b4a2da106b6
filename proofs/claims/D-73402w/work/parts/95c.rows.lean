section ROWS3
variable {d : Nat} {h0 : AH} {M : Nat} {A : Nat → List Int} {sc sc0 : Nat → Int} {fi F O s : Nat → Nat} {E : Nat → Nat → Bool}
theorem dis_at {a b c : Nat} (ha : a < 4) (hb : b < 4) (hc : c < 4) : (16 * a + 4 * b + c) / 16 = a ∧ (16 * a + 4 * b + c) / 4 % 4 = b ∧ (16 * a + 4 * b + c) % 4 = c := by omega
theorem four_bd (hB : FourB F O s) {a b c : Nat} (ha : a < 4) (hb : b < 4) (hc : c < 4) (h1 : a ≠ b) (h2 : b ≠ c) (h3 : a ≠ c) : F a * O c * O (6 - a - b - c) ≤ 65536 ∧ F a * O c ≤ 65536 ∧ F a * F (6 - a - b - c) ≤ 65536 ∧ F a * F c ≤ 65536 ∧ F a * F b * F c * F (6 - a - b - c) ≤ 65536 ∧ F a * F b * F c ≤ 65536 ∧ F a * F b ≤ 65536 := by
  obtain ⟨q1, q2⟩ := hB.sum ha hb hc h1 h2 h3
  generalize 6 - a - b - c = e at *
  have fa := hB.1 a ha
  have fb := hB.1 b hb
  have fc := hB.1 c hc
  have fe := hB.1 e q1
  exact ⟨Nat.le_trans (mul2 (mul2 fa.1 fc.2) fe.2) (pow15 (by omega)), Nat.le_trans (mul2 fa.1 fc.2) (pow15 (by omega)), Nat.le_trans (mul2 fa.1 fe.1) (pow15 (by omega)), Nat.le_trans (mul2 fa.1 fc.1) (pow15 (by omega)), Nat.le_trans (mul2 (mul2 (mul2 fa.1 fb.1) fc.1) fe.1) (pow15 (by omega)), Nat.le_trans (mul2 (mul2 fa.1 fb.1) fc.1) (pow15 (by omega)), Nat.le_trans (mul2 fa.1 fb.1) (pow15 (by omega))⟩
theorem g_bd (hB : FourB F O s) {i : Nat} (hi : i < 64) : g9 F i ≤ 65536 ∧ g10 F E i ≤ 65536 ∧ g11 F E i ≤ 65536 ∧ g12 F O E i ≤ 65536 := by
  unfold g9 g10 g11 g12
  cases e : dis i with
  | false => exact ⟨Nat.zero_le _, Nat.zero_le _, Nat.zero_le _, Nat.zero_le _⟩
  | true =>
    simp only [dis, Bool.and_eq_true, nbeq] at e
    obtain ⟨k1, k2, k3, k4, k5, k6, k7⟩ := four_bd hB (show i / 16 < 4 by omega) (show i / 4 % 4 < 4 by omega) (show i % 4 < 4 by omega) e.1.1 e.1.2 e.2
    refine ⟨k5, ?_, ?_, ?_⟩
    · show r10 F E _ _ _ _ ≤ _
      unfold r10
      cases (E (i / 16) (i / 4 % 4) && E (i % 4) (lastI i))
      · exact Nat.zero_le _
      · exact k4
    · show r11 F E _ _ _ _ ≤ _
      unfold r11
      cases (E (i / 16) (i / 4 % 4) && E (i / 4 % 4) (i % 4))
      · exact Nat.zero_le _
      · exact k3
    · show r12 F O E _ _ _ _ ≤ _
      unfold r12
      cases E (i / 16) (i / 4 % 4)
      · exact Nat.zero_le _
      · exact k1
theorem sumg_bd {g : Nat → Nat} (h : ∀ i, i < 64 → g i ≤ 65536) {m : Nat} (hm : m ≤ 64) : sumR m g ≤ 1000000000 :=
  Nat.le_trans (sumR_bd (f := g) (B := 65536) fun i hi => h i (by omega)) (Nat.le_trans (Nat.mul_le_mul_right 65536 hm) (by decide))
theorem rows_c (hA : lens A) (h : FourOk A fi F O E) (hB : FourB F O s) {a b : Nat} (ha : a < 4) (hb : b < 4) {x1 : Int} {Q : Rs → AH → Prop}
    (hQ : ∀ sc, RowsAt sc0 sc F O E (16 * a + 4 * b + 4) → wp (d + 2) 375 (112, [some (vR (some M)), some (vI x1), some (vI ((a : Nat) : Int)), some (vI ((b : Nat) : Int)), some (vI 4)], [], tw h0 M A sc) Q) :
    ∀ (j c : Nat) (sc : Nat → Int), j + c = 4 → RowsAt sc0 sc F O E (16 * a + 4 * b + c) → wp (d + 2) 375 (66, [some (vR (some M)), some (vI x1), some (vI ((a : Nat) : Int)), some (vI ((b : Nat) : Int)), some (vI ((c : Nat) : Int))], [], tw h0 M A sc) Q := by
  intro j
  induction j with
  | zero =>
    intro c sc hj hR
    obtain rfl : c = 4 := by omega
    refine wp.go [66, 112] 20 fun W C hW hC => ?_
    exact ⟨fun _ => hW _ (hQ sc hR), fun c => absurd c (by decide)⟩
  | succ j ih =>
    intro c sc hj hR
    have hc : c < 4 := by omega
    obtain ⟨d1, d2, d3⟩ := dis_at ha hb hc
    have st : ∀ g : Nat → Nat, sumR (16 * a + 4 * b + (c + 1)) g = sumR (16 * a + 4 * b + c) g + g (16 * a + 4 * b + c) := fun g => rfl
    obtain ⟨h9, h10, h11, h12, hk⟩ := id hR
    have fin : ∀ sc', RowsAt sc0 sc' F O E (16 * a + 4 * b + (c + 1)) → wp (d + 2) 375 (106, [some (vR (some M)), some (vI x1), some (vI ((a : Nat) : Int)), some (vI ((b : Nat) : Int)), some (vI ((c : Nat) : Int))], [], tw h0 M A sc') Q := by
      intro sc' hR'
      refine wp.go [66] 20 fun W C hW hC => ?_
      (conv => whnf); simp (disch := omega) only [iadd_eq, isub_eq, imul_eq]
      exact hW _ (ih (c + 1) sc' (by omega) hR')
    have skip : dis (16 * a + 4 * b + c) = false → RowsAt sc0 sc F O E (16 * a + 4 * b + (c + 1)) := by
      intro q
      unfold RowsAt
      rw [st, st, st, st]
      unfold g9 g10 g11 g12 at *
      rw [q]
      exact ⟨h9, h10, h11, h12, hk⟩
    refine wp.go [66, 106, 112] 60 fun W C hW hC => ?_
    refine ⟨fun c => absurd c (by omega), fun _ => ?_⟩
    refine ⟨fun z => hW _ (fin sc (skip ?_)), fun z1 => ?_⟩
    · unfold dis; rw [d1, d2, d3, beqN.mpr (show a = b by omega)]; rfl
    refine ⟨fun z => hW _ (fin sc (skip ?_)), fun z2 => ?_⟩
    · unfold dis; rw [d1, d2, d3, beqN.mpr (show b = c by omega)]; simp
    refine ⟨fun z => hW _ (fin sc (skip ?_)), fun z3 => ?_⟩
    · unfold dis; rw [d1, d2, d3, beqN.mpr (show a = c by omega)]; simp
    have n1 : a ≠ b := by omega
    have n2 : b ≠ c := by omega
    have n3 : a ≠ c := by omega
    obtain ⟨q1, q2⟩ := hB.sum ha hb hc n1 n2 n3
    obtain ⟨k1, k2, k3, k4, k5, k6, k7⟩ := four_bd hB ha hb hc n1 n2 n3
    have hd : dis (16 * a + 4 * b + c) = true := by
      unfold dis; rw [d1, d2, d3, nbeq.mpr n1, nbeq.mpr n2, nbeq.mpr n3]; rfl
    have e6 : (6 : Int) - ((a : Nat) : Int) - ((b : Nat) : Int) - ((c : Nat) : Int) = ((6 - a - b - c : Nat) : Int) := by omega
    (conv => whnf); simp (disch := omega) only [iadd_eq, isub_eq, imul_eq]
    rw [e6]
    refine ⟨_, _, _, twF, rfl, ?_⟩
    refine hC _ _ _ (use (countsRow_spec (d := d) hA h ha hb hc q1 k1 k2 k3 k4 k5 k6 k7 h12 (sumg_bd (fun i hi => (g_bd (E := E) hB hi).2.2.2) (by omega)) h11 (sumg_bd (fun i hi => (g_bd (E := E) hB hi).2.2.1) (by omega)) h10 (sumg_bd (fun i hi => (g_bd (E := E) hB hi).2.1) (by omega)) h9 (sumg_bd (fun i hi => (g_bd (E := E) hB hi).1) (by omega))) ?_)
    rintro _ _ ⟨rfl, rfl⟩
    refine hW _ (fin _ ?_)
    unfold RowsAt
    rw [st, st, st, st]
    have v9 : g9 F (16 * a + 4 * b + c) = r9 F a b c (6 - a - b - c) := by unfold g9; rw [hd]; show r9 F _ _ _ (lastI _) = _; unfold lastI; rw [d1, d2, d3]
    have v10 : g10 F E (16 * a + 4 * b + c) = r10 F E a b c (6 - a - b - c) := by unfold g10; rw [hd]; show r10 F E _ _ _ (lastI _) = _; unfold lastI; rw [d1, d2, d3]
    have v11 : g11 F E (16 * a + 4 * b + c) = r11 F E a b c (6 - a - b - c) := by unfold g11; rw [hd]; show r11 F E _ _ _ (lastI _) = _; unfold lastI; rw [d1, d2, d3]
    have v12 : g12 F O E (16 * a + 4 * b + c) = r12 F O E a b c (6 - a - b - c) := by unfold g12; rw [hd]; show r12 F O E _ _ _ (lastI _) = _; unfold lastI; rw [d1, d2, d3]
    rw [v9, v10, v11, v12]
    refine ⟨?_, ?_, ?_, ?_, fun k hk2 => ?_⟩
    · rw [upn_ne _ _ (by decide), upn_ne _ _ (by decide), upn_ne _ _ (by decide), up_eq]
    · rw [upn_ne _ _ (by decide), upn_ne _ _ (by decide), up_eq]
    · rw [upn_ne _ _ (by decide), up_eq]
    · rw [up_eq]
    · have hne : ∀ x, x ∈ [9, 10, 11, 12] → k ≠ x := by
        rintro x hx rfl
        rw [List.elem_eq_true_of_mem hx] at hk2
        cases hk2
      rw [upn_ne _ _ (hne 12 (by decide)), upn_ne _ _ (hne 11 (by decide)), upn_ne _ _ (hne 10 (by decide)), upn_ne _ _ (hne 9 (by decide))]
      exact hk k hk2
theorem rows_b (hA : lens A) (h : FourOk A fi F O E) (hB : FourB F O s) {a : Nat} (ha : a < 4) {x1 : Int} {Q : Rs → AH → Prop}
    (hQ : ∀ sc x4, RowsAt sc0 sc F O E (16 * a + 16) → wp (d + 2) 375 (118, [some (vR (some M)), some (vI x1), some (vI ((a : Nat) : Int)), some (vI 4), x4], [], tw h0 M A sc) Q) :
    ∀ (j b : Nat) (sc : Nat → Int) (x4 : Option AV), j + b = 4 → RowsAt sc0 sc F O E (16 * a + 4 * b) → wp (d + 2) 375 (58, [some (vR (some M)), some (vI x1), some (vI ((a : Nat) : Int)), some (vI ((b : Nat) : Int)), x4], [], tw h0 M A sc) Q := by
  intro j
  induction j with
  | zero =>
    intro b sc x4 hj hR
    obtain rfl : b = 4 := by omega
    refine wp.go [58, 118] 20 fun W C hW hC => ?_
    exact ⟨fun _ => hW _ (hQ sc x4 hR), fun c => absurd c (by decide)⟩
  | succ j ih =>
    intro b sc x4 hj hR
    refine wp.go [58, 66, 118] 20 fun W C hW hC => ?_
    refine ⟨fun c => absurd c (by omega), fun _ => ?_⟩
    refine hW _ (rows_c hA h hB ha (show b < 4 by omega) (fun sc' hR' => ?_) 4 0 sc rfl hR)
    refine wp.go [58] 20 fun W C hW hC => ?_
    (conv => whnf); simp (disch := omega) only [iadd_eq, isub_eq, imul_eq]
    exact hW _ (ih (b + 1) sc' _ (by omega) hR')
theorem rows_a (hA : lens A) (h : FourOk A fi F O E) (hB : FourB F O s) {x1 : Int} {Q : Rs → AH → Prop}
    (hQ : ∀ sc x3 x4, RowsAt sc0 sc F O E 64 → wp (d + 2) 375 (124, [some (vR (some M)), some (vI x1), some (vI 4), x3, x4], [], tw h0 M A sc) Q) :
    ∀ (j a : Nat) (sc : Nat → Int) (x3 x4 : Option AV), j + a = 4 → RowsAt sc0 sc F O E (16 * a) → wp (d + 2) 375 (51, [some (vR (some M)), some (vI x1), some (vI ((a : Nat) : Int)), x3, x4], [], tw h0 M A sc) Q := by
  intro j
  induction j with
  | zero =>
    intro a sc x3 x4 hj hR
    obtain rfl : a = 4 := by omega
    refine wp.go [51, 124] 20 fun W C hW hC => ?_
    exact ⟨fun _ => hW _ (hQ sc x3 x4 hR), fun c => absurd c (by decide)⟩
  | succ j ih =>
    intro a sc x3 x4 hj hR
    refine wp.go [51, 58, 124] 20 fun W C hW hC => ?_
    refine ⟨fun c => absurd c (by omega), fun _ => ?_⟩
    refine hW _ (rows_b hA h hB (show a < 4 by omega) (fun sc' y4 hR' => ?_) 4 0 sc _ rfl hR)
    refine wp.go [51] 20 fun W C hW hC => ?_
    (conv => whnf); simp (disch := omega) only [iadd_eq, isub_eq, imul_eq]
    exact hW _ (ih (a + 1) sc' _ _ (by omega) hR')
end ROWS3
