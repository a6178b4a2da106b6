section LOOKS2
variable {d : Nat} {h0 : AH} {M : Nat} {A : Nat → List Int} {sc : Nat → Int} {tab : List Tr} {G : Gr} {D : Nat → Nat → Nat}
def BehK (X : List Int) (G : Gr) (D : Nat → Nat → Nat) (a c : Nat) : Prop := ∀ a' c', G.2 a' c' = true → (a' < a ∨ (a' = a ∧ c' < c)) → gt X (16 * a' + c') = ((bB G D a' c' : Nat) : Int)
theorem beh_in (hG : G.wf) (hD : Far G D) (hA : lens A) (hr : isRow (A 18) 0 G) {x1 x6 : Option AV} {w : Int} {a : Nat} (ha : a < G.1) {Q : Rs → AH → Prop}
    (hQ : ∀ X, X.length = 272 → BehK X G D (a + 1) 0 → wp (d + 10) 308 (98, [some (vR (some M)), x1, some (vI w), some (vI ((G.1 : Nat) : Int)), some (vI a), some (vI ((G.1 : Nat) : Int)), x6], [], tw h0 M (up A 20 X) sc) Q) :
    ∀ (j c : Nat) (X : List Int), j + c = G.1 → X.length = 272 → BehK X G D a c → wp (d + 10) 308 (48, [some (vR (some M)), x1, some (vI w), some (vI ((G.1 : Nat) : Int)), some (vI a), some (vI c), x6], [], tw h0 M (up A 20 X) sc) Q := by
  have hn := hG.2.1
  intro j
  induction j with
  | zero =>
    intro c X hj hX h
    obtain rfl : c = G.1 := by omega
    refine wp.go [48, 98] 20 fun W C hW hC => ?_
    refine ⟨fun _ => hW _ (hQ X hX (fun a' c' h1 h2 => ?_)), fun c => absurd c (by omega)⟩
    have := hG.2.2 _ _ h1
    exact h a' c' h1 (by omega)
  | succ j ih =>
    intro c X hj hX h
    have hA' : lens (up A 20 X) := hA.up (by rw [hX]; rfl)
    have hrow := row_lt (G := G) hn (c := a)
    have fin : ∀ X, X.length = 272 → BehK X G D a (c + 1) → wp (d + 10) 308 (92, [some (vR (some M)), x1, some (vI w), some (vI ((G.1 : Nat) : Int)), some (vI a), some (vI c), x6], [], tw h0 M (up A 20 X) sc) Q := by
      intro X hX h
      refine wp.go [48] 20 fun W C hW hC => ?_
      (conv => whnf); simp (disch := omega) only [iadd_eq, isub_eq, imul_eq]
      exact hW _ (ih (c + 1) X (by omega) hX h)
    refine wp.go [48, 92, 98] 60 fun W C hW hC => ?_
    refine ⟨fun c => absurd c (by omega), fun _ => ?_⟩
    refine ⟨_, _, _, _, twF, rfl, rfl, ?_⟩
    (conv => whnf); simp (disch := omega) only [iadd_eq, isub_eq, imul_eq]
    refine ⟨_, _, _, twI rfl rfl, rfl, (by omega), gt_at (1 + a) (by omega) (lenlt (j := 18) (hA') (show (1 + a) < 17 by omega)), ?_⟩
    rw [upn_ne _ _ (by decide), isRow0 hr ha]
    refine hC _ _ _ (use (has_spec (by omega) (by omega)) ?_); rintro _ _ ⟨rfl, rfl⟩
    rw [row_bit hG]
    refine ⟨fun c1 => ?_, fun c1 => ?_⟩
    · refine hW _ (fin X hX (fun a' c' h1 h2 => ?_))
      by_cases e : a' = a ∧ c' = c
      · rw [e.1, e.2] at h1; exact absurd h1 (b0.mp c1)
      · exact h a' c' h1 (by omega)
    · have hac := b1.mp c1
      refine ⟨_, _, _, _, twF, rfl, rfl, ?_⟩
      (conv => whnf); simp (disch := omega) only [iadd_eq, isub_eq, imul_eq]
      refine ⟨_, _, _, twF, rfl, ?_⟩
      refine hC _ _ _ (use (reached_spec hA' hG (by rw [upn_ne _ _ (by decide)]; exact hr) hD hac) ?_); rintro _ _ ⟨rfl, rfl⟩
      (refine ⟨_, twI rfl rfl, (by omega), (ilt (16 * a + c) (by omega) (lenlt (j := 20) (hA') (show (16 * a + c) < 272 by omega))), ?_⟩; rw [twSetI rfl rfl]; try rw [Int.toNat_natCast])
      rw [up_up, up_eq]
      refine hW _ (fin _ (by rw [List.length_set, hX]) (fun a' c' h1 h2 => ?_))
      have := hG.2.2 _ _ h1
      rw [gt_set (by omega)]
      by_cases e : a' = a ∧ c' = c
      · rw [if_pos (by omega), e.1, e.2]
      · rw [if_neg (by omega)]; exact h a' c' h1 (by omega)
theorem beh_out (hG : G.wf) (hD : Far G D) (hA : lens A) (hr : isRow (A 18) 0 G) {x1 : Option AV} {w : Int} {Q : Rs → AH → Prop}
    (hQ : ∀ (X : List Int) (x5 x6 : Option AV), X.length = 272 → (∀ a c, G.2 a c = true → gt X (16 * a + c) = ((bB G D a c : Nat) : Int)) → wp (d + 10) 308 (104, [some (vR (some M)), x1, some (vI w), some (vI ((G.1 : Nat) : Int)), some (vI ((G.1 : Nat) : Int)), x5, x6], [], tw h0 M (up A 20 X) sc) Q) :
    ∀ (j a : Nat) (X : List Int) (x5 x6 : Option AV), j + a = G.1 → X.length = 272 → BehK X G D a 0 → wp (d + 10) 308 (39, [some (vR (some M)), x1, some (vI w), some (vI ((G.1 : Nat) : Int)), some (vI a), x5, x6], [], tw h0 M (up A 20 X) sc) Q := by
  have hn := hG.2.1
  intro j
  induction j with
  | zero =>
    intro a X x5 x6 hj hX h
    obtain rfl : a = G.1 := by omega
    refine wp.go [39, 104] 20 fun W C hW hC => ?_
    refine ⟨fun _ => hW _ (hQ X x5 x6 hX (fun a' c' h1 => ?_)), fun c => absurd c (by omega)⟩
    have := hG.2.2 _ _ h1
    exact h a' c' h1 (by omega)
  | succ j ih =>
    intro a X x5 x6 hj hX h
    refine wp.go [39, 48, 104] 40 fun W C hW hC => ?_
    refine ⟨fun c => absurd c (by omega), fun _ => ?_⟩
    refine hW _ (beh_in hG hD hA hr (show a < G.1 by omega) (fun Y hY h2 => ?_) G.1 0 X rfl hX h)
    refine wp.go [39] 20 fun W C hW hC => ?_
    (conv => whnf); simp (disch := omega) only [iadd_eq, isub_eq, imul_eq]
    exact hW _ (ih (a + 1) Y _ _ (by omega) hY h2)
/-- bonds whose shapes are laid -/
def dn (G : Gr) (D : Nat → Nat → Nat) (s a c a' c' : Nat) : Bool := G.2 a' c' && (decide (bsz G D a' c' < s) || (decide (bsz G D a' c' = s) && (decide (a' < a) || (decide (a' = a) && decide (c' < c)))))
theorem dn_iff {s a c a' c' : Nat} : dn G D s a c a' c' = true ↔ G.2 a' c' = true ∧ (bsz G D a' c' < s ∨ (bsz G D a' c' = s ∧ (a' < a ∨ (a' = a ∧ c' < c)))) := by
  unfold dn
  simp only [Bool.and_eq_true, Bool.or_eq_true, decide_eq_true_eq]
def Lk (A0 : Nat → List Int) (sc0 : Nat → Int) (G : Gr) (D : Nat → Nat → Nat) (s a c : Nat) (A : Nat → List Int) (sc : Nat → Int) (tab : List Tr) : Prop := Tbl A sc tab ∧ isRow (A 18) 0 G ∧ (∀ a c, G.2 a c = true → gt (A 20) (16 * a + c) = ((bB G D a c : Nat) : Int)) ∧ (∀ a' c', dn G D s a c a' c' = true → atI (A 19) tab (16 * a' + c') (some (TT G a' c'))) ∧ tab.length ≤ cnt2 G.1 (dn G D s a c) ∧ Fr [10, 11, 12, 13, 14, 15, 16, 17, 19, 21, 22, 23, 24] [5, 6] A0 A sc0 sc
theorem Lk.next {A0 : Nat → List Int} {sc0 : Nat → Int} {s a c s' a2 c2 : Nat} (h : Lk A0 sc0 G D s a c A sc tab) (he : ∀ a' c', dn G D s a c a' c' = dn G D s' a2 c2 a' c') : Lk A0 sc0 G D s' a2 c2 A sc tab := by
  obtain ⟨h1, h2, h3, h4, h5, h6⟩ := h
  refine ⟨h1, h2, h3, fun a' c' h => h4 a' c' (by rw [he]; exact h), ?_, h6⟩
  have : (dn G D s a c) = dn G D s' a2 c2 := by funext x y; exact he x y
  rw [← this]; exact h5
theorem dn_eq {s a c s' a2 c2 : Nat} (h : ∀ a' c', G.2 a' c' = true → ((bsz G D a' c' < s ∨ (bsz G D a' c' = s ∧ (a' < a ∨ (a' = a ∧ c' < c)))) ↔ (bsz G D a' c' < s' ∨ (bsz G D a' c' = s' ∧ (a' < a2 ∨ (a' = a2 ∧ c' < c2)))))) : ∀ a' c', dn G D s a c a' c' = dn G D s' a2 c2 a' c' := by
  intro a' c'
  rw [Bool.eq_iff_iff, dn_iff, dn_iff]
  constructor
  · rintro ⟨h1, h2⟩; exact ⟨h1, (h a' c' h1).mp h2⟩
  · rintro ⟨h1, h2⟩; exact ⟨h1, (h a' c' h1).mpr h2⟩
theorem lk_c (hG : G.ok) (hD : Far G D) {A0 : Nat → List Int} {sc0 : Nat → Int} {x1 : Option AV} {w : Int} {s a : Nat} (hs : s < G.1) (hs1 : 1 ≤ s) (ha : a < G.1) {Q : Rs → AH → Prop}
    (hQ : ∀ A sc tab, Lk A0 sc0 G D s (a + 1) 0 A sc tab → wp (d + 10) 308 (175, [some (vR (some M)), x1, some (vI w), some (vI ((G.1 : Nat) : Int)), some (vI s), some (vI a), some (vI ((G.1 : Nat) : Int))], [], tw h0 M A sc) Q) :
    ∀ (j c : Nat) (A : Nat → List Int) (sc : Nat → Int) (tab : List Tr), j + c = G.1 → Lk A0 sc0 G D s a c A sc tab → wp (d + 10) 308 (125, [some (vR (some M)), x1, some (vI w), some (vI ((G.1 : Nat) : Int)), some (vI s), some (vI a), some (vI c)], [], tw h0 M A sc) Q := by
  have hn := hG.1.2.1
  intro j
  induction j with
  | zero =>
    intro c A sc tab hj h
    obtain rfl : c = G.1 := by omega
    refine wp.go [125, 175] 20 fun W C hW hC => ?_
    refine ⟨fun _ => hW _ (hQ A sc tab (h.next (dn_eq fun a' c' h1 => ?_))), fun c => absurd c (by omega)⟩
    have := hG.1.2.2 _ _ h1
    omega
  | succ j ih =>
    intro c A sc tab hj h
    have fin : ∀ A sc tab, Lk A0 sc0 G D s a (c + 1) A sc tab → wp (d + 10) 308 (169, [some (vR (some M)), x1, some (vI w), some (vI ((G.1 : Nat) : Int)), some (vI s), some (vI a), some (vI c)], [], tw h0 M A sc) Q := by
      intro A sc tab h
      refine wp.go [125] 20 fun W C hW hC => ?_
      (conv => whnf); simp (disch := omega) only [iadd_eq, isub_eq, imul_eq]
      exact hW _ (ih (c + 1) A sc tab (by omega) h)
    have no : ¬ (G.2 a c = true ∧ bsz G D a c = s) → Lk A0 sc0 G D s a (c + 1) A sc tab := fun hno => h.next (dn_eq fun a' c' h1 => by
      by_cases e : a' = a ∧ c' = c
      · rw [e.1, e.2] at h1 ⊢
        have : bsz G D a c ≠ s := fun z => hno ⟨h1, z⟩
        omega
      · omega)
    have hh := h
    obtain ⟨hB, hr, hb, hat, hcnt, hFr⟩ := h
    have hA := hB.1
    have hrow := row_lt (G := G) hn (c := a)
    refine wp.go [125, 169, 175] 60 fun W C hW hC => ?_
    refine ⟨fun c => absurd c (by omega), fun _ => ?_⟩
    refine ⟨_, _, _, _, twF, rfl, rfl, ?_⟩
    (conv => whnf); simp (disch := omega) only [iadd_eq, isub_eq, imul_eq]
    refine ⟨_, _, _, twI rfl rfl, rfl, (by omega), gt_at (1 + a) (by omega) (lenlt (j := 18) (hA) (show (1 + a) < 17 by omega)), ?_⟩
    rw [isRow0 hr ha]
    refine hC _ _ _ (use (has_spec (by omega) (by omega)) ?_); rintro _ _ ⟨rfl, rfl⟩
    rw [row_bit hG.1]
    refine ⟨fun c1 => ?_, fun c1 => ?_⟩
    · exact hW _ (fin A sc tab (no fun z => b0.mp c1 z.1))
    · have hac := b1.mp c1
      refine ⟨_, _, _, twF, rfl, ?_⟩
      refine hC _ _ _ (use (sizeSeen_spec hA (show a < 16 by omega) (show c < 16 by omega) (hb a c hac) (bB_lt hn)) ?_); rintro _ _ ⟨rfl, rfl⟩
      rw [bB_size hn]
      refine ⟨fun c2 => ?_, fun c2 => ?_⟩
      · exact hW _ (fin A sc tab (no fun z => c2 (by rw [z.2])))
      · have hsz : bsz G D a c = s := by omega
        have hnew : dn G D s a c a c = false := by
          cases e : dn G D s a c a c with
          | false => rfl
          | true => have := (dn_iff.mp e).2; omega
        have hlt : cnt2 G.1 (dn G D s a c) < cnt2 G.1 (dn G D s a (c + 1)) := by
          refine cnt2_lt (fun a' c' h => ?_) ha (show c < G.1 by omega) hnew (dn_iff.mpr ⟨hac, by omega⟩)
          obtain ⟨h1, h2⟩ := dn_iff.mp h
          exact dn_iff.mpr ⟨h1, by omega⟩
        have hle : cnt2 G.1 (dn G D s a (c + 1)) ≤ 30 := Nat.le_trans (cnt2_le fun a' c' h => (dn_iff.mp h).1) (cnt2_bonds hG.1 hD)
        refine ⟨_, _, _, twF, rfl, ?_⟩
        refine hC _ _ _ (use (shapes_spec hG hD (show c < G.1 by omega) (Or.inl hac) hr hB (by omega) (fun e h1 h2 => hat c e (dn_iff.mpr ⟨h1, Or.inl (by have := bsz_child hG.1 hD hac h1 h2; omega)⟩))) ?_)
        rintro _ _ ⟨rfl, A', sc', tab', rfl, hB', he, hi, ho, hF'⟩
        refine hW _ (fin A' sc' tab' ⟨hB', by rw [hF'.1 18 rfl]; exact hr, fun a c h => by rw [hF'.1 20 rfl]; exact hb a c h, fun a' c' h => ?_, ?_, hFr.trans hF'⟩)
        · obtain ⟨h1, h2⟩ := dn_iff.mp h
          have h3 := hG.1.2.2 _ _ h1
          by_cases e : a' = a ∧ c' = c
          · rw [e.1, e.2]; exact hi
          · have h4 := (hat a' c' (dn_iff.mpr ⟨h1, by omega⟩)).app he
            obtain ⟨i, i1, i2, i3⟩ := h4
            exact ⟨i, i1, by rw [ho _ (by omega)]; exact i2, i3⟩
        · rcases he with rfl | rfl
          · omega
          · simp; omega
theorem lk_a (hG : G.ok) (hD : Far G D) {A0 : Nat → List Int} {sc0 : Nat → Int} {x1 : Option AV} {w : Int} {s : Nat} (hs : s < G.1) (hs1 : 1 ≤ s) {Q : Rs → AH → Prop}
    (hQ : ∀ A sc tab x6, Lk A0 sc0 G D (s + 1) 0 0 A sc tab → wp (d + 10) 308 (181, [some (vR (some M)), x1, some (vI w), some (vI ((G.1 : Nat) : Int)), some (vI s), some (vI ((G.1 : Nat) : Int)), x6], [], tw h0 M A sc) Q) :
    ∀ (j a : Nat) (A : Nat → List Int) (sc : Nat → Int) (tab : List Tr) (x6 : Option AV), j + a = G.1 → Lk A0 sc0 G D s a 0 A sc tab → wp (d + 10) 308 (116, [some (vR (some M)), x1, some (vI w), some (vI ((G.1 : Nat) : Int)), some (vI s), some (vI a), x6], [], tw h0 M A sc) Q := by
  have hn := hG.1.2.1
  intro j
  induction j with
  | zero =>
    intro a A sc tab x6 hj h
    obtain rfl : a = G.1 := by omega
    refine wp.go [116, 181] 20 fun W C hW hC => ?_
    refine ⟨fun _ => hW _ (hQ A sc tab x6 (h.next (dn_eq fun a' c' h1 => ?_))), fun c => absurd c (by omega)⟩
    have := hG.1.2.2 _ _ h1
    omega
  | succ j ih =>
    intro a A sc tab x6 hj h
    refine wp.go [116, 125, 181] 40 fun W C hW hC => ?_
    refine ⟨fun c => absurd c (by omega), fun _ => ?_⟩
    refine hW _ (lk_c hG hD hs hs1 (show a < G.1 by omega) (fun A sc tab h2 => ?_) G.1 0 A sc tab rfl h)
    refine wp.go [116] 20 fun W C hW hC => ?_
    (conv => whnf); simp (disch := omega) only [iadd_eq, isub_eq, imul_eq]
    exact hW _ (ih (a + 1) A sc tab _ (by omega) h2)
theorem lk_s (hG : G.ok) (hD : Far G D) {A0 : Nat → List Int} {sc0 : Nat → Int} {x1 : Option AV} {w : Int} {Q : Rs → AH → Prop}
    (hQ : ∀ A sc tab s x5 x6, Lk A0 sc0 G D G.1 0 0 A sc tab → wp (d + 10) 308 (187, [some (vR (some M)), x1, some (vI w), some (vI ((G.1 : Nat) : Int)), some (vI s), x5, x6], [], tw h0 M A sc) Q) :
    ∀ (j s : Nat) (A : Nat → List Int) (sc : Nat → Int) (tab : List Tr) (x5 x6 : Option AV), j + s = G.1 → 1 ≤ s → Lk A0 sc0 G D s 0 0 A sc tab → wp (d + 10) 308 (107, [some (vR (some M)), x1, some (vI w), some (vI ((G.1 : Nat) : Int)), some (vI s), x5, x6], [], tw h0 M A sc) Q := by
  have hn := hG.1.2.1
  intro j
  induction j with
  | zero =>
    intro s A sc tab x5 x6 hj h1 h
    obtain rfl : s = G.1 := by omega
    refine wp.go [107, 187] 20 fun W C hW hC => ?_
    refine ⟨fun _ => hW _ (hQ A sc tab _ x5 x6 h), fun c => absurd c (by omega)⟩
  | succ j ih =>
    intro s A sc tab x5 x6 hj h1 h
    refine wp.go [107, 116, 187] 40 fun W C hW hC => ?_
    refine ⟨fun c => absurd c (by omega), fun _ => ?_⟩
    refine hW _ (lk_a hG hD (show s < G.1 by omega) h1 (fun A sc tab x6 h2 => ?_) G.1 0 A sc tab x6 rfl h)
    refine wp.go [107] 20 fun W C hW hC => ?_
    (conv => whnf); simp (disch := omega) only [iadd_eq, isub_eq, imul_eq]
    exact hW _ (ih (s + 1) A sc tab _ _ (by omega) (by omega) h2)
end LOOKS2
