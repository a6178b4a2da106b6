/-! THE TWIN's SHAPE OF A BRANCH -/
def chd (G : Gr) (a c k : Nat) : List Nat := (List.range k).filter fun e => G.2 c e && !(Nat.beq e a)
theorem chd_ch (G : Gr) (a c : Nat) : chd G a c G.1 = ch G a c := by
  unfold chd ch nb
  rw [List.filter_filter]
  congr 1
  funext e
  rw [Bool.and_comm]
theorem chd_succ (G : Gr) (a c k : Nat) : chd G a c (k + 1) = chd G a c k ++ (if (G.2 c k && !(Nat.beq k a)) = true then [k] else []) := by
  unfold chd
  rw [List.range_succ, List.filter_append]
  by_cases h : (G.2 c k && !(Nat.beq k a)) = true
  · rw [if_pos h]; simp [h]
  · rw [if_neg h]; simp [h]
theorem chd_len {G : Gr} {a c : Nat} : ∀ {k m : Nat}, k ≤ m → (chd G a c k).length ≤ (chd G a c m).length := by
  intro k m h
  induction h with
  | refl => exact Nat.le_refl _
  | @step m _ ih => rw [chd_succ, List.length_append]; omega
theorem chd_mem {G : Gr} {a c k e : Nat} : e ∈ chd G a c k ↔ e < k ∧ G.2 c e = true ∧ e ≠ a := by
  unfold chd
  rw [List.mem_filter, List.mem_range, Bool.and_eq_true, nbeq]
section SHAPES2
variable {d : Nat} {h0 : AH} {M : Nat} {A : Nat → List Int} {sc : Nat → Int} {tab : List Tr} {G : Gr} {D : Nat → Nat → Nat}
theorem atI.app {X : List Int} {tab tab' : List Tr} {m : Nat} {o : Option Tr} {t : Tr} (h : atI X tab m o) (he : tab' = tab ∨ tab' = tab ++ [t]) : atI X tab' m o := by
  obtain ⟨i, h1, h2, h3⟩ := h
  rcases he with rfl | rfl
  · exact ⟨i, h1, h2, h3⟩
  · exact ⟨i, by simp; omega, h2, by rw [gtT_app h1]; exact h3⟩
theorem kid3 (hG : G.ok) (hD : Far G D) {c e : Nat} (h : G.2 c e = true) : (kidsT (TT G c e)).length ≤ 3 := by
  rw [kids_len hG.1 hD (Or.inl h)]
  have := ch_len hG.1 h
  have := hG.2.1 e
  omega
theorem shapes_loop (hG : G.ok) (hD : Far G D) {a c : Nat} (hc : c < G.1) (hch : (ch G a c).length ≤ 4) (ha : a ≤ 16) (hr : isRow (A 18) 0 G) (hB0 : ∀ sc', sc' 5 = sc 5 → Tbl A sc' tab) (hkids : ∀ e, G.2 c e = true → e ≠ a → atI (A 19) tab (16 * c + e) (some (TT G c e))) {Q : Rs → AH → Prop}
    (hQ : ∀ X v, X.length = 4 → FoundOk X v tab (srtT ((ch G a c).map (TT G c))) → wp (d + 8) 312 (58, [some (vR (some M)), some (vI a), some (vI c), some (vI ((G.1 : Nat) : Int))], [], tw h0 M (up A 21 X) (up sc 6 v)) Q) :
    ∀ (j k : Nat) (X : List Int) (v : Int), j + k = G.1 → X.length = 4 → FoundOk X v tab (srtT ((chd G a c k).map (TT G c))) → wp (d + 8) 312 (7, [some (vR (some M)), some (vI a), some (vI c), some (vI k)], [], tw h0 M (up A 21 X) (up sc 6 v)) Q := by
  have hn := hG.1.2.1
  intro j
  induction j with
  | zero =>
    intro k X v hj hX hF
    obtain rfl : k = G.1 := by omega
    rw [chd_ch] at hF
    have hA' : lens (up A 21 X) := (hB0 sc rfl).1.up (by rw [hX]; rfl)
    refine wp.go [7, 58] 40 fun W C hW hC => ?_
    refine ⟨_, _, _, _, twF, rfl, rfl, ?_⟩
    refine ⟨_, _, _, twI rfl rfl, rfl, (by omega), gt_at (0) (by omega) (lenlt (j := 18) (hA') (show (0) < 17 by omega)), ?_⟩
    rw [upn_ne _ _ (by decide), hr.1]
    refine ⟨fun _ => hW _ (hQ X v hX hF), fun c => absurd c (by omega)⟩
  | succ j ih =>
    intro k X v hj hX hF
    have hA' : lens (up A 21 X) := (hB0 sc rfl).1.up (by rw [hX]; rfl)
    have hrow := row_lt (G := G) hn (c := c)
    have fin : ∀ (X : List Int) (v : Int), X.length = 4 → FoundOk X v tab (srtT ((chd G a c (k + 1)).map (TT G c))) → wp (d + 8) 312 (52, [some (vR (some M)), some (vI a), some (vI c), some (vI k)], [], tw h0 M (up A 21 X) (up sc 6 v)) Q := by
      intro X v hX hF
      refine wp.go [7] 20 fun W C hW hC => ?_
      (conv => whnf); simp (disch := omega) only [iadd_eq, isub_eq, imul_eq]
      exact hW _ (ih (k + 1) X v (by omega) hX hF)
    have no : ¬ (G.2 c k = true ∧ k ≠ a) → FoundOk X v tab (srtT ((chd G a c (k + 1)).map (TT G c))) := fun h => by
      rw [chd_succ, if_neg (by rw [Bool.and_eq_true, nbeq]; exact h), List.append_nil]
      exact hF
    refine wp.go [7, 52, 58] 60 fun W C hW hC => ?_
    refine ⟨_, _, _, _, twF, rfl, rfl, ?_⟩
    refine ⟨_, _, _, twI rfl rfl, rfl, (by omega), gt_at (0) (by omega) (lenlt (j := 18) (hA') (show (0) < 17 by omega)), ?_⟩
    rw [upn_ne _ _ (by decide), hr.1]
    refine ⟨fun c => absurd c (by omega), fun _ => ?_⟩
    refine ⟨fun c1 => ?_, fun c1 => ?_⟩
    · exact hW _ (fin X v hX (no fun h => h.2 (by omega)))
    · have hka : k ≠ a := fun e => c1 (by rw [e])
      refine ⟨_, _, _, _, twF, rfl, rfl, ?_⟩
      (conv => whnf); simp (disch := omega) only [iadd_eq, isub_eq, imul_eq]
      refine ⟨_, _, _, twI rfl rfl, rfl, (by omega), gt_at (1 + c) (by omega) (lenlt (j := 18) (hA') (show (1 + c) < 17 by omega)), ?_⟩
      rw [upn_ne _ _ (by decide), isRow0 hr hc]
      refine hC _ _ _ (use (has_spec (by omega) (by omega)) ?_); rintro _ _ ⟨rfl, rfl⟩
      rw [row_bit hG.1]
      refine ⟨fun c2 => ?_, fun c2 => ?_⟩
      · exact hW _ (fin X v hX (no fun h => b0.mp c2 h.1))
      · have hck := b1.mp c2
        obtain ⟨i, i1, i2, i3⟩ := hkids k hck hka
        have hlen : (srtT ((chd G a c k).map (TT G c))).length ≤ 3 := by
          rw [srt_len, List.length_map]
          have h1 := chd_len (G := G) (a := a) (c := c) (show k + 1 ≤ G.1 by omega)
          rw [chd_ch, chd_succ, if_pos (by rw [Bool.and_eq_true, nbeq]; exact ⟨hck, hka⟩), List.length_append] at h1
          simp at h1
          omega
        refine ⟨_, _, _, _, twF, rfl, rfl, ?_⟩
        (conv => whnf); simp (disch := omega) only [iadd_eq, isub_eq, imul_eq]
        refine ⟨_, _, _, twI rfl rfl, rfl, (by omega), gt_at (16 * c + k) (by omega) (lenlt (j := 19) (hA') (show (16 * c + k) < 272 by omega)), ?_⟩
        rw [upn_ne _ _ (by decide), i2]
        have hB := hB0 (up sc 6 v) (upn_ne _ _ (by decide))
        refine ⟨_, _, _, twF, rfl, ?_⟩
        refine hC _ _ _ (use (finds_spec (A := up A 21 X) (sc := up sc 6 v) hA' hB.2.1 hB.2.2.1 hB.2.2.2.2.1 hlen (by rw [up_eq, up_eq]; exact hF) i3 (kid3 hG hD hck)) ?_)
        rintro _ _ ⟨rfl, Y, rfl, hY, hF2⟩
        rw [up_up, up_up]
        refine hW _ (fin Y _ hY ?_)
        rw [chd_succ, if_pos (by rw [Bool.and_eq_true, nbeq]; exact ⟨hck, hka⟩), List.map_append, List.map_singleton, srt_snoc]
        exact hF2
/-- Model.shapes -/
theorem shapes_spec (hG : G.ok) (hD : Far G D) {a c : Nat} (hc : c < G.1) (hv : G.2 a c = true ∨ a = 16) (hr : isRow (A 18) 0 G) (hB : Tbl A sc tab) (h62 : tab.length ≤ 62) (hkids : ∀ e, G.2 c e = true → e ≠ a → atI (A 19) tab (16 * c + e) (some (TT G c e))) :
    wp (d + 8) 312 (0, ent 4 [vR (some M), vI a, vI c], [], tw h0 M A sc) (fun r h' => r = .inl none ∧ ∃ A' sc' tab', h' = tw h0 M A' sc' ∧ Tbl A' sc' tab' ∧ (tab' = tab ∨ tab' = tab ++ [TT G a c]) ∧ atI (A' 19) tab' (16 * a + c) (some (TT G a c)) ∧ (∀ m, m ≠ 16 * a + c → gt (A' 19) m = gt (A 19) m) ∧ Fr [10, 11, 12, 13, 14, 15, 16, 17, 19, 21, 22, 23, 24] [5, 6] A A' sc sc') := by
  have hn := hG.1.2.1
  have hA := hB.1
  have ha : a ≤ 16 := by
    rcases hv with h | h
    · have := (hG.1.2.2 _ _ h).1; omega
    · omega
  have hch : (ch G a c).length ≤ 4 := by
    have h1 := hG.2.1 c
    have h2 : (ch G a c).length ≤ (nb G c).length := List.length_filter_le _ _
    have h3 : deg G c = (nb G c).length := rfl
    omega
  have hTT := TT_eq hG.1 hD hv
  have hs15 : sumS (srtT ((ch G a c).map (TT G c))) ≤ 15 := by
    have h1 : szT (TT G a c) ≤ 16 := by
      rcases hv with h | h
      · rw [TT_sz hG.1 hD a c h]
        have := bsz_lt hG.1 hD h
        omega
      · subst h
        rw [TT_root hG.1 hD hc]; exact hn
    rw [hTT, sz_mk] at h1
    have : sumS (srtT ((ch G a c).map (TT G c))) = ((srtT ((ch G a c).map (TT G c))).map szT).sum := rfl
    omega
  have hl : (A 21).length = 4 := by rw [hA.eq 21]; rfl
  have key := shapes_loop (d := d) (h0 := h0) (M := M) (sc := sc) (A := A) (tab := tab) hG hD hc hch ha hr (fun sc' h => ⟨hA, hB.2.1, hB.2.2.1, hB.2.2.2.1, hB.2.2.2.2.1, by rw [h]; exact hB.2.2.2.2.2⟩) hkids
    (Q := fun r h' => r = .inl none ∧ ∃ A' sc' tab', h' = tw h0 M A' sc' ∧ Tbl A' sc' tab' ∧ (tab' = tab ∨ tab' = tab ++ [TT G a c]) ∧ atI (A' 19) tab' (16 * a + c) (some (TT G a c)) ∧ (∀ m, m ≠ 16 * a + c → gt (A' 19) m = gt (A 19) m) ∧ Fr [10, 11, 12, 13, 14, 15, 16, 17, 19, 21, 22, 23, 24] [5, 6] A A' sc sc') (fun X v hX hF => ?_) G.1 0 (A 21) 0 rfl hl ⟨rfl, by simp [chd, srtT], trivial, fun v hv => (nomatch hv), fun k hk => absurd hk (by simp [chd, srtT])⟩
  · rw [upn_self] at key
    refine wp.go [7] 20 fun W C hW hC => ?_
    (refine ⟨_, _, _, twF, rfl, (Nat.le_of_ble_eq_true rfl), ?_⟩; rw [twP6])
    exact hW _ key
  · have hB' : Tbl (up A 21 X) (up sc 6 v) tab := ⟨hA.up (by rw [hX]; rfl), hB.2.1, hB.2.2.1, hB.2.2.2.1, hB.2.2.2.2.1, by rw [upn_ne _ _ (by decide)]; exact hB.2.2.2.2.2⟩
    refine wp.go [] 40 fun W C hW hC => ?_
    refine ⟨_, _, _, _, twF, rfl, rfl, ?_⟩
    (conv => whnf); simp (disch := omega) only [iadd_eq, isub_eq, imul_eq]
    refine ⟨_, _, _, twF, rfl, ?_⟩
    refine hC _ _ _ (use (shapeOfFound_spec hB' (by rw [up_eq, up_eq]; exact hF) hs15 h62) ?_)
    rintro _ _ ⟨i, A', sc', tab', rfl, rfl, hB2, he, hi, hFr⟩
    rw [← hTT] at he hi
    have hA2 := hB2.1
    (refine ⟨_, twI rfl rfl, (by omega), (ilt (16 * a + c) (by omega) (lenlt (j := 19) (hA2) (show (16 * a + c) < 272 by omega))), ?_⟩; rw [twSetI rfl rfl]; try rw [Int.toNat_natCast])
    have hlt := lenlt (j := 19) hA2 (show 16 * a + c < 272 by omega)
    refine ⟨rfl, _, sc', tab', rfl, ⟨hA2.up (by rw [List.length_set]; exact hA2.eq 19), hB2.2⟩, he, ⟨i, (gtT_le hi).2.1, ?_, hi⟩, fun m hm => ?_, ?_⟩
    · rw [up_eq, gt_set (by omega), if_pos (by omega)]
    · rw [up_eq, gt_set (by omega), if_neg (by omega), hFr.1 19 rfl]
      rw [upn_ne _ _ (by decide)]
    · exact (Fr.upA (J := [10, 11, 12, 13, 14, 15, 16, 17, 19, 21, 22, 23, 24]) (K := [5, 6]) rfl).trans ((Fr.upS rfl).trans ((hFr.wide rfl rfl).trans (Fr.upA rfl)))
end SHAPES2
