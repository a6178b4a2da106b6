/-! THE TWIN WRITES -/
def txAt (X : List Int) (o : Nat) (n : Int) (L : Tx) : Prop := n = ((L.length : Nat) : Int) ∧ ∀ i x, L[i]? = some x → gt X (o + i) = x
theorem i2b_all : (List.range 128).all (fun n => decide (i2b ((n : Nat) : Int) = ((n : Nat) : Int))) = true := by decide +kernel
theorem i2b_small {x : Int} (h : 0 ≤ x ∧ x ≤ 127) : i2b x = x := by
  obtain ⟨n, rfl⟩ : ∃ n : Nat, x = (n : Int) := ⟨x.toNat, by omega⟩
  exact of_decide_eq_true (List.all_eq_true.mp i2b_all n (List.mem_range.mpr (by omega)))
theorem difT_skip : ∀ (i : Nat) (K L : Tx), (∀ m, m < i → m < K.length ∧ m < L.length ∧ K[m]? = L[m]?) → difT K L = difT (K.drop i) (L.drop i)
  | 0, _, _, _ => rfl
  | i + 1, [], L, h => by have := (h 0 (by omega)).1; simp at this
  | i + 1, a :: k, [], h => by have := (h 0 (by omega)).2.1; simp at this
  | i + 1, a :: k, b :: l, h => by
    have h0 := (h 0 (by omega)).2.2
    rw [List.getElem?_cons_zero, List.getElem?_cons_zero] at h0
    cases h0
    rw [List.drop_succ_cons, List.drop_succ_cons, ← difT_skip i k l fun m hm => ?_]
    · show (if a = a then difT k l else a - a) = _
      rw [if_pos rfl]
    · have := h (m + 1) (by omega)
      rw [List.length_cons, List.length_cons, List.getElem?_cons_succ, List.getElem?_cons_succ] at this
      exact ⟨by omega, by omega, this.2.2⟩
theorem difT_end (K L : Tx) (h : K = [] ∨ L = []) : difT K L = ((K.length : Nat) : Int) - ((L.length : Nat) : Int) := by
  cases K with
  | nil => show -((L.length : Nat) : Int) = 0 - _; omega
  | cons a k =>
    rcases h with h | h
    · cases h
    · subst h; show (((a :: k).length : Nat) : Int) = _ - 0; omega
section LINE
variable {d : Nat} {h0 : AH} {M : Nat} {A : Nat → List Int} {sc : Nat → Int}
def LineOk (A : Nat → List Int) (sc : Nat → Int) (L : Tx) : Prop := lens A ∧ txAt (A 42) 0 (sc 13) L
abbrev lnPost (h0 : AH) (M : Nat) (A : Nat → List Int) (sc : Nat → Int) (L : Tx) : Rs → AH → Prop := fun r h' => r = .inl none ∧ ∃ A' sc', h' = tw h0 M A' sc' ∧ LineOk A' sc' L ∧ Fr [42] [13] A A' sc sc'
theorem writes_spec {L : Tx} {c : Int} (h : LineOk A sc L) (hl : L.length < 96) (hc : 0 ≤ c ∧ c ≤ 127) : wp (d + 1) 387 (0, ent 2 [vR (some M), vI c], [], tw h0 M A sc) (lnPost h0 M A sc (L ++ [c])) := by
  obtain ⟨hA, h1, h2⟩ := h
  have hl42 : (A 42).length = 96 := by rw [hA.eq 42]; rfl
  refine wp.go [] 30 fun W C hW hC => ?_
  refine ⟨_, _, _, _, twF, rfl, rfl, ?_⟩
  refine ⟨_, _, _, _, twF, rfl, rfl, ?_⟩
  rw [h1]
  refine ⟨_, _, twI rfl rfl, by omega, (by rw [hl42]; omega), Or.inl ⟨rfl, ?_⟩⟩
  rw [twSetI rfl rfl, Int.toNat_natCast, i2b_i2b, i2b_small hc]
  refine ⟨_, _, _, _, twF, rfl, rfl, ?_⟩
  rw [h1]
  (conv => whnf); simp (disch := omega) only [iadd_eq, isub_eq, imul_eq]
  (refine ⟨_, _, _, twF, rfl, (Nat.le_of_ble_eq_true rfl), ?_⟩; rw [twP13])
  refine ⟨rfl, _, _, rfl, ⟨hA.up (by rw [List.length_set, hl42]; rfl), ?_, fun i x hi => ?_⟩, (Fr.upA rfl).trans (Fr.upS rfl)⟩
  · rw [up_eq, List.length_append]; rfl
  · rw [up_eq, Nat.zero_add, gt_set (by omega)]
    by_cases e : i = L.length
    · subst e
      rw [List.getElem?_append_right (Nat.le_refl _), Nat.sub_self] at hi
      cases hi
      rw [if_pos rfl]
    · have hi2 := (List.getElem?_eq_some_iff.mp hi).1
      rw [List.length_append, List.length_singleton] at hi2
      rw [List.getElem?_append_left (by omega)] at hi
      rw [if_neg e]
      have := h2 i x hi
      rw [Nat.zero_add] at this
      exact this
theorem writesN_spec {L : Tx} {v : Nat} (h : LineOk A sc L) (hl : L.length + 2 ≤ 96) (hv : v ≤ 99) : wp (d + 2) 386 (0, ent 2 [vR (some M), vI ((v : Nat) : Int)], [], tw h0 M A sc) (lnPost h0 M A sc (L ++ numT v)) := by
  unfold numT
  have fin : ∀ (A1 : Nat → List Int) (sc1 : Nat → Int) (L1 : Tx), LineOk A1 sc1 L1 → Fr [42] [13] A A1 sc sc1 → L1.length < 96 → wp (d + 2) 386 (17, [some (vR (some M)), some (vI ((v : Nat) : Int))], [], tw h0 M A1 sc1) (lnPost h0 M A sc (L1 ++ [((48 + v % 10 : Nat) : Int)])) := by
    intro A1 sc1 L1 hL1 hF hl1
    refine wp.go [] 30 fun W C hW hC => ?_
    refine ⟨by decide, ?_⟩
    refine ⟨_, _, _, twF, rfl, ?_⟩
    conv => whnf
    rw [irem_eq ⟨by omega, by omega⟩ ⟨by omega, by omega⟩, iadd_eq (by omega), show (48 : Int) + ((v : Nat) : Int) % 10 = ((48 + v % 10 : Nat) : Int) by omega]
    refine hC _ _ _ (use (writes_spec (d := d) hL1 hl1 ⟨by omega, by omega⟩) ?_)
    rintro _ _ ⟨rfl, A2, sc2, rfl, i1, i2⟩
    exact ⟨rfl, A2, sc2, rfl, i1, hF.trans i2⟩
  refine wp.go [17] 30 fun W C hW hC => ?_
  refine ⟨fun c => ?_, fun c => ?_⟩
  · rw [if_neg (by omega)] at hW ⊢
    exact hW _ (fin A sc L h Fr.refl (by omega))
  · rw [if_pos (by omega)] at hW ⊢
    refine ⟨by decide, ?_⟩
    refine ⟨_, _, _, twF, rfl, ?_⟩
    conv => whnf
    rw [idiv_eq ⟨by omega, by omega⟩ ⟨by omega, by omega⟩, iadd_eq (by omega), show (48 : Int) + ((v : Nat) : Int) / 10 = ((48 + v / 10 : Nat) : Int) by omega]
    refine hC _ _ _ (use (writes_spec (d := d) h (by omega) ⟨by omega, by omega⟩) ?_)
    rintro _ _ ⟨rfl, A2, sc2, rfl, i1, i2⟩
    have := fin A2 sc2 (L ++ [((48 + v / 10 : Nat) : Int)]) i1 i2 (by rw [List.length_append, List.length_singleton]; omega)
    rw [List.append_assoc] at this
    exact hW _ this
theorem againstLeast_spec {K L : Tx} (hK : LineOk A sc K) (hL : txAt (A 43) 0 (sc 14) L) (hKo : okX K) (hLo : okX L) (hKl : K.length ≤ 96) (hLl : L.length ≤ 96) : wp (d + 1) 390 (0, ent 2 [vR (some M)], [], tw h0 M A sc) (gives (tw h0 M A sc) (difT K L)) := by
  obtain ⟨hA, k1, k2⟩ := hK
  obtain ⟨l1, l2⟩ := hL
  have loop : ∀ (j i : Nat), j + i = K.length → i ≤ L.length → (∀ m, m < i → K[m]? = L[m]?) → wp (d + 1) 390 (2, [some (vR (some M)), some (vI ((i : Nat) : Int))], [], tw h0 M A sc) (gives (tw h0 M A sc) (difT K L)) := by
    intro j
    induction j with
    | zero =>
      intro i hj hi he
      obtain rfl : i = K.length := by omega
      have hd := difT_skip K.length K L fun m hm => ⟨hm, by omega, he m hm⟩
      rw [List.drop_length, difT_end _ _ (Or.inl rfl), List.length_nil, List.length_drop] at hd
      refine wp.go [2] 40 fun W C hW hC => ?_
      refine ⟨_, _, _, _, twF, rfl, rfl, ?_⟩
      rw [k1]
      refine ⟨fun _ => ?_, fun c => absurd c (by omega)⟩
      refine ⟨_, _, _, _, twF, rfl, rfl, ?_⟩
      rw [k1]
      refine ⟨_, _, _, _, twF, rfl, rfl, ?_⟩
      rw [l1]
      conv => whnf
      rw [isub_eq (by omega), hd]
      exact ⟨by congr 3; omega, rfl⟩
    | succ j ih =>
      intro i hj hi he
      have hki : i < K.length := by omega
      refine wp.go [2] 60 fun W C hW hC => ?_
      refine ⟨_, _, _, _, twF, rfl, rfl, ?_⟩
      rw [k1]
      refine ⟨fun c => absurd c (by omega), fun _ => ?_⟩
      refine ⟨_, _, _, _, twF, rfl, rfl, ?_⟩
      rw [l1]
      refine ⟨fun c => ?_, fun c => ?_⟩
      · obtain rfl : i = L.length := by omega
        have hd := difT_skip L.length K L fun m hm => ⟨by omega, hm, he m hm⟩
        rw [List.drop_length, difT_end _ _ (Or.inr rfl), List.length_nil, List.length_drop] at hd
        refine ⟨_, _, _, _, twF, rfl, rfl, ?_⟩
        rw [k1]
        refine ⟨_, _, _, _, twF, rfl, rfl, ?_⟩
        rw [l1]
        conv => whnf
        rw [isub_eq (by omega), hd]
        exact ⟨by congr 3; omega, rfl⟩
      · have hli : i < L.length := by omega
        have ek := k2 i _ (List.getElem?_eq_getElem hki)
        have el := l2 i _ (List.getElem?_eq_getElem hli)
        rw [Nat.zero_add] at ek el
        have bk := hKo _ (List.getElem_mem hki)
        have bl := hLo _ (List.getElem_mem hli)
        refine ⟨_, _, _, _, twF, rfl, rfl, ?_⟩
        refine ⟨_, _, _, twI rfl rfl, rfl, (by omega), gt_at (i) (by omega) (lenlt (j := 42) (hA) (show (i) < 96 by omega)), ?_⟩
        rw [ek]
        refine ⟨_, _, _, _, twF, rfl, rfl, ?_⟩
        refine ⟨_, _, _, twI rfl rfl, rfl, (by omega), gt_at (i) (by omega) (lenlt (j := 43) (hA) (show (i) < 96 by omega)), ?_⟩
        rw [el]
        refine ⟨fun c1 => ?_, fun c1 => ?_⟩
        · (conv => whnf); simp (disch := omega) only [iadd_eq, isub_eq, imul_eq]
          refine hW _ (ih (i + 1) (by omega) (by omega) fun m hm => ?_)
          by_cases e : m = i
          · subst e
            rw [List.getElem?_eq_getElem hki, List.getElem?_eq_getElem hli, c1]
          · exact he m (by omega)
        · have hd := difT_skip i K L fun m hm => ⟨by omega, by omega, he m hm⟩
          rw [List.drop_eq_getElem_cons hki, List.drop_eq_getElem_cons hli] at hd
          have hd2 : difT K L = K[i] - L[i] := by
            rw [hd]
            show (if K[i] = L[i] then _ else _) = _
            rw [if_neg c1]
          refine ⟨_, _, _, _, twF, rfl, rfl, ?_⟩
          refine ⟨_, _, _, twI rfl rfl, rfl, (by omega), gt_at (i) (by omega) (lenlt (j := 42) (hA) (show (i) < 96 by omega)), ?_⟩
          rw [ek]
          refine ⟨_, _, _, _, twF, rfl, rfl, ?_⟩
          refine ⟨_, _, _, twI rfl rfl, rfl, (by omega), gt_at (i) (by omega) (lenlt (j := 43) (hA) (show (i) < 96 by omega)), ?_⟩
          rw [el]
          conv => whnf
          rw [isub_eq (by omega), hd2]
          exact ⟨rfl, rfl⟩
  refine wp.go [2] 10 fun W C hW hC => ?_
  exact hW _ (loop K.length 0 (by omega) (Nat.zero_le _) fun m hm => absurd hm (Nat.not_lt_zero m))
theorem againstText_spec {K L : Tx} {x y : Nat} (hA : lens A) (hx : x < 256) (hy : y < 256) (hK : txAt (A 40) (96 * x) (gt (A 41) x) K) (hL : txAt (A 40) (96 * y) (gt (A 41) y) L) (hKo : okX K) (hLo : okX L) (hKl : K.length ≤ 96) (hLl : L.length ≤ 96) : wp (d + 1) 389 (0, ent 5 [vR (some M), vI ((x : Nat) : Int), vI ((y : Nat) : Int)], [], tw h0 M A sc) (gives (tw h0 M A sc) (difT K L)) := by
  obtain ⟨k1, k2⟩ := hK
  obtain ⟨l1, l2⟩ := hL
  have loop : ∀ (j i : Nat) (x4 : Option AV), j + i = K.length → i ≤ L.length → (∀ m, m < i → K[m]? = L[m]?) → wp (d + 1) 389 (2, [some (vR (some M)), some (vI ((x : Nat) : Int)), some (vI ((y : Nat) : Int)), some (vI ((i : Nat) : Int)), x4], [], tw h0 M A sc) (gives (tw h0 M A sc) (difT K L)) := by
    intro j
    induction j with
    | zero =>
      intro i x4 hj hi he
      obtain rfl : i = K.length := by omega
      have hd := difT_skip K.length K L fun m hm => ⟨hm, by omega, he m hm⟩
      rw [List.drop_length, difT_end _ _ (Or.inl rfl), List.length_nil, List.length_drop] at hd
      refine wp.go [2] 40 fun W C hW hC => ?_
      refine ⟨_, _, _, _, twF, rfl, rfl, ?_⟩
      refine ⟨_, _, _, twI rfl rfl, rfl, (by omega), gt_at (x) (by omega) (lenlt (j := 41) (hA) (show (x) < 256 by omega)), ?_⟩
      rw [k1]
      refine ⟨fun _ => ?_, fun c => absurd c (by omega)⟩
      refine ⟨_, _, _, _, twF, rfl, rfl, ?_⟩
      refine ⟨_, _, _, twI rfl rfl, rfl, (by omega), gt_at (x) (by omega) (lenlt (j := 41) (hA) (show (x) < 256 by omega)), ?_⟩
      rw [k1]
      refine ⟨_, _, _, _, twF, rfl, rfl, ?_⟩
      refine ⟨_, _, _, twI rfl rfl, rfl, (by omega), gt_at (y) (by omega) (lenlt (j := 41) (hA) (show (y) < 256 by omega)), ?_⟩
      rw [l1]
      conv => whnf
      rw [isub_eq (by omega), hd]
      exact ⟨by congr 3; omega, rfl⟩
    | succ j ih =>
      intro i x4 hj hi he
      have hki : i < K.length := by omega
      refine wp.go [2] 60 fun W C hW hC => ?_
      refine ⟨_, _, _, _, twF, rfl, rfl, ?_⟩
      refine ⟨_, _, _, twI rfl rfl, rfl, (by omega), gt_at (x) (by omega) (lenlt (j := 41) (hA) (show (x) < 256 by omega)), ?_⟩
      rw [k1]
      refine ⟨fun c => absurd c (by omega), fun _ => ?_⟩
      refine ⟨_, _, _, _, twF, rfl, rfl, ?_⟩
      refine ⟨_, _, _, twI rfl rfl, rfl, (by omega), gt_at (y) (by omega) (lenlt (j := 41) (hA) (show (y) < 256 by omega)), ?_⟩
      rw [l1]
      refine ⟨fun c => ?_, fun c => ?_⟩
      · obtain rfl : i = L.length := by omega
        have hd := difT_skip L.length K L fun m hm => ⟨by omega, hm, he m hm⟩
        rw [List.drop_length, difT_end _ _ (Or.inr rfl), List.length_nil, List.length_drop] at hd
        refine ⟨_, _, _, _, twF, rfl, rfl, ?_⟩
        refine ⟨_, _, _, twI rfl rfl, rfl, (by omega), gt_at (x) (by omega) (lenlt (j := 41) (hA) (show (x) < 256 by omega)), ?_⟩
        rw [k1]
        refine ⟨_, _, _, _, twF, rfl, rfl, ?_⟩
        refine ⟨_, _, _, twI rfl rfl, rfl, (by omega), gt_at (y) (by omega) (lenlt (j := 41) (hA) (show (y) < 256 by omega)), ?_⟩
        rw [l1]
        conv => whnf
        rw [isub_eq (by omega), hd]
        exact ⟨by congr 3; omega, rfl⟩
      · have hli : i < L.length := by omega
        have ek := k2 i _ (List.getElem?_eq_getElem hki)
        have el := l2 i _ (List.getElem?_eq_getElem hli)
        have bk := hKo _ (List.getElem_mem hki)
        have bl := hLo _ (List.getElem_mem hli)
        refine ⟨_, _, _, _, twF, rfl, rfl, ?_⟩
        (conv => whnf); simp (disch := omega) only [iadd_eq, isub_eq, imul_eq]
        refine ⟨_, _, _, twI rfl rfl, rfl, (by omega), gt_at (96 * x + i) (by omega) (lenlt (j := 40) (hA) (show (96 * x + i) < 24576 by omega)), ?_⟩
        rw [ek]
        refine ⟨_, _, _, _, twF, rfl, rfl, ?_⟩
        (conv => whnf); simp (disch := omega) only [iadd_eq, isub_eq, imul_eq]
        refine ⟨_, _, _, twI rfl rfl, rfl, (by omega), gt_at (96 * y + i) (by omega) (lenlt (j := 40) (hA) (show (96 * y + i) < 24576 by omega)), ?_⟩
        rw [el]
        (conv => whnf); simp (disch := omega) only [iadd_eq, isub_eq, imul_eq]
        refine ⟨fun c1 => ?_, fun c1 => ?_⟩
        · (conv => whnf); simp (disch := omega) only [iadd_eq, isub_eq, imul_eq]
          refine hW _ (ih (i + 1) _ (by omega) (by omega) fun m hm => ?_)
          by_cases e : m = i
          · subst e
            rw [List.getElem?_eq_getElem hki, List.getElem?_eq_getElem hli, show K[m] = L[m] by omega]
          · exact he m (by omega)
        · have hd := difT_skip i K L fun m hm => ⟨by omega, by omega, he m hm⟩
          rw [List.drop_eq_getElem_cons hki, List.drop_eq_getElem_cons hli] at hd
          have hd2 : difT K L = K[i] - L[i] := by
            rw [hd]
            show (if K[i] = L[i] then _ else _) = _
            rw [if_neg (by omega)]
          rw [hd2]
          exact ⟨rfl, rfl⟩
  refine wp.go [2] 10 fun W C hW hC => ?_
  exact hW _ (loop K.length 0 none (by omega) (Nat.zero_le _) fun m hm => absurd hm (Nat.not_lt_zero m))
end LINE
