/-! WHAT IS LISTED: each code of a skeleton stands there, each comes of one of a carbon less -/
theorem clS (n : Nat) (h1 : 1 ≤ n) (h2 : n ≤ 11) : srtB (codesL n) = true := match n, h1, h2 with
  | 1, _, _ => clS1
  | 2, _, _ => clS2
  | 3, _, _ => clS3
  | 4, _, _ => clS4
  | 5, _, _ => clS5
  | 6, _, _ => clS6
  | 7, _, _ => clS7
  | 8, _, _ => clS8
  | 9, _, _ => clS9
  | 10, _, _ => clS10
  | 11, _, _ => clS11
theorem clB (n : Nat) (h1 : 1 ≤ n) (h2 : n ≤ 11) : (codesL n).all (codB n) = true := match n, h1, h2 with
  | 1, _, _ => clB1
  | 2, _, _ => clB2
  | 3, _, _ => clB3
  | 4, _, _ => clB4
  | 5, _, _ => clB5
  | 6, _, _ => clB6
  | 7, _, _ => clB7
  | 8, _, _ => clB8
  | 9, _, _ => clB9
  | 10, _, _ => clB10
  | 11, _, _ => clB11
theorem clW (n : Nat) (h1 : 1 ≤ n) (h2 : n ≤ 11) : chkW n = true := match n, h1, h2 with
  | 1, _, _ => clW1
  | 2, _, _ => clW2
  | 3, _, _ => clW3
  | 4, _, _ => clW4
  | 5, _, _ => clW5
  | 6, _, _ => clW6
  | 7, _, _ => clW7
  | 8, _, _ => clW8
  | 9, _, _ => clW9
  | 10, _, _ => clW10
  | 11, _, _ => clW11
theorem clP (n : Nat) (h1 : 1 ≤ n) (h2 : n ≤ 11) : chkP n = true := match n, h1, h2 with
  | 1, _, _ => clP1
  | 2, _, _ => clP2
  | 3, _, _ => clP3
  | 4, _, _ => clP4
  | 5, _, _ => clP5
  | 6, _, _ => clP6
  | 7, _, _ => clP7
  | 8, _, _ => clP8
  | 9, _, _ => clP9
  | 10, _, _ => clP10
  | 11, _, _ => clP11
theorem clC (n : Nat) (h1 : 2 ≤ n) (h2 : n ≤ 11) : chkC n (codesL n) (certL n) = true := match n, h1, h2 with
  | 2, _, _ => clC2
  | 3, _, _ => clC3
  | 4, _, _ => clC4
  | 5, _, _ => clC5
  | 6, _, _ => clC6
  | 7, _, _ => clC7
  | 8, _, _ => clC8
  | 9, _, _ => clC9
  | 10, _, _ => clC10
  | 11, _, _ => clC11
theorem off_succ (n : Nat) (h1 : 1 ≤ n) (h2 : n ≤ 10) : offL (n + 1) = offL n + n * (codesL n).length := match n, h1, h2 with
  | 1, _, _ => rfl
  | 2, _, _ => rfl
  | 3, _, _ => rfl
  | 4, _, _ => rfl
  | 5, _, _ => rfl
  | 6, _, _ => rfl
  | 7, _, _ => rfl
  | 8, _, _ => rfl
  | 9, _, _ => rfl
  | 10, _, _ => rfl
theorem off_room (n : Nat) (h1 : 1 ≤ n) (h2 : n ≤ 11) : offL n + n * (codesL n).length + n ≤ 3200 := match n, h1, h2 with
  | 1, _, _ => by decide +kernel
  | 2, _, _ => by decide +kernel
  | 3, _, _ => by decide +kernel
  | 4, _, _ => by decide +kernel
  | 5, _, _ => by decide +kernel
  | 6, _, _ => by decide +kernel
  | 7, _, _ => by decide +kernel
  | 8, _, _ => by decide +kernel
  | 9, _, _ => by decide +kernel
  | 10, _, _ => by decide +kernel
  | 11, _, _ => by decide +kernel
section LISTED
variable {G : Gr} {D : Nat → Nat → Nat}
theorem code_in (hG : G.ok) (hD : Far G D) (hn : G.1 ≤ 11) : codG G D ∈ codesL G.1 := by
  obtain ⟨hw, hd, -⟩ := hG
  have hr := fstC_lt hw hD
  have hs := TT_root hw hD hr
  obtain ⟨b1, b2, b3⟩ := TT_br0 hw hD hd (fstC G D)
  have hm := root_whole (root_is hw hD) (TT_ok _ _ _) b1 b2 b3 (by rw [hs]; exact hn)
  rw [hs] at hm
  have hp : codG G D ∈ perL G.1 := by
    rw [← eqLL_eq (clW G.1 hw.1 hn)]
    exact List.mem_map.mpr ⟨_, hm, rfl⟩
  have := List.all_eq_true.mp (clP G.1 hw.1 hn) _ hp
  obtain ⟨K, k1, k2⟩ := List.any_eq_true.mp this
  rw [eqL_eq k2]
  exact k1
theorem cod_ok {n : Nat} {L : List Nat} (hn : n ≤ 16) (h : codB n L = true) : L.length = n ∧ (∀ x, x ∈ L → x < 100) ∧ okC L ∧ ∀ c, c < n → (gC L c).ok := by
  unfold codB at h
  rw [Bool.and_eq_true, Bool.and_eq_true, List.all_eq_true, List.all_eq_true] at h
  obtain ⟨⟨h1, h2⟩, h3⟩ := h
  have hl : L.length = n := beqN.mp h1
  have key : ∀ c, c + 1 < n → ∃ p, parC L (c + 1) = some p ∧ p < c + 1 ∧ deg (gC L c) p ≠ 4 := by
    intro c hc
    have := h3 c (List.mem_range.mpr (by omega))
    cases e : parC L (c + 1) with
    | none => rw [e] at this; cases this
    | some p =>
      rw [e] at this
      exact ⟨p, rfl, parD_lt (L := L) e, nbeq.mp this⟩
  refine ⟨hl, fun x hx => Nat.le_of_ble_eq_true (h2 x hx), fun c hc1 hc2 => ?_, ?_⟩
  · obtain ⟨p, hp, -, -⟩ := key (c - 1) (by omega)
    rw [show c - 1 + 1 = c by omega] at hp
    rw [hp]; rfl
  · intro c
    induction c with
    | zero => intro _; exact one_ok
    | succ c ih =>
      intro hc
      obtain ⟨p, hp, hp2, hp3⟩ := key c hc
      show (gGrow (gC L c) ((parC L (c + 1)).getD 0)).ok
      rw [hp]
      exact grow_ok (ih (by omega)) (by rw [gC_n]; exact hp2) (by rw [gC_n]; omega) hp3
theorem cod_at {n : Nat} (h1 : 1 ≤ n) (h2 : n ≤ 11) {L : List Nat} (hL : L ∈ codesL n) : L.length = n ∧ (∀ x, x ∈ L → x < 100) ∧ okC L ∧ ∀ c, c < n → (gC L c).ok :=
  cod_ok (by omega) (List.all_eq_true.mp (clB n h1 h2) L hL)
theorem chkC_at {n : Nat} : ∀ {C : List (List Nat)} {z : List (Nat × Nat × Nat)}, chkC n C z = true → ∀ K, K ∈ C → ∃ y, chk1 n K y = true
  | [], _, _, K, h => nomatch h
  | L :: r, y :: s, h, K, hK => by
    unfold chkC at h
    rw [Bool.and_eq_true] at h
    rcases List.mem_cons.mp hK with rfl | hK
    · exact ⟨y, h.1⟩
    · exact chkC_at h.2 K hK
  | _ :: _, [], h, _, _ => by cases h
/-- each code but the first comes of one of a carbon less -/
theorem code_of {n : Nat} (h1 : 2 ≤ n) (h2 : n ≤ 11) {K : List Nat} (hK : K ∈ codesL n) : ∃ (k : Nat) (L : List Nat) (c : Nat), (codesL (n - 1))[k]? = some L ∧ c < n - 1 ∧ deg (gC L (n - 2)) c ≠ 4 ∧ ∀ D, Far (gGrow (gC L (n - 2)) c) D → codG (gGrow (gC L (n - 2)) c) D = K := by
  obtain ⟨⟨k, c, r⟩, hz⟩ := chkC_at (clC n h1 h2) K hK
  unfold chk1 at hz
  dsimp only at hz
  cases e : (codesL (n - 1))[k]? with
  | none => rw [e] at hz; cases hz
  | some L =>
    rw [e] at hz
    dsimp only at hz
    rw [Bool.and_eq_true, Bool.and_eq_true, Bool.and_eq_true, Bool.and_eq_true] at hz
    obtain ⟨z1, z2, z3, z4, z5⟩ := hz
    have hc : c < n - 1 := Nat.le_of_ble_eq_true z1
    have hr : r < n := Nat.le_of_ble_eq_true z2
    obtain ⟨-, -, -, hok⟩ := cod_at (n := n - 1) (by omega) (by omega) (List.mem_of_getElem? e)
    have hg := hok (n - 2) (by omega)
    have hgn := gC_n L (n - 2)
    have ho := grow_ok hg (c := c) (by omega) (by omega) (nbeq.mp z3)
    refine ⟨k, L, c, e, hc, nbeq.mp z3, fun D hD => ?_⟩
    have hrt := root_cert ho.1 hD (r := r) (show r < (gC L (n - 2)).1 + 1 by omega) (rootB_ok z5)
    unfold codG
    rw [hrt]
    exact eqL_eq z4
end LISTED
theorem srtB_split : ∀ {C1 C2 : List (List Nat)} {K : List Nat}, srtB (C1 ++ K :: C2) = true → (∀ L, L ∈ C1 → 0 < difC K L) ∧ ∀ L, L ∈ C2 → difC K L < 0
  | [], C2, K, h => by
    rw [List.nil_append] at h
    unfold srtB at h
    rw [Bool.and_eq_true, List.all_eq_true] at h
    refine ⟨fun L hL => (nomatch hL), fun L hL => ?_⟩
    have := h.1 L hL
    rw [Bool.and_eq_true] at this
    exact of_decide_eq_true this.1
  | a :: r, C2, K, h => by
    rw [List.cons_append] at h
    unfold srtB at h
    rw [Bool.and_eq_true, List.all_eq_true] at h
    obtain ⟨i1, i2⟩ := srtB_split h.2
    refine ⟨fun L hL => ?_, i2⟩
    rcases List.mem_cons.mp hL with rfl | hL
    · have := h.1 K (by simp)
      rw [Bool.and_eq_true] at this
      exact of_decide_eq_true this.2
    · exact i1 L hL
theorem difC_self : ∀ K : List Nat, difC K K = 0
  | [] => rfl
  | a :: k => by unfold difC; rw [if_pos rfl]; exact difC_self k
theorem insC_no {K : List Nat} {Ls : List (List Nat)} (h : ∀ L, Ls[plc K Ls]? = some L → difC K L ≠ 0) : insC K Ls = Ls.take (plc K Ls) ++ K :: Ls.drop (plc K Ls) := by
  unfold insC
  refine if_neg fun c => ?_
  cases e : Ls[plc K Ls]? with
  | none => rw [e] at c; cases c
  | some L => rw [e] at c; exact h L e (of_decide_eq_true c)
/-- a code comes into some of those that are listed -/
theorem insC_filter {C : List (List Nat)} (hs : srtB C = true) {K : List Nat} (hK : K ∈ C) (P : List Nat → Bool) : insC K (C.filter P) = C.filter fun X => P X || eqL X K := by
  obtain ⟨C1, C2, rfl⟩ := List.append_of_mem hK
  obtain ⟨s1, s2⟩ := srtB_split hs
  have eqs : eqL K K = true := by
    have : ∀ K : List Nat, eqL K K = true := by
      intro K
      induction K with
      | nil => rfl
      | cons a k ih => unfold eqL; rw [Nat.beq_refl, ih]; rfl
    exact this K
  have f1 : C1.filter (fun X => P X || eqL X K) = C1.filter P := by
    refine List.filter_congr fun X hX => ?_
    cases e : eqL X K with
    | false => rw [Bool.or_false]
    | true =>
      have := s1 X hX
      rw [eqL_eq e, difC_self] at this
      exact absurd this (by decide)
  have f2 : C2.filter (fun X => P X || eqL X K) = C2.filter P := by
    refine List.filter_congr fun X hX => ?_
    cases e : eqL X K with
    | false => rw [Bool.or_false]
    | true =>
      have := s2 X hX
      rw [eqL_eq e, difC_self] at this
      exact absurd this (by decide)
  rw [List.filter_append, List.filter_append, List.filter_cons, List.filter_cons, f1, f2, eqs, Bool.or_true, if_pos rfl]
  have t1 : ∀ R : List (List Nat), (∀ L, R[0]? = some L → ¬ 0 < difC K L) → plc K (C1.filter P ++ R) = (C1.filter P).length := by
    intro R hR
    refine plc_at K _ _ (by rw [List.length_append]; omega) (fun m L hm hL => ?_) (fun L hL => ?_)
    · rw [List.getElem?_append_left hm] at hL
      exact s1 L (List.mem_filter.mp (List.mem_of_getElem? hL)).1
    · rw [List.getElem?_append_right (Nat.le_refl _), Nat.sub_self] at hL
      exact hR L hL
  cases e : P K with
  | true =>
    rw [if_pos rfl]
    unfold insC
    rw [t1 _ (fun L hL => by cases hL; rw [difC_self]; decide), List.getElem?_append_right (Nat.le_refl _), Nat.sub_self]
    rw [if_pos (by show decide (difC K K = 0) = true; rw [difC_self]; rfl)]
  | false =>
    rw [if_neg (by decide)]
    have q : ∀ L, (C2.filter P)[0]? = some L → difC K L < 0 := fun L hL => s2 L (List.mem_filter.mp (List.mem_of_getElem? hL)).1
    have hp := t1 _ (fun L hL => by have := q L hL; omega)
    rw [insC_no (fun L hL => ?_), hp, List.take_left, List.drop_left]
    rw [hp, List.getElem?_append_right (Nat.le_refl _), Nat.sub_self] at hL
    have := q L hL
    omega
