/-! THE TWIN's LISTS: made once; take, listed, rank -/
noncomputable def dst (G : Gr) : Nat → Nat → Nat := Classical.epsilon (Far G)
theorem dst_far {G : Gr} (h : G.ok) : Far G (dst G) := Classical.epsilon_spec h.2.2
def LAll (A : Nat → List Int) : Prop := ∀ n, 1 ≤ n → n ≤ 11 → ListAt A n (offL n) (codesL n)
theorem off_mono : ∀ n, n ≤ 11 → ∀ m, m < n → 1 ≤ m → offL m + m * (codesL m).length ≤ offL n := by decide +kernel
theorem listOk_all {A : Nat → List Int} {is : Int} (h : listOk (A 29) (A 30) (A 31) is) (h1 : is ≠ 0) : LAll A := by
  rcases h with h | ⟨-, h⟩
  · exact absurd h h1
  · intro n n1 n2
    obtain ⟨q1, q2, q3⟩ := h n n1 n2
    refine ⟨q1, q2, by have := off_room n n1 n2; omega, fun k L hk => ?_⟩
    obtain ⟨c1, c2, -, -⟩ := cod_at n1 n2 (List.mem_of_getElem? hk)
    have hkl := (List.getElem?_eq_some_iff.mp hk).1
    refine ⟨c1, c2, fun i x hi => ?_⟩
    have hil := (List.getElem?_eq_some_iff.mp hi).1
    have := q3 k i hkl (by omega)
    rw [hk] at this
    rw [show (some L).getD [] = L from rfl, hi] at this
    exact this
theorem all_listOk {A : Nat → List Int} (h : LAll A) : listOk (A 29) (A 30) (A 31) 1 := by
  refine Or.inr ⟨rfl, fun n n1 n2 => ?_⟩
  obtain ⟨q1, q2, q3, q4⟩ := h n n1 n2
  refine ⟨q1, q2, fun k i hk hi => ?_⟩
  obtain ⟨c1, c2, c3⟩ := q4 k _ (List.getElem?_eq_getElem hk)
  rw [List.getElem?_eq_getElem hk]
  show _ = (((((codesL n)[k])[i]?.getD 0 : Nat)) : Int)
  have hil : i < ((codesL n)[k]).length := by omega
  rw [c3 i _ (List.getElem?_eq_getElem hil), List.getElem?_eq_getElem hil]
  rfl
section LISTS
variable {d : Nat} {h0 : AH} {M : Nat} {A : Nat → List Int} {sc : Nat → Int} {S : AS}
theorem lists_loop {A0 : Nat → List Int} {sc0 : Nat → Int} : ∀ (j n : Nat) (A : Nat → List Int) (sc : Nat → Int), j + n = 11 → 1 ≤ n → lens A → Fr JX [5, 6, 7] A0 A sc0 sc → sc 7 = 1 → (∀ m, 1 ≤ m → m ≤ n → ListAt A m (offL m) (codesL m)) →
    wp (d + 12) 304 (36, [some (vR (some M)), some (vI ((n + 1 : Nat) : Int))], [], tw h0 M A sc) (fun r h' => r = .inl none ∧ ∃ A' sc', h' = tw h0 M A' sc' ∧ lens A' ∧ Fr JX [5, 6, 7] A0 A' sc0 sc' ∧ sc' 7 = 1 ∧ LAll A') := by
  intro j
  induction j with
  | zero =>
    intro n A sc hj hn hA hF hs hL
    obtain rfl : n = 11 := by omega
    refine wp.go [36] 20 fun W C hW hC => ?_
    refine ⟨fun _ => ?_, fun c => absurd c (by omega)⟩
    exact ⟨rfl, A, sc, rfl, hA, hF, hs, hL⟩
  | succ j ih =>
    intro n A sc hj hn hA hF hs hL
    refine wp.go [36] 20 fun W C hW hC => ?_
    refine ⟨fun c => absurd c (by omega), fun _ => ?_⟩
    refine ⟨_, _, _, twF, rfl, ?_⟩
    refine hC _ _ _ (use (listsOf_spec hn (by omega) hA (hL n hn (Nat.le_refl _))) ?_)
    rintro _ _ ⟨rfl, A', sc', rfl, i1, i2, i3, i4, i5⟩
    have hf : (codesL (n + 1)).filter (fun _ => true) = codesL (n + 1) := List.filter_eq_self.mpr fun _ _ => rfl
    rw [hf] at i3
    (conv => whnf); simp (disch := omega) only [iadd_eq, isub_eq, imul_eq]
    refine hW _ (ih (n + 1) A' sc' (by omega) (by omega) i1 (hF.trans (i2.wide rfl rfl)) (by rw [i2.2 7 rfl]; exact hs) fun m m1 m2 => ?_)
    by_cases e : m = n + 1
    · subst e; exact i3
    · exact (hL m m1 (by omega)).low (i4 m (by omega)).1 (i4 m (by omega)).2 (off_mono (n + 1) (by omega) m (by omega) m1) i5
theorem lists_spec (hA : lens A) (h : listOk (A 29) (A 30) (A 31) (sc 7)) : wp (d + 12) 304 (0, ent 2 [vR (some M)], [], tw h0 M A sc) (fun r h' => r = .inl none ∧ ∃ A' sc', h' = tw h0 M A' sc' ∧ lens A' ∧ Fr JX [5, 6, 7] A A' sc sc' ∧ listOk (A' 29) (A' 30) (A' 31) (sc' 7) ∧ LAll A') := by
  have hl29 : (A 29).length = 12 := by rw [hA.eq 29]; rfl
  have hl30 : (A 30).length = 12 := by rw [hA.eq 30]; rfl
  have hl31 : (A 31).length = 3200 := by rw [hA.eq 31]; rfl
  refine wp.go [36] 60 fun W C hW hC => ?_
  refine ⟨_, _, _, _, twF, rfl, rfl, ?_⟩
  refine ⟨fun c => ?_, fun c => ?_⟩
  · refine ⟨_, _, _, twF, rfl, (Nat.le_of_ble_eq_true rfl), Or.inr rfl, ?_⟩
    rw [twP7]
    refine ⟨_, _, _, _, twF, rfl, rfl, ?_⟩
    (refine ⟨_, twI rfl rfl, (by omega), (ilt (1) (by omega) (lenlt (j := 30) (hA) (show (1) < 12 by omega))), ?_⟩; rw [twSetI rfl rfl]; try rw [Int.toNat_natCast])
    refine ⟨_, _, _, _, twF, rfl, rfl, ?_⟩
    (refine ⟨_, twI rfl rfl, (by omega), (ilt (1) (by omega) (lenlt (j := 29) (hA.up (by rw [List.length_set, hl30]; rfl)) (show (1) < 12 by omega))), ?_⟩; rw [twSetI rfl rfl]; try rw [Int.toNat_natCast])
    refine ⟨_, _, _, _, twF, rfl, rfl, ?_⟩
    (refine ⟨_, twI rfl rfl, (by omega), (ilt (0) (by omega) (lenlt (j := 31) ((hA.up (by rw [List.length_set, hl30]; rfl)).up (by rw [List.length_set, upn_ne _ _ (by decide), hl29]; rfl)) (show (0) < 3200 by omega))), ?_⟩; rw [twSetI rfl rfl]; try rw [Int.toNat_natCast])
    rw [upn_ne _ _ (by decide), upn_ne _ _ (by decide), upn_ne _ _ (by decide)]
    refine hW _ (use (lists_loop (A0 := A) (sc0 := sc) 10 1 _ _ rfl (Nat.le_refl _) (((hA.up (by rw [List.length_set, hl30]; rfl)).up (by rw [List.length_set, hl29]; rfl)).up (by rw [List.length_set, hl31]; rfl)) (((Fr.upA rfl).trans (Fr.upA rfl)).trans ((Fr.upA rfl).trans (Fr.upS rfl))) (up_eq _ _ _) fun m m1 m2 => ?_) ?_)
    · obtain rfl : m = 1 := by omega
      refine ⟨?_, ?_, by decide, fun k L hk => ?_⟩
      · rw [upn_ne _ _ (by decide), up_eq, gt_set (by rw [hl29]; decide), if_pos (show 1 = Int.toNat 1 from rfl)]; rfl
      · rw [upn_ne _ _ (by decide), upn_ne _ _ (by decide), up_eq, gt_set (by rw [hl30]; decide), if_pos (show 1 = Int.toNat 1 from rfl)]; rfl
      · have hkl := (List.getElem?_eq_some_iff.mp hk).1
        have hkl : k < 1 := hkl
        obtain rfl : k = 0 := by omega
        cases hk
        refine ⟨rfl, by decide, fun i x hi => ?_⟩
        have hil := (List.getElem?_eq_some_iff.mp hi).1
        have hil : i < 1 := hil
        obtain rfl : i = 0 := by omega
        cases hi
        rw [up_eq]
        show gt ((A 31).set 0 0) 0 = 0
        rw [gt_set (by omega), if_pos rfl]
    · rintro _ _ ⟨rfl, A', sc', rfl, k1, k2, k3, k4⟩
      exact ⟨rfl, A', sc', rfl, k1, k2, by rw [k3]; exact all_listOk k4, k4⟩
  · exact ⟨rfl, A, sc, rfl, hA, Fr.refl, h, listOk_all h c⟩
theorem TW.keepL {A A' : Nat → List Int} {sc sc' : Nat → Int} {S : AS} {J K : List Nat} (h : TW A sc S) (hA : lens A') (hF : Fr J K A A' sc sc') (hJ : ([1, 2, 3, 4, 5, 34, 35, 36].all fun j => !J.elem j) = true) (hK : ([0, 1, 8].all fun k => !K.elem k) = true) (hL : listOk (A' 29) (A' 30) (A' 31) (sc' 7)) : TW A' sc' S := by
  have hj : ∀ j, j ∈ [1, 2, 3, 4, 5, 34, 35, 36] → A' j = A j := fun j hj => hF.1 j (by simpa using List.all_eq_true.mp hJ j hj)
  have hk : ∀ k, k ∈ [0, 1, 8] → sc' k = sc k := fun k hk => hF.2 k (by simpa using List.all_eq_true.mp hK k hk)
  obtain ⟨h1, h2, h3, h4, h5, h6, h7⟩ := h
  refine ⟨hA, ?_, ?_, ?_, ?_, hL, ?_⟩
  · rw [hj 1 (by decide)]; exact h2
  · rw [hj 2 (by decide), hk 0 (by decide)]; exact h3
  · rw [hj 3 (by decide), hj 4 (by decide)]; exact h4
  · rw [hj 5 (by decide), hk 1 (by decide)]; exact h5
  · rw [hj 34 (by decide), hj 35 (by decide), hj 36 (by decide), hk 8 (by decide)]; exact h7
theorem lists_tw (h : TW A sc S) : wp (d + 12) 304 (0, ent 2 [vR (some M)], [], tw h0 M A sc) (fun r h' => r = .inl none ∧ ∃ A' sc', h' = tw h0 M A' sc' ∧ TW A' sc' S ∧ LAll A') := by
  refine wpd.mono ?_ _ _ _ (lists_spec h.1 h.2.2.2.2.2.1)
  rintro r h' ⟨rfl, A', sc', rfl, k1, k2, k3, k4⟩
  exact ⟨rfl, A', sc', rfl, h.keepL k1 k2 rfl rfl k3, k4⟩
abbrev isL (n k : Int) : Prop := (1 ≤ n ∧ n ≤ 11) ∧ 0 ≤ k ∧ k ≤ (((codesL n.toNat).length : Nat) : Int) - 1
theorem isOf_tw (h : TW A sc S) {n k : Int} : wp (d + 13) 303 (0, ent 3 [vR (some M), vI n, vI k], [], tw h0 M A sc) (fun r h' => ∃ A' sc', h' = tw h0 M A' sc' ∧ TW A' sc' S ∧ r = .inl (some (vI (if isL n k then 1 else 0))) ∧ (isL n k → LAll A')) := by
  refine wp.go [] 40 fun W C hW hC => ?_
  refine hC _ _ _ (use (wpd.up (show d + 1 ≤ d + 12 by omega) (isIn_s (d := d) _ _ _ _)) ?_); rintro _ _ ⟨rfl, rfl⟩
  refine ⟨fun c => ?_, fun c => ?_⟩
  · have c1 := b1.mp c
    obtain ⟨m, rfl⟩ : ∃ m : Nat, n = (m : Int) := ⟨n.toNat, by omega⟩
    refine ⟨_, _, _, twF, rfl, ?_⟩
    refine hC _ _ _ (use (lists_tw h) ?_)
    rintro _ _ ⟨rfl, A', sc', rfl, hT, hL⟩
    have hA := hT.1
    refine ⟨_, _, _, _, twF, rfl, rfl, ?_⟩
    refine ⟨_, _, _, twI rfl rfl, rfl, (by omega), gt_at (m) (by omega) (lenlt (j := 29) (hA) (show (m) < 12 by omega)), ?_⟩
    rw [(hL m (by omega) (by omega)).1]
    have hroom := off_room m (by omega) (by omega)
    have hlen : (codesL m).length ≤ 3200 := by
      have : 1 * (codesL m).length ≤ m * (codesL m).length := Nat.mul_le_mul_right _ (by omega)
      omega
    conv => whnf
    rw [isub_eq (by omega)]
    refine hC _ _ _ (use (wpd.up (show d + 1 ≤ d + 12 by omega) (isIn_s (d := d) _ _ _ _)) ?_); rintro _ _ ⟨rfl, rfl⟩
    refine ⟨?_, A', sc', rfl, hT, ?_, fun _ => hL⟩
    · split
      · exact Or.inr rfl
      · exact Or.inl rfl
    · congr 3
      by_cases e : 0 ≤ k ∧ k ≤ (((codesL m).length : Nat) : Int) - 1
      · rw [if_pos e, if_pos ⟨c1, e⟩]
      · rw [if_neg e, if_neg (fun q => e q.2)]
  · have c1 := b0.mp c
    refine ⟨Or.inl rfl, A, sc, rfl, h, ?_, fun q => absurd q.1 c1⟩
    rw [if_neg (fun q => c1 q.1)]
def aListed (n k i : Int) : Int := if isL n k ∧ 0 ≤ i ∧ i ≤ n - 1 then atN ((codesL n.toNat)[k.toNat]?.getD []) i.toNat else -1
theorem listed_tw (h : TW A sc S) {n k i : Int} (hn : -2147483648 < n) : wp (d + 14) 335 (0, ent 4 [vR (some M), vI n, vI k, vI i], [], tw h0 M A sc) (twEnd h0 M (vI (aListed n k i)) S) := by
  unfold aListed
  refine wp.go [] 60 fun W C hW hC => ?_
  refine ⟨_, _, _, twF, rfl, ?_⟩
  refine hC _ _ _ (use (isOf_tw h) ?_)
  rintro _ _ ⟨A', sc', rfl, hT, rfl, hL⟩
  refine ⟨fun c => ?_, fun c => ?_⟩
  · have c1 := b0.mp c
    rw [if_neg (fun q => c1 q.1)]
    exact ⟨rfl, _, _, rfl, hT⟩
  · have c1 := b1.mp c
    obtain ⟨c2, c3, c4⟩ := id c1
    conv => whnf
    rw [isub_eq (by omega)]
    refine hC _ _ _ (use (wpd.up (show d + 1 ≤ d + 13 by omega) (isIn_s (d := d) _ _ _ _)) ?_); rintro _ _ ⟨rfl, rfl⟩
    refine ⟨fun c => ?_, fun c => ?_⟩
    · have c5 := b0.mp c
      rw [if_neg (fun q => c5 q.2)]
      exact ⟨rfl, _, _, rfl, hT⟩
    · have c5 := b1.mp c
      rw [if_pos ⟨c1, c5⟩]
      obtain ⟨m, rfl⟩ : ∃ m : Nat, n = (m : Int) := ⟨n.toNat, by omega⟩
      obtain ⟨k, rfl⟩ : ∃ k' : Nat, k = (k' : Int) := ⟨k.toNat, by omega⟩
      obtain ⟨i, rfl⟩ : ∃ i' : Nat, i = (i' : Int) := ⟨i.toNat, by omega⟩
      rw [Int.toNat_natCast] at c4
      have hLm := hL c1 m (by omega) (by omega)
      have hkl : k < (codesL m).length := by omega
      have hr := hLm.room hkl
      obtain ⟨p1, p2, p3⟩ := hLm.2.2.2 k _ (List.getElem?_eq_getElem hkl)
      have hA := hT.1
      refine ⟨_, _, _, _, twF, rfl, rfl, ?_⟩
      refine ⟨_, _, _, twF, rfl, ?_⟩
      refine hC _ _ _ (use (wpd.up (show d + 1 ≤ d + 13 by omega) (codeAt_spec (d := d) (k := k) hA (by omega) hLm.2.1 (by omega))) ?_); rintro _ _ ⟨rfl, rfl⟩
      (conv => whnf); simp (disch := omega) only [iadd_eq, isub_eq, imul_eq]
      refine ⟨_, _, _, twI rfl rfl, rfl, (by omega), gt_at (offL m + m * k + i) (by omega) (lenlt (j := 31) (hA) (show (offL m + m * k + i) < 3200 by omega)), ?_⟩
      have hil : i < ((codesL m)[k]).length := by omega
      refine ⟨?_, _, _, rfl, hT⟩
      rw [p3 i _ (List.getElem?_eq_getElem hil)]
      have hx : atN ((codesL m)[k]) i = (((codesL m)[k][i] : Nat) : Int) := by unfold atN; rw [List.getElem?_eq_getElem hil]
      rw [Int.toNat_natCast, Int.toNat_natCast, Int.toNat_natCast, List.getElem?_eq_getElem hkl, Option.getD_some, hx]
def aTake (S : AS) (n k : Int) : Int × AS := if isL n k then (n, actS S (gC ((codesL n.toNat)[k.toNat]?.getD []) (n.toNat - 1))) else (-1, S)
theorem take_copy {m : Nat} {V : Nat → List Int} {G : Gr} (hV : lens V) (hG : G.1 ≤ 16) (hr : isRow (V 32) 0 G) {k : Int} {Q : Rs → AH → Prop}
    (hQ : ∀ N, N.length = 17 → isRow N 0 G → Q (.inl (some (vI ((m : Nat) : Int)))) (tw h0 M (up V 1 N) sc)) :
    ∀ (j i : Nat) (N : List Int), j + i = 17 → N.length = 17 → (∀ x, x < i → gt N x = gt (V 32) x) → wp (d + 1) 302 (28, [some (vR (some M)), some (vI ((m : Nat) : Int)), some (vI k), some (vI ((i : Nat) : Int))], [], tw h0 M (up V 1 N) sc) Q := by
  intro j
  induction j with
  | zero =>
    intro i N hj hN he
    obtain rfl : i = 17 := by omega
    refine wp.go [28] 20 fun W C hW hC => ?_
    refine ⟨fun _ => ?_, fun c => absurd c (by omega)⟩
    exact hQ N hN (hr.congr hG fun x hx => by rw [Nat.zero_add]; exact he x hx)
  | succ j ih =>
    intro i N hj hN he
    have hA2 : lens (up V 1 N) := hV.up (by rw [hN]; rfl)
    refine wp.go [28] 30 fun W C hW hC => ?_
    refine ⟨fun c => absurd c (by omega), fun _ => ?_⟩
    refine ⟨_, _, _, _, twF, rfl, rfl, ?_⟩
    refine ⟨_, _, _, _, twF, rfl, rfl, ?_⟩
    refine ⟨_, _, _, twI rfl rfl, rfl, (by omega), gt_at (i) (by omega) (lenlt (j := 32) (hA2) (show (i) < 17 by omega)), ?_⟩
    rw [upn_ne _ _ (by decide)]
    (refine ⟨_, twI rfl rfl, (by omega), (ilt (i) (by omega) (lenlt (j := 1) (hA2) (show (i) < 17 by omega))), ?_⟩; rw [twSetI rfl rfl]; try rw [Int.toNat_natCast])
    rw [up_up, up_eq]
    (conv => whnf); simp (disch := omega) only [iadd_eq, isub_eq, imul_eq]
    refine hW _ (ih (i + 1) _ (by omega) (by rw [List.length_set]; exact hN) fun x hx => ?_)
    rw [gt_set (by omega)]
    by_cases e : x = i
    · rw [if_pos e, e]
    · rw [if_neg e]; exact he x (by omega)
theorem take_tw (h : TW A sc S) (ho : S.ok) {n k : Int} : wp (d + 14) 302 (0, ent 4 [vR (some M), vI n, vI k], [], tw h0 M A sc) (twEnd h0 M (vI (aTake S n k).1) (aTake S n k).2) := by
  refine wp.go [28] 60 fun W C hW hC => ?_
  refine ⟨_, _, _, twF, rfl, ?_⟩
  refine hC _ _ _ (use (isOf_tw h) ?_)
  rintro _ _ ⟨A', sc', rfl, hT, rfl, hL⟩
  refine ⟨fun c => ?_, fun c => ?_⟩
  · have c1 := b1.mp c
    obtain ⟨c2, c3, c4⟩ := id c1
    obtain ⟨m, rfl⟩ : ∃ m : Nat, n = (m : Int) := ⟨n.toNat, by omega⟩
    obtain ⟨k, rfl⟩ : ∃ k' : Nat, k = (k' : Int) := ⟨k.toNat, by omega⟩
    rw [Int.toNat_natCast] at c4
    have hLm := hL c1 m (by omega) (by omega)
    have hkl : k < (codesL m).length := by omega
    have hr := hLm.room hkl
    obtain ⟨p1, p2, p3⟩ := hLm.2.2.2 k _ (List.getElem?_eq_getElem hkl)
    obtain ⟨q1, q2, q3, q4⟩ := cod_at (n := m) (by omega) (by omega) (List.getElem_mem hkl)
    have ha : aTake S ((m : Nat) : Int) ((k : Nat) : Int) = (((m : Nat) : Int), actS S (gC ((codesL m)[k]) (m - 1))) := by
      unfold aTake
      rw [if_pos c1, Int.toNat_natCast, Int.toNat_natCast, List.getElem?_eq_getElem hkl]
      rfl
    obtain ⟨t1, t2, t3, t4, t5, t6, t7⟩ := id hT
    refine ⟨_, _, _, twF, rfl, hC _ _ _ (use (wpd.up (show d + 1 ≤ d + 13 by omega) (keepsAct_spec (d := d) t1 t3 ho.1.1.2.1 t2)) ?_)⟩
    rintro _ _ ⟨rfl, V, u, rfl, hV, hh⟩
    have hA2 : lens (up A' 2 V) := t1.up (by rw [hV]; rfl)
    refine ⟨_, _, _, twF, rfl, ?_⟩
    refine hC _ _ _ (use (wpd.up (show d + 1 ≤ d + 13 by omega) (codeAt_spec (d := d) (k := k) hA2 (by omega) (by rw [upn_ne _ _ (by decide)]; exact hLm.2.1) (by omega))) ?_); rintro _ _ ⟨rfl, rfl⟩
    refine ⟨_, _, _, twF, rfl, ?_⟩
    refine hC _ _ _ (use (wpd.up (show d + 1 ≤ d + 13 by omega) (makes_spec (d := d) (L := (codesL m)[k]) hA2 (by omega) (by omega) hr p1 q3 (by rw [upn_ne _ _ (by decide)]; exact p3) p2)) ?_)
    rintro _ _ ⟨rfl, X, rfl, hX, hXr⟩
    have hA3 : lens (up (up A' 2 V) 32 X) := hA2.up (by rw [hX]; rfl)
    have hl1 : (up (up A' 2 V) 32 X 1).length = 17 := by rw [hA3.eq 1]; rfl
    have key := take_copy (d := d + 13) (h0 := h0) (M := M) (sc := up sc' 0 u) (m := m) (k := ((k : Nat) : Int)) (V := up (up A' 2 V) 32 X) (G := gC ((codesL m)[k]) (m - 1)) hA3 (by rw [gC_n]; omega) (by rw [up_eq]; exact hXr) (Q := twEnd h0 M (vI (aTake S ((m : Nat) : Int) ((k : Nat) : Int)).1) (aTake S ((m : Nat) : Int) ((k : Nat) : Int)).2) (fun N hN hNr => ?_) 17 0 _ rfl hl1 (fun x hx => absurd hx (by omega))
    · rw [upn_self] at key
      exact hW _ key
    · rw [ha]
      refine ⟨rfl, _, _, rfl, hA3.up (by rw [hN]; rfl), ?_, ?_, ?_, ?_, ?_, ?_⟩
      · rw [up_eq]; exact hNr
      · rw [upn_ne _ _ (by decide), upn_ne _ _ (by decide), up_eq, up_eq]; exact hh
      · rw [upn_ne _ _ (by decide), upn_ne _ _ (by decide), upn_ne _ _ (by decide), upn_ne _ _ (by decide), upn_ne _ _ (by decide), upn_ne _ _ (by decide)]; exact t4
      · rw [upn_ne _ _ (by decide), upn_ne _ _ (by decide), upn_ne _ _ (by decide), upn_ne _ _ (by decide)]; exact t5
      · rw [upn_ne _ _ (by decide), upn_ne _ _ (by decide), upn_ne _ _ (by decide), upn_ne _ _ (by decide), upn_ne _ _ (by decide), upn_ne _ _ (by decide), upn_ne _ _ (by decide), upn_ne _ _ (by decide), upn_ne _ _ (by decide), upn_ne _ _ (by decide)]; exact t6
      · rw [upn_ne _ _ (by decide), upn_ne _ _ (by decide), upn_ne _ _ (by decide), upn_ne _ _ (by decide), upn_ne _ _ (by decide), upn_ne _ _ (by decide), upn_ne _ _ (by decide), upn_ne _ _ (by decide), upn_ne _ _ (by decide), upn_ne _ _ (by decide)]; exact t7
  · have c1 := b0.mp c
    unfold aTake
    rw [if_neg c1]
    exact ⟨rfl, _, _, rfl, hT⟩
def aRank (S : AS) (D : Nat → Nat → Nat) : Int := if 11 < S.1.1 then -2 else ((plc (codG S.1 D) (codesL S.1.1) : Nat) : Int)
theorem rank_tw {D : Nat → Nat → Nat} (h : TW A sc S) (ho : S.ok) (hD : Far S.1 D) : wp (d + 13) 336 (0, ent 1 [vR (some M)], [], tw h0 M A sc) (twEnd h0 M (vI (aRank S D)) S) := by
  have hn := ho.1.1.2.1
  have hp := ho.1.1.1
  have hA := h.1
  unfold aRank
  refine wp.go [] 60 fun W C hW hC => ?_
  refine ⟨_, _, _, _, twF, rfl, rfl, ?_⟩
  refine ⟨_, _, _, twI rfl rfl, rfl, (by omega), gt_at (0) (by omega) (lenlt (j := 1) (hA) (show (0) < 17 by omega)), ?_⟩
  rw [h.2.1.1]
  refine ⟨fun c => ?_, fun c => ?_⟩
  · rw [if_neg (by omega)]
    refine ⟨_, _, _, twF, rfl, ?_⟩
    refine hC _ _ _ (use (lists_tw h) ?_)
    rintro _ _ ⟨rfl, A1, sc1, rfl, hT1, hL⟩
    refine ⟨_, _, _, twF, rfl, ?_⟩
    refine hC _ _ _ (use (wpd.up (show d + 11 ≤ d + 12 by omega) (looks_spec (d := d) ho.1 hD hT1.1 hT1.2.1)) ?_)
    rintro _ _ ⟨rfl, A2, sc2, tab, rfl, hM, hF⟩
    have hT2 := hT1.keep hM.1.1.1 hF rfl rfl
    refine ⟨_, _, _, twF, rfl, ?_⟩
    refine hC _ _ _ (use (wpd.up (show d + 6 ≤ d + 12 by omega) (codes_spec (d := d) ho.1.1 hD hM.1)) ?_)
    rintro _ _ ⟨rfl, X, Y, Z, hX, hY, hZ, rfl, hZ2⟩
    have hA2 : lens (up (up (up A2 26 Z) 27 X) 28 Y) := ((hM.1.1.1.up (by rw [hZ]; rfl)).up (by rw [hX]; rfl)).up (by rw [hY]; rfl)
    have hT3 : TW (up (up (up A2 26 Z) 27 X) 28 Y) sc2 S := hT2.keep (J := [26, 27, 28]) (K := []) hA2 (((Fr.upA rfl).trans (Fr.upA rfl)).trans (Fr.upA rfl)) rfl rfl
    refine ⟨_, _, _, _, twF, rfl, rfl, ?_⟩
    refine ⟨_, _, _, twI rfl rfl, rfl, (by omega), gt_at (0) (by omega) (lenlt (j := 1) (hA2) (show (0) < 17 by omega)), ?_⟩
    rw [hT3.2.1.1]
    have e : ∀ j, [29, 30, 31].elem j = true → up (up (up A2 26 Z) 27 X) 28 Y j = A1 j := by
      intro j hj
      have hj := List.mem_of_elem_eq_true hj
      have hj : j = 29 ∨ j = 30 ∨ j = 31 := by simpa using hj
      rw [upn_ne _ _ (by omega), upn_ne _ _ (by omega), upn_ne _ _ (by omega), hF.1 j (by rcases hj with rfl | rfl | rfl <;> rfl)]
    have hLn : ListAt (up (up (up A2 26 Z) 27 X) 28 Y) S.1.1 (offL S.1.1) (codesL S.1.1) := (hL S.1.1 hp (by omega)).low (by rw [e 29 rfl]) (by rw [e 30 rfl]) (Nat.le_refl _) (fun p _ => by rw [e 31 rfl])
    have hin := code_in ho.1 hD (by omega)
    obtain ⟨q1, q2, -, -⟩ := cod_at hp (by omega) hin
    refine ⟨_, _, _, twF, rfl, ?_⟩
    refine hC _ _ _ (use (wpd.up (show d + 2 ≤ d + 12 by omega) (placeOf_spec (d := d) hA2 hp (by omega) hLn q1 (by rw [upn_ne _ _ (by decide), upn_ne _ _ (by decide), up_eq]; exact hZ2) q2)) ?_); rintro _ _ ⟨rfl, rfl⟩
    exact ⟨rfl, _, _, rfl, hT3⟩
  · rw [if_pos (by omega)]
    exact ⟨rfl, _, _, rfl, h⟩
end LISTS
