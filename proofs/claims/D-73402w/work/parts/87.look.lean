/-! THE TWIN LOOKS: reading by natural places -/
theorem gt_at {xs : List Int} {i : Int} (n : Nat) (h : i.toNat = n) (hl : n < xs.length) : xs[i.toNat]? = some (gt xs n) := by rw [h]; exact gt_some hl
theorem ilt {xs : List Int} {i : Int} (n : Nat) (hi : i = (n : Int)) (h : n < xs.length) : i < ((xs.length : Nat) : Int) := by rw [hi]; omega
theorem lenlt {A : Nat → List Int} (hA : lens A) {j n : Nat} (h : n < ln j) : n < (A j).length := by rw [hA.eq j]; exact h
/-- unchanged but for some arrays and numbers -/
def Fr (J K : List Nat) (A A' : Nat → List Int) (sc sc' : Nat → Int) : Prop := (∀ j, J.elem j = false → A' j = A j) ∧ (∀ k, K.elem k = false → sc' k = sc k)
theorem Fr.refl {J K : List Nat} {A : Nat → List Int} {sc : Nat → Int} : Fr J K A A sc sc := ⟨fun _ _ => rfl, fun _ _ => rfl⟩
theorem Fr.trans {J K : List Nat} {A A' A'' : Nat → List Int} {sc sc' sc'' : Nat → Int} (h1 : Fr J K A A' sc sc') (h2 : Fr J K A' A'' sc' sc'') : Fr J K A A'' sc sc'' := ⟨fun j hj => (h2.1 j hj).trans (h1.1 j hj), fun k hk => (h2.2 k hk).trans (h1.2 k hk)⟩
theorem Fr.more {J K J' K' : List Nat} {A A' : Nat → List Int} {sc sc' : Nat → Int} (h : Fr J K A A' sc sc') (hJ : ∀ j, J.elem j = true → J'.elem j = true) (hK : ∀ k, K.elem k = true → K'.elem k = true) : Fr J' K' A A' sc sc' :=
  ⟨fun j hj => h.1 j (by cases e : J.elem j with | false => rfl | true => rw [hJ j e] at hj; cases hj), fun k hk => h.2 k (by cases e : K.elem k with | false => rfl | true => rw [hK k e] at hk; cases hk)⟩
theorem all_elem {J J' : List Nat} (h : J.all (fun j => J'.elem j) = true) : ∀ j, J.elem j = true → J'.elem j = true := fun j hj => List.all_eq_true.mp h j (List.mem_of_elem_eq_true hj)
theorem Fr.wide {J K J' K' : List Nat} {A A' : Nat → List Int} {sc sc' : Nat → Int} (h : Fr J K A A' sc sc') (hJ : J.all (fun j => J'.elem j) = true) (hK : K.all (fun j => K'.elem j) = true) : Fr J' K' A A' sc sc' := h.more (all_elem hJ) (all_elem hK)
theorem Fr.upA {J K : List Nat} {A : Nat → List Int} {sc : Nat → Int} {j : Nat} {x : List Int} (h : J.elem j = true) : Fr J K A (up A j x) sc sc := ⟨fun i hi => upn_ne _ _ (fun e => by rw [e, h] at hi; cases hi), fun _ _ => rfl⟩
theorem Fr.upS {J K : List Nat} {A : Nat → List Int} {sc : Nat → Int} {k : Nat} {v : Int} (h : K.elem k = true) : Fr J K A A sc (up sc k v) := ⟨fun _ _ => rfl, fun i hi => upn_ne _ _ (fun e => by rw [e, h] at hi; cases hi)⟩
section REACHED
variable {d : Nat} {h0 : AH} {M : Nat} {A : Nat → List Int} {sc : Nat → Int} {G : Gr} {D : Nat → Nat → Nat}
def nxR (G : Gr) (m k x : Nat) : Prop := x < 65536 ∧ ∀ w, x.testBit w = true ↔ ∃ v, v < k ∧ m.testBit v = true ∧ G.2 v w = true
theorem nxR_step (hG : G.wf) {m k x : Nat} (h : nxR G m k x) : nxR G m (k + 1) (if m.testBit k then x ||| row G k else x) := by
  by_cases c : m.testBit k = true
  · rw [if_pos c]
    refine ⟨or16 h.1 (row_lt hG.2.1), fun w => ?_⟩
    rw [Nat.testBit_or, Bool.or_eq_true, h.2, row_bit hG]
    constructor
    · rintro (⟨v, h1, h2⟩ | h1)
      · exact ⟨v, by omega, h2⟩
      · exact ⟨k, by omega, c, h1⟩
    · rintro ⟨v, h1, h2, h3⟩
      by_cases e : v = k
      · subst e; exact Or.inr h3
      · exact Or.inl ⟨v, by omega, h2, h3⟩
  · rw [if_neg c]
    refine ⟨h.1, fun w => ?_⟩
    rw [h.2]
    constructor
    · rintro ⟨v, h1, h2⟩; exact ⟨v, by omega, h2⟩
    · rintro ⟨v, h1, h2, h3⟩
      by_cases e : v = k
      · subst e; exact absurd h2 c
      · exact ⟨v, by omega, h2, h3⟩
theorem reached_in (hA : lens A) (hG : G.wf) (hr : isRow (A 18) 0 G) {a c s m : Nat} (hm : m < 65536) {Q : Rs → AH → Prop}
    (hQ : ∀ x, nxR G m G.1 x → wp (d + 2) 310 (59, [some (vR (some M)), some (vI a), some (vI c), some (vI s), some (vI m), some (vI x), some (vI ((G.1 : Nat) : Int))], [], tw h0 M A sc) Q) :
    ∀ (j k x : Nat), j + k = G.1 → nxR G m k x → wp (d + 2) 310 (18, [some (vR (some M)), some (vI a), some (vI c), some (vI s), some (vI m), some (vI x), some (vI k)], [], tw h0 M A sc) Q := by
  have hn := hG.2.1
  intro j
  induction j with
  | zero =>
    intro k x hk hx
    obtain rfl : k = G.1 := by omega
    refine wp.go [18, 59] 40 fun W C hW hC => ?_
    refine ⟨_, _, _, _, twF, rfl, rfl, ?_⟩
    refine ⟨_, _, _, twI rfl rfl, rfl, (by omega), gt_at (0) (by omega) (lenlt (j := 18) (hA) (show (0) < 17 by omega)), ?_⟩
    rw [hr.1]
    refine ⟨fun _ => ?_, fun c => absurd c (by omega)⟩
    exact hW _ (hQ x hx)
  | succ j ih =>
    intro k x hk hx
    have hx2 := nxR_step hG hx
    have step : ∀ x', nxR G m (k + 1) x' → wp (d + 2) 310 (53, [some (vR (some M)), some (vI a), some (vI c), some (vI s), some (vI m), some (vI x'), some (vI k)], [], tw h0 M A sc) Q := by
      intro x' hx'
      refine wp.go [18, 59] 40 fun W C hW hC => ?_
      conv => whnf
      rw [iadd_eq (by omega)]
      exact hW _ (ih (k + 1) x' (by omega) hx')
    refine wp.go [18, 53, 59] 60 fun W C hW hC => ?_
    refine ⟨_, _, _, _, twF, rfl, rfl, ?_⟩
    refine ⟨_, _, _, twI rfl rfl, rfl, (by omega), gt_at (0) (by omega) (lenlt (j := 18) (hA) (show (0) < 17 by omega)), ?_⟩
    rw [hr.1]
    refine ⟨fun c => absurd c (by omega), fun _ => ?_⟩
    refine hC _ _ _ (use (has_spec (by omega) (by omega)) ?_); rintro _ _ ⟨rfl, rfl⟩
    refine ⟨fun c1 => ?_, fun c1 => ?_⟩
    · rw [if_neg (b0.mp c1)] at hx2
      exact hW _ (step x hx2)
    · rw [if_pos (b1.mp c1)] at hx2
      refine ⟨_, _, _, _, twF, rfl, rfl, ?_⟩
      (conv => whnf); simp (disch := omega) only [iadd_eq, isub_eq, imul_eq]
      refine ⟨_, _, _, twI rfl rfl, rfl, (by omega), gt_at (1 + k) (by omega) (lenlt (j := 18) (hA) (show (1 + k) < 17 by omega)), ?_⟩
      rw [isRow0 hr (by omega)]
      conv => whnf
      rw [ior_eq (by have := hx.1; omega) (by have := row_lt hn (c := k); omega)]
      exact hW _ (step _ hx2)
theorem reached_ok (hG : G.wf) (hD : Far G D) {a c t m x : Nat} (hac : G.2 a c = true) (hm : moreB G D a c t m) (h : nxR G m G.1 x) : nextB G D a c t (x ^^^ (x &&& 2 ^ a)) := by
  refine ⟨Nat.xor_lt_two_pow (n := 16) h.1 (Nat.lt_of_le_of_lt Nat.and_le_left h.1), fun w => ?_⟩
  have e : ((x ^^^ (x &&& 2 ^ a)).testBit w = true) ↔ (x.testBit w = true ∧ w ≠ a) := by
    rw [Nat.testBit_xor, Nat.testBit_and, Nat.testBit_two_pow]
    by_cases c : a = w
    · subst c; cases x.testBit a <;> simp
    · rw [decide_eq_false c]; cases x.testBit w <;> simp [Ne.symm c]
  rw [e, h.2]
  constructor
  · rintro ⟨⟨v, h1, h2, h3⟩, h4⟩
    obtain ⟨k1, k2, k3⟩ := (hm.2 v).mp h2
    refine ⟨v, k1, k2, k3, h3, ?_⟩
    apply Classical.byContradiction
    intro hn
    exact h4 (Far.edge hG hD hac h3 k2 hn).2
  · rintro ⟨v, h1, h2, h3, h4, h5⟩
    refine ⟨⟨v, h1, (hm.2 v).mpr ⟨h1, h2, h3⟩, h4⟩, ?_⟩
    rintro rfl
    exact (hD.self hG hac).2 h5
theorem reached_out (hA : lens A) (hG : G.wf) (hr : isRow (A 18) 0 G) (hD : Far G D) {a c T : Nat} (hac : G.2 a c = true) (hT : ∀ v, v < G.1 → D c v < T) :
    ∀ (j t s m : Nat) (x5 x6 : Option AV), T ≤ j + t → setB G D a c t s → moreB G D a c t m → wp (d + 2) 310 (7, [some (vR (some M)), some (vI a), some (vI c), some (vI s), some (vI m), x5, x6], [], tw h0 M A sc) (gives (tw h0 M A sc) ((bB G D a c : Nat) : Int)) := by
  have hn := hG.2.1
  have hac2 := hG.2.2 _ _ hac
  intro j
  induction j with
  | zero =>
    intro t s m x5 x6 hj hs hm
    have : m = 0 := by
      apply Nat.eq_of_testBit_eq
      intro i
      rw [Nat.zero_testBit]
      cases e : m.testBit i with
      | false => rfl
      | true =>
        obtain ⟨k1, k2, k3⟩ := (hm.2 i).mp e
        have := hT i k1
        omega
    subst this
    refine wp.go [7] 40 fun W C hW hC => ?_
    refine ⟨fun _ => ?_, fun c => absurd rfl c⟩
    refine ⟨?_, rfl⟩
    rw [bB_eq (bfs_end hG hD hac hs hm)]
  | succ j ih =>
    intro t s m x5 x6 hj hs hm
    refine wp.go [7, 18] 40 fun W C hW hC => ?_
    refine ⟨fun c1 => ?_, fun c1 => ?_⟩
    · have : m = 0 := by omega
      subst this
      refine ⟨?_, rfl⟩
      rw [bB_eq (bfs_end hG hD hac hs hm)]
    · refine hW _ (reached_in hA hG hr hm.1 (fun x hx => ?_) G.1 0 0 rfl ⟨by decide, fun w => ?_⟩)
      · have kx := reached_ok hG hD hac hm hx
        obtain ⟨k1, k2⟩ := bfs_step hG hD hac hs hm kx
        refine wp.go [7] 40 fun W C hW hC => ?_
        refine ⟨fun c2 => absurd c2 (by omega), fun _ => ?_⟩
        conv => whnf
        rw [pow_i (by omega), iandn_eq (by have := hx.1; omega) (by have := pow16 (show a < 16 by omega); omega), iandn_eq (by have := kx.1; omega) (by have := hs.1; omega), ior_eq (by have := hs.1; omega) (by have := kx.1; omega)]
        exact hW _ (ih (t + 1) _ _ _ _ (by omega) k1 k2)
      · rw [Nat.zero_testBit]
        constructor
        · intro h; exact absurd h (by decide)
        · rintro ⟨v, h, -⟩; exact absurd h (by omega)
/-- Model.reached -/
theorem reached_spec (hA : lens A) (hG : G.wf) (hr : isRow (A 18) 0 G) (hD : Far G D) {a c : Nat} (hac : G.2 a c = true) : wp (d + 2) 310 (0, ent 7 [vR (some M), vI a, vI c], [], tw h0 M A sc) (gives (tw h0 M A sc) ((bB G D a c : Nat) : Int)) := by
  have hn := hG.2.1
  have hac2 := hG.2.2 _ _ hac
  obtain ⟨T, hT⟩ := Far.bound D c G.1
  obtain ⟨k1, k2⟩ := bfs_start hG hD hac
  refine wp.go [7] 40 fun W C hW hC => ?_
  conv => whnf
  rw [pow_i (by omega)]
  exact hW _ (reached_out hA hG hr hD hac hT T 0 _ _ _ _ (by omega) k1 k2)
theorem bB_size (hn : G.1 ≤ 16) {a c : Nat} : bcnt (bB G D a c) 31 = bsz G D a c := by
  unfold bB
  rw [bcnt_more (bits_lt _ _) 31 (by omega), bcnt_bits _ _ _ (Nat.le_refl _), cnt_filter]
  rfl
theorem bB_lt (hn : G.1 ≤ 16) {a c : Nat} : bB G D a c < 65536 := Nat.lt_of_lt_of_le (bits_lt _ _) (Nat.pow_le_pow_right (n := 2) (by decide) hn)
/-- Model.sizeSeen -/
theorem sizeSeen_spec (hA : lens A) {a c b : Nat} (ha : a < 16) (hc : c < 16) (hb : gt (A 20) (16 * a + c) = (b : Int)) (hb2 : b < 65536) : wp (d + 2) 311 (0, ent 3 [vR (some M), vI a, vI c], [], tw h0 M A sc) (gives (tw h0 M A sc) ((bcnt b 31 : Nat) : Int)) := by
  refine wp.go [] 20 fun W C hW hC => ?_
  refine ⟨_, _, _, _, twF, rfl, rfl, ?_⟩
  (conv => whnf); simp (disch := omega) only [iadd_eq, isub_eq, imul_eq]
  refine ⟨_, _, _, twI rfl rfl, rfl, (by omega), gt_at (16 * a + c) (by omega) (lenlt (j := 20) (hA) (show (16 * a + c) < 272 by omega)), ?_⟩
  rw [hb]
  refine hC _ _ _ (use (size_spec (by omega)) ?_); rintro _ _ ⟨rfl, rfl⟩
  exact ⟨rfl, rfl⟩
end REACHED
