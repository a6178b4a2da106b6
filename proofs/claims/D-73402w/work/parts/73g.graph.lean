/-! SKELETONS AS GRAPHS: how many carbons, who is bound to whom -/
abbrev Gr : Type := Nat × (Nat → Nat → Bool)
/-- neighbours, rising -/
def nb (G : Gr) (c : Nat) : List Nat := (List.range G.1).filter (G.2 c)
def bits (f : Nat → Bool) : Nat → Nat
  | 0 => 0
  | k + 1 => bits f k + cond (f k) (2 ^ k) 0
theorem bits_lt (f : Nat → Bool) : ∀ k, bits f k < 2 ^ k
  | 0 => Nat.zero_lt_one
  | k + 1 => by
    have := bits_lt f k
    unfold bits
    rw [Nat.pow_succ]
    cases f k <;> simp <;> omega
theorem bits_bit (f : Nat → Bool) : ∀ k i, (bits f k).testBit i = (decide (i < k) && f i)
  | 0, i => by unfold bits; simp
  | k + 1, i => by
    have h := bits_lt f k
    unfold bits
    cases e : f k with
    | false =>
      simp only [cond_false, Nat.add_zero]
      rw [bits_bit f k i]
      by_cases c : i = k
      · subst c; rw [e]; simp
      · by_cases c2 : i < k
        · rw [decide_eq_true c2, decide_eq_true (by omega)]
        · rw [decide_eq_false c2, decide_eq_false (by omega)]
    | true =>
      simp only [cond_true]
      rw [Nat.add_comm, show 2 ^ k + bits f k = 2 ^ k * 1 + bits f k by omega, Nat.testBit_two_pow_mul_add _ h]
      by_cases c : i < k
      · rw [if_pos c, bits_bit f k i, decide_eq_true c, decide_eq_true (by omega)]
      · rw [if_neg c]
        by_cases c2 : i = k
        · subst c2; rw [Nat.sub_self, e]; simp
        · rw [decide_eq_false (by omega), Bool.false_and]
          obtain ⟨m, hm⟩ : ∃ m, i - k = m + 1 := ⟨i - k - 1, by omega⟩
          rw [hm, Nat.testBit_succ]
          simp
theorem bits_eq {f : Nat → Bool} {k a : Nat} (h : ∀ i, a.testBit i = (decide (i < k) && f i)) : a = bits f k :=
  Nat.eq_of_testBit_eq fun i => by rw [h, bits_bit]
theorem bits_congr {f g : Nat → Bool} : ∀ {k : Nat}, (∀ i, i < k → f i = g i) → bits f k = bits g k
  | 0, _ => rfl
  | k + 1, h => by unfold bits; rw [bits_congr (fun i hi => h i (by omega)), h k (by omega)]
theorem bits_more {f : Nat → Bool} {k m : Nat} (hk : k ≤ m) (h : ∀ i, k ≤ i → f i = false) : bits f m = bits f k := by
  refine bits_eq fun i => ?_
  rw [bits_bit]
  by_cases c : i < k
  · rw [decide_eq_true c, decide_eq_true (by omega)]
  · rw [h i (by omega)]; simp
theorem bcnt_more {a k : Nat} (h : a < 2 ^ k) : ∀ m, k ≤ m → bcnt a m = bcnt a k := by
  intro m hm
  induction hm with
  | refl => rfl
  | @step m hm ih =>
    show bcnt a m + cond (a.testBit m) 1 0 = _
    rw [ih, Nat.testBit_lt_two_pow (Nat.lt_of_lt_of_le h (Nat.pow_le_pow_right (by decide) hm))]
    rfl
theorem bcnt_bits (f : Nat → Bool) : ∀ k m, m ≤ k → bcnt (bits f k) m = ((List.range m).filter f).length
  | k, 0, _ => rfl
  | k, m + 1, h => by
    show bcnt (bits f k) m + cond ((bits f k).testBit m) 1 0 = _
    rw [bcnt_bits f k m (by omega), bits_bit, decide_eq_true (by omega), Bool.true_and, List.range_succ, List.filter_append, List.length_append]
    cases e : f m <;> simp [e]
def row (G : Gr) (c : Nat) : Nat := bits (G.2 c) G.1
def deg (G : Gr) (c : Nat) : Nat := (nb G c).length
/-- a graph: bonds both ways, among those that are there -/
def Gr.wf (G : Gr) : Prop := 1 ≤ G.1 ∧ G.1 ≤ 16 ∧ ∀ a b, G.2 a b = true → a < G.1 ∧ b < G.1 ∧ G.2 b a = true ∧ a ≠ b
theorem row_lt {G : Gr} (h : G.1 ≤ 16) {c : Nat} : row G c < 65536 := Nat.lt_of_lt_of_le (bits_lt _ _) (Nat.pow_le_pow_right (n := 2) (by decide) h)
theorem row_deg {G : Gr} (h : G.1 ≤ 16) {c : Nat} : bcnt (row G c) 31 = deg G c := by
  show bcnt (bits (G.2 c) G.1) 31 = _
  rw [bcnt_more (bits_lt _ _) 31 (by omega)]
  exact bcnt_bits _ _ _ (Nat.le_refl _)
theorem row_bit {G : Gr} (h : G.wf) {c i : Nat} : (row G c).testBit i = G.2 c i := by
  unfold row
  rw [bits_bit]
  cases e : G.2 c i with
  | false => simp
  | true => rw [decide_eq_true (h.2.2 _ _ e).2.1]; rfl
/-- a row of 17 numbers tells a graph -/
def isRow (xs : List Int) (o : Nat) (G : Gr) : Prop := gt xs o = ((G.1 : Nat) : Int) ∧ ∀ c, c < G.1 → gt xs (o + 1 + c) = ((row G c : Nat) : Int)
theorem isRow.congr {xs ys : List Int} {o p : Nat} {G : Gr} (hn : G.1 ≤ 16) (h : isRow xs o G) (e : ∀ i, i < 17 → gt ys (p + i) = gt xs (o + i)) : isRow ys p G := by
  refine ⟨by have := e 0 (by decide); rw [Nat.add_zero, Nat.add_zero] at this; rw [this]; exact h.1, fun c hc => ?_⟩
  rw [Nat.add_assoc, e (1 + c) (by omega), ← Nat.add_assoc]
  exact h.2 c hc
/-- a carbon more, bound to one -/
def gGrow (G : Gr) (c : Nat) : Gr := (G.1 + 1, fun a b => G.2 a b || (Nat.beq a c && Nat.beq b G.1) || (Nat.beq a G.1 && Nat.beq b c))
/-- numbers without one -/
def sk (k a : Nat) : Nat := if a < k then a else a + 1
def gRem (G : Gr) (k : Nat) : Gr := (G.1 - 1, fun a b => decide (a < G.1 - 1) && (decide (b < G.1 - 1) && G.2 (sk k a) (sk k b)))
/-- another one behind, bound by one bond -/
def gBind (G H : Gr) (c o : Nat) : Gr := (G.1 + H.1, fun a b => G.2 a b || (decide (G.1 ≤ a) && decide (G.1 ≤ b) && H.2 (a - G.1) (b - G.1)) || (Nat.beq a c && Nat.beq b (G.1 + o)) || (Nat.beq a (G.1 + o) && Nat.beq b c))
