/-! THE STATE that both sides tell: the skeleton of now, what can be undone (the oldest first), the shelves, the tape -/
abbrev AS : Type := Gr × List Gr × (Nat → Option Gr) × List Int
/-- how far it is from one carbon to another one: of each carbon's neighbours one is nearer, all others are farther -/
def Far (G : Gr) (D : Nat → Nat → Nat) : Prop := ∀ a b, a < G.1 → b < G.1 → D a b = D b a ∧ (D a b = 0 ↔ a = b) ∧
  (a ≠ b → ∃ c, G.2 a c = true ∧ D c b + 1 = D a b ∧ ∀ e, G.2 a e = true → e ≠ c → D e b = D a b + 1)
def Gr.ok (G : Gr) : Prop := G.wf ∧ (∀ a, deg G a ≤ 4) ∧ ∃ D, Far G D
def AS.ok (S : AS) : Prop := S.1.ok ∧ (∀ G, G ∈ S.2.1 → G.ok) ∧ (∀ k G, S.2.2.1 k = some G → k < 3 ∧ G.ok) ∧ S.2.2.2.length ≤ 120 ∧ ∀ b, b ∈ S.2.2.2 → -128 ≤ b ∧ b ≤ 127
def shelvesOk (K Z : List Int) (f : Nat → Option Gr) : Prop := ∀ k, k < 3 → gt Z k = (match f k with | none => 0 | some _ => 1) ∧ ∀ G, f k = some G → G.1 ≤ 16 ∧ isRow K (17 * k) G
def tapeOk (T : List Int) (n : Int) (t : List Int) : Prop := n = ((t.length : Nat) : Int) ∧ t.length ≤ 120 ∧ ∀ i, i < t.length → gt T i = gt t i
def listOk (m f l : List Int) (is : Int) : Prop := is = 0 ∨ (is = 1 ∧ ∀ n, 1 ≤ n → n ≤ 11 → gt m n = (((codesL n).length : Nat) : Int) ∧ gt f n = ((offL n : Nat) : Int) ∧ ∀ k i, k < (codesL n).length → i < n → gt l (offL n + n * k + i) = ((((codesL n)[k]?.getD [])[i]?.getD 0 : Nat) : Int))
def countOk (r f o : List Int) (is : Int) : Prop := is = 0 ∨ (is = 1 ∧ r = cntR ∧ f = cntF ∧ o = cntO)
def TW (A : Nat → List Int) (sc : Nat → Int) (S : AS) : Prop :=
  lens A ∧ isRow (A 1) 0 S.1 ∧ hist (A 2) (sc 0) S.2.1 ∧ shelvesOk (A 3) (A 4) S.2.2.1 ∧ tapeOk (A 5) (sc 1) S.2.2.2 ∧ listOk (A 29) (A 30) (A 31) (sc 7) ∧ countOk (A 34) (A 35) (A 36) (sc 8)
/-- what a call of the twin comes to: a number, the state behind -/
abbrev twEnd (h0 : AH) (M : Nat) (v : AV) (S : AS) : Rs → AH → Prop := fun r h' => r = .inl (some v) ∧ ∃ A' sc', h' = tw h0 M A' sc' ∧ TW A' sc' S
/-- carbon c of the skeleton of now -/
abbrev isC (S : AS) (c : Int) : Prop := 0 ≤ c ∧ c < ((S.1.1 : Nat) : Int)
/-- an act: another skeleton, the one of now can be undone -/
def actS (S : AS) (G : Gr) : AS := (G, pushG S.2.1 S.1, S.2.2)
def upS (f : Nat → Option Gr) (k : Nat) (G : Gr) : Nat → Option Gr := up f k (some G)
/-- the calls, as both sides answer them -/
def aUndo (S : AS) : Int × AS := match S.2.1.getLast? with
  | none => (-1, S)
  | some G => (((S.2.1.length - 1 : Nat) : Int), (G, S.2.1.dropLast, S.2.2))
def aKeep (S : AS) (k : Int) : Int × AS := if 0 ≤ k ∧ k ≤ 2 then (((S.1.1 : Nat) : Int), (S.1, S.2.1, up S.2.2.1 k.toNat (some S.1), S.2.2.2)) else (-1, S)
def aGrow (S : AS) (c : Int) : Int × AS := if ¬ isC S c then (-1, S) else if deg S.1 c.toNat = 4 then (-2, S) else if S.1.1 = 16 then (-3, S) else (((S.1.1 + 1 : Nat) : Int), actS S (gGrow S.1 c.toNat))
def aPrune (S : AS) (c : Int) : Int × AS := if ¬ isC S c then (-1, S) else if deg S.1 c.toNat ≠ 1 then (-2, S) else (((S.1.1 - 1 : Nat) : Int), actS S (gRem S.1 c.toNat))
def aBind (S : AS) (c k o : Int) : Int × AS := match (if 0 ≤ k ∧ k ≤ 2 then S.2.2.1 k.toNat else none) with
  | none => (-1, S)
  | some H => if ¬ (isC S c ∧ 0 ≤ o ∧ o < ((H.1 : Nat) : Int)) then (-1, S) else if deg S.1 c.toNat = 4 ∨ deg H o.toNat = 4 then (-2, S) else if 16 < S.1.1 + H.1 then (-3, S) else (((S.1.1 + H.1 : Nat) : Int), actS S (gBind S.1 H c.toNat o.toNat))
def bytesOf (v : Int) : List Int := [i2b (ishr v 24), i2b (ishr v 16), i2b (ishr v 8), i2b (ishr v 0)]
def aFeed (S : AS) (a b c e f : Int) : Int × AS := if 100 < S.2.2.2.length then (-1, S) else (((S.2.2.2.length + 20 : Nat) : Int), (S.1, S.2.1, S.2.2.1, S.2.2.2 ++ (bytesOf a ++ (bytesOf b ++ (bytesOf c ++ (bytesOf e ++ bytesOf f))))))
def aEnd (S : AS) (n : Int) : Int × AS := if 0 ≤ n ∧ n ≤ ((S.2.2.2.length : Nat) : Int) then (n, (S.1, S.2.1, S.2.2.1, S.2.2.2.take n.toNat)) else (-1, S)
section STATE
variable {d : Nat} {h0 : AH} {M : Nat} {A : Nat → List Int} {sc : Nat → Int} {S : AS}
theorem prune_tw (h : TW A sc S) (ho : S.ok) {c : Int} : wp (d + 3) 278 (0, ent 2 [vR (some M), vI c], [], tw h0 M A sc) (twEnd h0 M (vI (aPrune S c).1) (aPrune S c).2) := by
  obtain ⟨h1, h2, h3, h4, h5, h6, h7⟩ := h
  refine wpd.mono ?_ _ _ _ (prune_spec h1 h3 ho.1.1 h2)
  rintro r h' ⟨k1, k2, k3⟩
  unfold aPrune
  by_cases c1 : isC S c
  · rw [if_neg (Classical.not_not.mpr c1)]
    by_cases c2 : deg S.1 c.toNat = 1
    · obtain ⟨rfl, V, u, N, rfl, hV, hN, hh, hr⟩ := k3 c1 c2
      rw [if_neg (Classical.not_not.mpr c2)]
      exact ⟨rfl, _, _, rfl, (h1.up (by rw [hV]; rfl)).up (by rw [hN]; rfl), hr, hh, h4, h5, h6, h7⟩
    · obtain ⟨rfl, rfl⟩ := k2 c1 c2
      rw [if_pos c2]
      exact ⟨rfl, _, _, rfl, h1, h2, h3, h4, h5, h6, h7⟩
  · obtain ⟨rfl, rfl⟩ := k1 c1
    rw [if_pos c1]
    exact ⟨rfl, _, _, rfl, h1, h2, h3, h4, h5, h6, h7⟩
theorem undo_tw (h : TW A sc S) : wp (d + 1) 269 (0, ent 2 [vR (some M)], [], tw h0 M A sc) (twEnd h0 M (vI (aUndo S).1) (aUndo S).2) := by
  obtain ⟨h1, h2, h3, h4, h5, h6, h7⟩ := h
  refine wpd.mono ?_ _ _ _ (undo_spec h1 h3)
  rintro r h' ⟨k1, k2⟩
  unfold aUndo
  cases e : S.2.1.getLast? with
  | none =>
    obtain ⟨rfl, rfl⟩ := k1 (List.getLast?_eq_none_iff.mp e)
    exact ⟨rfl, _, _, rfl, h1, h2, h3, h4, h5, h6, h7⟩
  | some G =>
    have hd : S.2.1 = S.2.1.dropLast ++ [G] := by
      obtain ⟨ys, hy⟩ := List.getLast?_eq_some_iff.mp e
      rw [hy, List.dropLast_concat]
    obtain ⟨rfl, N, rfl, hN, hr, hh⟩ := k2 _ _ hd
    refine ⟨?_, _, _, rfl, h1.up (by rw [hN]; rfl), hr, hh, h4, h5, h6, h7⟩
    rw [List.length_dropLast]
theorem or_bit {a k i : Nat} : (a ||| 2 ^ k).testBit i = (a.testBit i || decide (k = i)) := by
  rw [Nat.testBit_or, Nat.testBit_two_pow]
theorem grow_wf {G : Gr} (hG : G.wf) {c : Nat} (hc : c < G.1) (hn : G.1 < 16) : (gGrow G c).wf := by
  refine ⟨by show 1 ≤ G.1 + 1; omega, by show G.1 + 1 ≤ 16; omega, fun a b e => ?_⟩
  show a < G.1 + 1 ∧ b < G.1 + 1 ∧ (gGrow G c).2 b a = true ∧ a ≠ b
  have e : (G.2 a b || (Nat.beq a c && Nat.beq b G.1) || (Nat.beq a G.1 && Nat.beq b c)) = true := e
  show _ ∧ _ ∧ (G.2 b a || (Nat.beq b c && Nat.beq a G.1) || (Nat.beq b G.1 && Nat.beq a c)) = true ∧ _
  simp only [Bool.or_eq_true, Bool.and_eq_true, Nat.beq_eq] at e ⊢
  rcases e with (e | e) | e
  · have := hG.2.2 _ _ e
    exact ⟨by omega, by omega, Or.inl (Or.inl this.2.2.1), this.2.2.2⟩
  · exact ⟨by omega, by omega, Or.inr ⟨e.2, e.1⟩, by omega⟩
  · exact ⟨by omega, by omega, Or.inl (Or.inr ⟨e.2, e.1⟩), by omega⟩
theorem row_grow {G : Gr} (hG : G.wf) {c i : Nat} (hc : c < G.1) (hn : G.1 < 16) (hi : i < G.1) : row (gGrow G c) i = if i = c then row G c ||| 2 ^ G.1 else row G i := by
  apply Nat.eq_of_testBit_eq
  intro j
  rw [row_bit (grow_wf hG hc hn)]
  show (G.2 i j || (Nat.beq i c && Nat.beq j G.1) || (Nat.beq i G.1 && Nat.beq j c)) = _
  have e1 : Nat.beq i G.1 = false := by cases e : Nat.beq i G.1 with
    | true => have := Nat.eq_of_beq_eq_true e; omega
    | false => rfl
  rw [e1, Bool.false_and, Bool.or_false]
  by_cases c1 : i = c
  · subst c1
    rw [if_pos rfl, or_bit, row_bit hG, Nat.beq_refl, Bool.true_and]
    congr 1
    by_cases c2 : j = G.1
    · subst c2; rw [Nat.beq_refl]; simp
    · have : Nat.beq j G.1 = false := by cases e : Nat.beq j G.1 with
        | true => exact absurd (Nat.eq_of_beq_eq_true e) c2
        | false => rfl
      rw [this, decide_eq_false (by omega)]
  · have e2 : Nat.beq i c = false := by cases e : Nat.beq i c with
      | true => exact absurd (Nat.eq_of_beq_eq_true e) c1
      | false => rfl
    rw [if_neg c1, e2, row_bit hG]; simp
theorem row_grow_n {G : Gr} (hG : G.wf) {c : Nat} (hc : c < G.1) (hn : G.1 < 16) : row (gGrow G c) G.1 = 0 ||| 2 ^ c := by
  apply Nat.eq_of_testBit_eq
  intro j
  rw [row_bit (grow_wf hG hc hn), or_bit]
  show (G.2 G.1 j || (Nat.beq G.1 c && Nat.beq j G.1) || (Nat.beq G.1 G.1 && Nat.beq j c)) = _
  have e1 : G.2 G.1 j = false := by cases e : G.2 G.1 j with
    | true => have := (hG.2.2 _ _ e).1; omega
    | false => rfl
  have e2 : Nat.beq G.1 c = false := by cases e : Nat.beq G.1 c with
    | true => have := Nat.eq_of_beq_eq_true e; omega
    | false => rfl
  rw [e1, e2, Nat.beq_refl]
  by_cases c2 : j = c
  · subst c2; rw [Nat.beq_refl]; simp
  · have : Nat.beq j c = false := by cases e : Nat.beq j c with
      | true => exact absurd (Nat.eq_of_beq_eq_true e) c2
      | false => rfl
    rw [this, decide_eq_false (by omega)]; simp
theorem grow_tw (h : TW A sc S) (ho : S.ok) {c : Int} : wp (d + 3) 272 (0, ent 2 [vR (some M), vI c], [], tw h0 M A sc) (twEnd h0 M (vI (aGrow S c).1) (aGrow S c).2) := by
  obtain ⟨h1, h2, h3, h4, h5, h6, h7⟩ := id h
  have hG := ho.1.1
  have hn := hG.2.1
  have hl := h1.eq 1
  rw [ln1] at hl
  unfold aGrow
  refine wp.go [] 90 fun W C hW hC => ?_
  refine ⟨_, _, _, twF, rfl, hC _ _ _ (use (isCarbon_spec hl) ?_)⟩
  rintro r h' ⟨rfl, rfl⟩
  rw [h2.1]
  refine ⟨fun c1 => ?_, fun c1 => ?_⟩
  · have c2 : isC S c := b1.mp c1
    rw [if_neg (Classical.not_not.mpr c2)]
    obtain ⟨k, rfl⟩ : ∃ k : Nat, c = (k : Int) := ⟨c.toNat, by have := c2.1; omega⟩
    have hk : k < S.1.1 := by have := c2.2; omega
    rw [show ((k : Int).toNat) = k from rfl]
    refine ⟨_, _, _, twF, rfl, hC _ _ _ (use (degree_spec h1 (by omega) (isRow0 h2 hk) (by have := row_lt hn (c := k); omega)) ?_)⟩
    rintro r h' ⟨rfl, rfl⟩
    rw [row_deg hn]
    refine ⟨fun c3 => ?_, fun c3 => ?_⟩
    · have c3 : deg S.1 k ≠ 4 := by have c3 : ((deg S.1 k : Nat) : Int) ≠ 4 := c3; omega
      rw [if_neg c3]
      refine ⟨_, _, _, _, twF, rfl, rfl, ?_⟩
      refine ⟨_, _, _, twI rfl rfl, rfl, by decide, gt_some (by rw [hl]; decide), ?_⟩
      rw [show ((0 : Int).toNat) = 0 from rfl, h2.1]
      refine ⟨fun c4 => ?_, fun c4 => ?_⟩
      · have c4 : S.1.1 ≠ 16 := by have c4 : ((S.1.1 : Nat) : Int) ≠ 16 := c4; omega
        rw [if_neg c4]
        refine ⟨_, _, _, twF, rfl, hC _ _ _ (use (keepsAct_spec h1 h3 hn h2) ?_)⟩
        rintro r h' ⟨rfl, V, u, rfl, hV, hh'⟩
        have hA2 : lens (up A 2 V) := h1.up (by rw [hV]; rfl)
        refine ⟨_, _, _, _, twF, rfl, rfl, ?_⟩
        refine ⟨_, _, _, _, twF, rfl, rfl, ?_⟩
        refine ⟨_, _, _, twI rfl rfl, rfl, by decide, gt_some (by rw [upn_ne _ _ (by decide), hl]; decide), ?_⟩
        conv => whnf
        rw [show ((0 : Int).toNat) = 0 from rfl, upn_ne _ _ (by decide), h2.1, iadd_eq (by omega)]
        refine ⟨_, twI rfl rfl, by omega, by rw [upn_ne _ _ (by decide), hl]; omega, ?_⟩
        rw [twSetI rfl rfl, upn_ne _ _ (by decide), show ((1 + ((S.1.1 : Nat) : Int)).toNat) = 1 + S.1.1 by omega]
        refine ⟨_, _, _, _, twF, rfl, rfl, ?_⟩
        refine ⟨_, _, _, twI rfl rfl, rfl, by decide, gt_some (by rw [up_eq, List.length_set, hl]; decide), ?_⟩
        conv => whnf
        rw [show ((0 : Int).toNat) = 0 from rfl, up_eq, gt_set (by omega), if_neg (by omega), h2.1, iadd_eq (by omega)]
        refine ⟨_, twI rfl rfl, by decide, by rw [up_eq, List.length_set, hl]; decide, ?_⟩
        rw [twSetI rfl rfl, up_up, up_eq]
        refine ⟨_, _, _, _, twF, rfl, rfl, ?_⟩
        refine ⟨_, _, _, twI rfl rfl, rfl, by decide, gt_some (by rw [up_eq, List.length_set, List.length_set, hl]; decide), ?_⟩
        rw [show ((0 : Int).toNat) = 0 from rfl, up_eq, gt_set (by rw [List.length_set, hl]; decide), if_pos rfl]
        conv => whnf
        refine ⟨_, _, _, twF, rfl, ?_⟩
        conv => whnf
        rw [isub_eq (by omega), show ((S.1.1 : Nat) : Int) + 1 - 1 = ((S.1.1 : Nat) : Int) by omega]
        have hx : ∀ i, gt (((A 1).set (1 + S.1.1) 0).set 0 (((S.1.1 : Nat) : Int) + 1)) (1 + i) = if i = S.1.1 then 0 else gt (A 1) (1 + i) := by
          intro i
          rw [gt_set (by rw [List.length_set, hl]; decide), if_neg (by omega), gt_set (by omega)]
          by_cases c5 : i = S.1.1
          · rw [if_pos (by omega), if_pos c5]
          · rw [if_neg (by omega), if_neg c5]
        refine hC _ _ _ (use (binds_spec (x := row S.1 k) (y := 0) (hA2.up (by rw [List.length_set, List.length_set, hl]; rfl)) (by omega) (by omega) (by omega) ?_ ?_ (row_lt hn) (by decide)) ?_)
        · rw [up_eq, hx, if_neg (by omega)]; exact isRow0 h2 hk
        · rw [up_eq, hx, if_pos rfl]; rfl
        rintro r h' ⟨rfl, rfl⟩
        rw [up_up, up_eq]
        have hlen : (((((A 1).set (1 + S.1.1) 0).set 0 (((S.1.1 : Nat) : Int) + 1)).set (1 + k) ((row S.1 k ||| 2 ^ S.1.1 : Nat) : Int)).set (1 + S.1.1) ((0 ||| 2 ^ k : Nat) : Int)).length = 17 := by rw [List.length_set, List.length_set, List.length_set, List.length_set, hl]
        have hlen3 : ((((A 1).set (1 + S.1.1) 0).set 0 (((S.1.1 : Nat) : Int) + 1)).set (1 + k) ((row S.1 k ||| 2 ^ S.1.1 : Nat) : Int)).length = 17 := by rw [List.length_set, List.length_set, List.length_set, hl]
        have hlen2 : (((A 1).set (1 + S.1.1) 0).set 0 (((S.1.1 : Nat) : Int) + 1)).length = 17 := by rw [List.length_set, List.length_set, hl]
        have h00 : gt (((((A 1).set (1 + S.1.1) 0).set 0 (((S.1.1 : Nat) : Int) + 1)).set (1 + k) ((row S.1 k ||| 2 ^ S.1.1 : Nat) : Int)).set (1 + S.1.1) ((0 ||| 2 ^ k : Nat) : Int)) 0 = ((S.1.1 + 1 : Nat) : Int) := by
          rw [gt_set (by omega), if_neg (by omega), gt_set (by omega), if_neg (by omega), gt_set (by rw [List.length_set, hl]; decide), if_pos rfl]
          omega
        refine ⟨_, _, _, _, twF, rfl, rfl, ?_⟩
        refine ⟨_, _, _, twI rfl rfl, rfl, by decide, gt_some (by rw [up_eq, hlen]; decide), ?_⟩
        rw [show ((0 : Int).toNat) = 0 from rfl, up_eq, h00]
        refine ⟨rfl, _, _, rfl, hA2.up (by rw [hlen]; rfl), ⟨h00, fun i hi => ?_⟩, hh', h4, h5, h6, h7⟩
        have hi : i < S.1.1 + 1 := hi
        show gt (up (up A 2 V) 1 _ 1) (0 + 1 + i) = ((row (gGrow S.1 k) i : Nat) : Int)
        rw [up_eq, Nat.zero_add, gt_set (by omega)]
        by_cases c5 : i = S.1.1
        · subst c5
          rw [if_pos rfl, row_grow_n hG hk (by omega)]
        · rw [if_neg (by omega), gt_set (by omega), row_grow hG hk (by omega) (by omega)]
          by_cases c6 : i = k
          · subst c6; rw [if_pos rfl, if_pos rfl]
          · rw [if_neg (by omega), if_neg c6, hx, if_neg c5]
            exact isRow0 h2 (by omega)
      · have c4 : S.1.1 = 16 := by have c4 : ((S.1.1 : Nat) : Int) = 16 := c4; omega
        rw [if_pos c4]
        exact ⟨rfl, _, _, rfl, h⟩
    · have c3 : deg S.1 k = 4 := by have c3 : ((deg S.1 k : Nat) : Int) = 4 := c3; omega
      rw [if_pos c3]
      exact ⟨rfl, _, _, rfl, h⟩
  · have c2 : ¬ isC S c := b0.mp c1
    rw [if_pos c2]
    exact ⟨rfl, _, _, rfl, h⟩
end STATE
