/-! READING BONDS: what a text tells -/
def atZ (t : List Int) (k : Nat) : Nat × Nat := if isDig t (k + 1) then digs t (k + 1) 0 else (k + 1, 1)
/-- an atom at k, bound to one: what is wrong, or where it ends and what there is then -/
def atomR (t : List Int) (k : Nat) (G : Gr) (to : Int) : Nat ⊕ (Nat × Gr) :=
  if to ≠ -1 ∧ deg G to.toNat = 4 then .inl (8 * k + 3)
  else
    if 16 < G.1 + (if 1 ≤ (atZ t k).2 ∧ (atZ t k).2 ≤ 16 then (atZ t k).2 else 1) then .inl (8 * k + 4)
    else if ¬ (1 ≤ (atZ t k).2 ∧ (atZ t k).2 ≤ 16) then .inl (8 * (k + 1) + 2)
    else .inr ((atZ t k).1, gAdds G to (atZ t k).2)
def hdI (st : List Int) : Int := st.head?.getD (-1)
def bStep (t : List Int) (k : Nat) (G : Gr) (st : List Int) (beg : Bool) : Nat ⊕ (Nat × Gr × List Int × Bool) :=
  if chr t k = 99 then (match atomR t k G (hdI st) with
    | .inl e => .inl e
    | .inr z => .inr (z.1, z.2, (((z.2.1 : Nat) : Int) - 1) :: st.tail, true))
  else if beg = true ∧ chr t k = 40 then .inr (k + 1, G, hdI st :: st, false)
  else if beg = true ∧ chr t k = 41 ∧ 1 < st.length then .inr (k + 1, G, st.tail, true)
  else .inl (8 * k + 1)
def bRun (t : List Int) : Nat → Nat → Gr → List Int → Bool → Nat ⊕ Gr
  | 0, _, _, _, _ => .inl 0
  | f + 1, k, G, st, beg => if beg = true ∧ st.length ≤ 1 ∧ chr t (skp t k) = -1 then .inr G else (match bStep t (skp t k) G st beg with
    | .inl e => .inl e
    | .inr z => bRun t f z.1 z.2.1 z.2.2.1 z.2.2.2)
/-- a state of reading: something is read or nothing, those to whom more can be bound -/
def bOk (t : List Int) (k : Nat) (G : Gr) (st : List Int) (beg : Bool) : Prop :=
  k ≤ t.length ∧ 1 ≤ st.length ∧ ((G = gNil ∧ st = [-1] ∧ beg = false) ∨ (G.ok ∧ (∀ x, x ∈ st → 0 ≤ x ∧ x < ((G.1 : Nat) : Int)) ∧ st.length - 1 + cond beg 1 0 ≤ G.1 ∧ (beg = false → 2 ≤ st.length)))
theorem atom_z {t : List Int} {k : Nat} (hk : k < t.length) : k + 1 ≤ (atZ t k).1 ∧ (atZ t k).1 ≤ t.length := by
  unfold atZ
  split
  · have := digs_le (t := t) (t.length - (k + 1)) (k + 1) 0 (by omega)
    exact this
  · exact ⟨Nat.le_refl _, hk⟩
theorem atom_ok {t : List Int} {k : Nat} {G : Gr} {st : List Int} {beg : Bool} (h : bOk t k G st beg) (hk : k < t.length) {z : Nat × Gr} (e : atomR t k G (hdI st) = .inr z) : k < z.1 ∧ bOk t z.1 z.2 ((((z.2.1 : Nat) : Int) - 1) :: st.tail) true := by
  obtain ⟨h1, h2, h3⟩ := h
  obtain ⟨q1, q2⟩ := atom_z (t := t) hk
  unfold atomR at e
  by_cases c1 : hdI st ≠ -1 ∧ deg G (hdI st).toNat = 4
  · rw [if_pos c1] at e; cases e
  · rw [if_neg c1] at e
    by_cases c2 : 16 < G.1 + (if 1 ≤ (atZ t k).2 ∧ (atZ t k).2 ≤ 16 then (atZ t k).2 else 1)
    · rw [if_pos c2] at e; cases e
    · rw [if_neg c2] at e
      by_cases c3 : 1 ≤ (atZ t k).2 ∧ (atZ t k).2 ≤ 16
      · rw [if_neg (Classical.not_not.mpr c3)] at e
        cases e
        rw [if_pos c3] at c2
        have hto : rdTo G (hdI st) := by
          rcases h3 with ⟨g1, g2, g3⟩ | ⟨g1, g2, g3, g4⟩
          · left; rw [g2]; exact ⟨g1, rfl⟩
          · right
            cases st with
            | nil => simp at h2
            | cons x r =>
              have := g2 x List.mem_cons_self
              exact ⟨g1, this.1, this.2, fun q => c1 ⟨by show x ≠ -1; omega, q⟩⟩
        obtain ⟨o1, o2⟩ := adds_ok hto _ c3.1 (by omega)
        have hn := adds_n G (hdI st) (atZ t k).2
        refine ⟨by show k < (atZ t k).1; omega, q2, by simp, Or.inr ⟨o1, fun x hx => ?_, ?_, fun q => by cases q⟩⟩
        · show 0 ≤ x ∧ x < (((gAdds G (hdI st) _).1 : Nat) : Int)
          rcases List.mem_cons.mp hx with rfl | hx
          · show 0 ≤ (((gAdds G (hdI st) (atZ t k).2).1 : Nat) : Int) - 1 ∧ (((gAdds G (hdI st) (atZ t k).2).1 : Nat) : Int) - 1 < (((gAdds G (hdI st) (atZ t k).2).1 : Nat) : Int)
            omega
          · rcases h3 with ⟨g1, g2, g3⟩ | ⟨g1, g2, g3, g4⟩
            · rw [g2] at hx; cases hx
            · have := g2 x (List.mem_of_mem_tail hx)
              omega
        · show ((((gAdds G (hdI st) _).1 : Int) - 1) :: st.tail).length - 1 + 1 ≤ (gAdds G (hdI st) _).1
          rw [hn, List.length_cons, List.length_tail]
          rcases h3 with ⟨g1, g2, g3⟩ | ⟨g1, g2, g3, g4⟩
          · rw [g2]; show 0 + 1 - 1 + 1 ≤ _; omega
          · omega
      · rw [if_pos c3] at e; cases e
theorem bOk_skp {t : List Int} {k : Nat} {G : Gr} {st : List Int} {beg : Bool} (h : bOk t k G st beg) : bOk t (skp t k) G st beg := by
  have := skp_le (t := t) (t.length - k) k (by have := h.1; omega)
  exact ⟨this.2.1, h.2⟩
theorem bOk_open {t : List Int} {k : Nat} {G : Gr} {st : List Int} (h : bOk t k G st true) (hk : k < t.length) : bOk t (k + 1) G (hdI st :: st) false := by
  obtain ⟨h1, h2, h3⟩ := h
  rcases h3 with ⟨g1, g2, g3⟩ | ⟨g1, g2, g3, g4⟩
  · cases g3
  · refine ⟨hk, by simp, Or.inr ⟨g1, fun x hx => ?_, ?_, fun _ => by rw [List.length_cons]; omega⟩⟩
    · rcases List.mem_cons.mp hx with rfl | hx
      · cases st with
        | nil => simp at h2
        | cons x r => exact g2 x List.mem_cons_self
      · exact g2 x hx
    · rw [List.length_cons]
      have g3 : st.length - 1 + 1 ≤ G.1 := g3
      show st.length + 1 - 1 + 0 ≤ G.1
      omega
theorem bOk_close {t : List Int} {k : Nat} {G : Gr} {st : List Int} (h : bOk t k G st true) (hk : k < t.length) (hs : 1 < st.length) : bOk t (k + 1) G st.tail true := by
  obtain ⟨h1, h2, h3⟩ := h
  rcases h3 with ⟨g1, g2, g3⟩ | ⟨g1, g2, g3, g4⟩
  · cases g3
  · refine ⟨hk, by rw [List.length_tail]; omega, Or.inr ⟨g1, fun x hx => g2 x (List.mem_of_mem_tail hx), ?_, fun q => by cases q⟩⟩
    rw [List.length_tail]
    have g3 : st.length - 1 + 1 ≤ G.1 := g3
    show st.length - 1 - 1 + 1 ≤ G.1
    omega
theorem step_ok {t : List Int} {k : Nat} {G : Gr} {st : List Int} {beg : Bool} (h : bOk t k G st beg) {z : Nat × Gr × List Int × Bool} (e : bStep t k G st beg = .inr z) : k < z.1 ∧ bOk t z.1 z.2.1 z.2.2.1 z.2.2.2 := by
  unfold bStep at e
  split at e
  · rename_i c1
    have hk := chr_in (t := t) (k := k) (by rw [c1]; decide)
    cases e2 : atomR t k G (hdI st) with
    | inl x => rw [e2] at e; cases e
    | inr y =>
      rw [e2] at e
      cases e
      exact atom_ok h hk e2
  · split at e
    · rename_i c2
      have hk := chr_in (t := t) (k := k) (by rw [c2.2]; decide)
      cases e
      rw [c2.1] at h
      exact ⟨Nat.lt_succ_self k, bOk_open h hk⟩
    · split at e
      · rename_i c3
        have hk := chr_in (t := t) (k := k) (by rw [c3.2.1]; decide)
        cases e
        rw [c3.1] at h
        exact ⟨Nat.lt_succ_self k, bOk_close h hk c3.2.2⟩
      · cases e
/-- what is read is a skeleton -/
theorem bRun_ok {t : List Int} : ∀ (f k : Nat) (G : Gr) (st : List Int) (beg : Bool), bOk t k G st beg → ∀ H, bRun t f k G st beg = .inr H → H.ok
  | 0, _, _, _, _, _, H, e => by cases e
  | f + 1, k, G, st, beg, h, H, e => by
    unfold bRun at e
    split at e
    · rename_i c
      cases e
      rcases h.2.2 with ⟨-, -, q⟩ | ⟨q, -⟩
      · rw [q] at c; cases c.1
      · exact q
    · cases e2 : bStep t (skp t k) G st beg with
      | inl x => rw [e2] at e; cases e
      | inr z =>
        rw [e2] at e
        exact bRun_ok f _ _ _ _ (step_ok (bOk_skp h) e2).2 H e
/-- steps enough: how many does not matter -/
theorem bRun_fuel {t : List Int} : ∀ (f f' k : Nat) (G : Gr) (st : List Int) (beg : Bool), bOk t k G st beg → t.length < k + f → t.length < k + f' → bRun t f k G st beg = bRun t f' k G st beg
  | 0, _, k, _, _, _, h, h1, _ => by have := h.1; omega
  | _ + 1, 0, k, _, _, _, h, _, h2 => by have := h.1; omega
  | f + 1, f' + 1, k, G, st, beg, h, h1, h2 => by
    have hs := skp_le (t := t) (t.length - k) k (by have := h.1; omega)
    unfold bRun
    split
    · rfl
    · cases e2 : bStep t (skp t k) G st beg with
      | inl x => rfl
      | inr z =>
        obtain ⟨q1, q2⟩ := step_ok (bOk_skp h) e2
        exact bRun_fuel f f' _ _ _ _ q2 (by omega) (by omega)
section BONDS
variable {d : Nat} {h0 : AH} {M : Nat} {A : Nat → List Int} {sc : Nat → Int} {t : List Int}
/-- the row of those who are open, the latest last: place by place -/
def stkAt (X : List Int) (st : List Int) : Prop := ∀ i x, st.reverse[i]? = some x → (x ≠ -1 → gt X i = x)
theorem stk_top {X st : List Int} (h : stkAt X st) (hs : 1 ≤ st.length) (hx : hdI st ≠ -1) : gt X (st.length - 1) = hdI st := by
  cases st with
  | nil => simp at hs
  | cons x r =>
    refine h _ _ ?_ hx
    rw [List.reverse_cons, List.length_cons, Nat.add_sub_cancel, List.getElem?_append_right (by rw [List.length_reverse]; exact Nat.le_refl _), List.length_reverse, Nat.sub_self]
    rfl
theorem stk_set {X st : List Int} {x : Int} (h : stkAt X st) (hX : st.length ≤ X.length) (hs : 1 ≤ st.length) : stkAt (X.set (st.length - 1) x) (x :: st.tail) := by
  cases st with
  | nil => simp at hs
  | cons y r =>
    intro i z hz hne
    rw [List.length_cons, Nat.add_sub_cancel]
    rw [List.length_cons] at hX
    rw [gt_set (by omega)]
    rw [List.tail_cons, List.reverse_cons] at hz
    by_cases e : i = r.length
    · subst e
      rw [List.getElem?_append_right (by rw [List.length_reverse]; exact Nat.le_refl _), List.length_reverse, Nat.sub_self] at hz
      cases hz
      rw [if_pos rfl]
    · rw [if_neg e]
      refine h i z ?_ hne
      rw [List.reverse_cons]
      have hi := (List.getElem?_eq_some_iff.mp hz).1
      rw [List.length_append, List.length_reverse, List.length_singleton] at hi
      rw [List.getElem?_append_left (by rw [List.length_reverse]; omega)] at hz ⊢
      exact hz
theorem stk_push {X st : List Int} {x : Int} (h : stkAt X st) (hX : st.length < X.length) : stkAt (X.set st.length x) (x :: st) := by
  intro i z hz hne
  rw [gt_set hX]
  rw [List.reverse_cons] at hz
  by_cases e : i = st.length
  · subst e
    rw [List.getElem?_append_right (by rw [List.length_reverse]; exact Nat.le_refl _), List.length_reverse, Nat.sub_self] at hz
    cases hz
    rw [if_pos rfl]
  · rw [if_neg e]
    have hi := (List.getElem?_eq_some_iff.mp hz).1
    rw [List.length_append, List.length_reverse, List.length_singleton] at hi
    rw [List.getElem?_append_left (by rw [List.length_reverse]; omega)] at hz
    exact h i z hz hne
theorem stk_pop {X st : List Int} (h : stkAt X st) : stkAt X st.tail := by
  cases st with
  | nil => exact h
  | cons y r =>
    intro i z hz hne
    refine h i z ?_ hne
    rw [List.tail_cons] at hz
    rw [List.reverse_cons]
    have hi := (List.getElem?_eq_some_iff.mp hz).1
    rw [List.getElem?_append_left hi]
    exact hz
/-- the twin while it reads -/
def RD (A : Nat → List Int) (sc : Nat → Int) (t : List Int) (k : Nat) (G : Gr) : Prop := lens A ∧ tapeOk (A 5) (sc 1) t ∧ sc 2 = ((k : Nat) : Int) ∧ isRow (A 6) 0 G
theorem readsAtom_spec {k : Nat} {G : Gr} {to : Int} (h : RD A sc t k G) (hk : k < t.length) (hto : (G = gNil ∧ to = -1) ∨ (G.ok ∧ 0 ≤ to ∧ to < ((G.1 : Nat) : Int))) {op : Nat} (ho : sc 4 = ((op : Nat) : Int)) (hop : op < 20) :
    wp (d + 4) 292 (0, ent 7 [vR (some M), vI to], [], tw h0 M A sc) (fun r h' => match atomR t k G to with
      | .inl e => r = .inl (some (vI 0)) ∧ ∃ A' sc', h' = tw h0 M A' sc' ∧ lens A' ∧ Fr [6, 7] [2, 3] A A' sc sc' ∧ sc' 3 = ((e : Nat) : Int)
      | .inr z => r = .inl (some (vI 1)) ∧ ∃ X, h' = tw h0 M (up (up A 6 X) 7 ((A 7).set op (((z.2.1 : Nat) : Int) - 1))) (up sc 2 ((z.1 : Nat) : Int)) ∧ X.length = 17 ∧ isRow X 0 z.2) := by
  obtain ⟨hA, hT, h2, h6⟩ := h
  have hlen := hT.2.1
  have hl7 : (A 7).length = 20 := by rw [hA.eq 7]; rfl
  have hn : G.1 ≤ 16 := by
    rcases hto with ⟨rfl, -⟩ | ⟨q, -⟩
    · exact Nat.zero_le _
    · exact q.1.2.1
  have hTu : ∀ x, tapeOk (A 5) (up sc 2 x 1) t := fun x => by rw [upn_ne _ _ (by decide)]; exact hT
  obtain ⟨q1, q2⟩ := atom_z (t := t) hk
  have main : ∀ x2 : Int, x2 = ((k : Nat) : Int) → ¬ (to ≠ -1 ∧ deg G to.toNat = 4) → wp (d + 4) 292 (26, [some (vR (some M)), some (vI to), some (vI x2), none, none, none, none], [], tw h0 M A sc) (fun r h' => match atomR t k G to with
      | .inl e => r = .inl (some (vI 0)) ∧ ∃ A' sc', h' = tw h0 M A' sc' ∧ lens A' ∧ Fr [6, 7] [2, 3] A A' sc sc' ∧ sc' 3 = ((e : Nat) : Int)
      | .inr z => r = .inl (some (vI 1)) ∧ ∃ X, h' = tw h0 M (up (up A 6 X) 7 ((A 7).set op (((z.2.1 : Nat) : Int) - 1))) (up sc 2 ((z.1 : Nat) : Int)) ∧ X.length = 17 ∧ isRow X 0 z.2) := by
    rintro x2 rfl c1
    have hat : atomR t k G to = (if 16 < G.1 + (if 1 ≤ (atZ t k).2 ∧ (atZ t k).2 ≤ 16 then (atZ t k).2 else 1) then .inl (8 * k + 4)
        else if ¬ (1 ≤ (atZ t k).2 ∧ (atZ t k).2 ≤ 16) then .inl (8 * (k + 1) + 2)
        else .inr ((atZ t k).1, gAdds G to (atZ t k).2)) := by
      unfold atomR
      rw [if_neg c1]
    rw [hat]
    have hz : atZ t k = (if isDig t (k + 1) then digs t (k + 1) 0 else (k + 1, 1)) := rfl
    generalize atZ t k = z at hz q1 q2 ⊢
    have tail : ∀ (v : Nat) (x4 : Int), asN v z.2 → wp (d + 4) 292 (60, [some (vR (some M)), some (vI to), some (vI ((k : Nat) : Int)), some (vI ((k + 1 : Nat) : Int)), some (vI x4), none, none], [vI ((v : Nat) : Int)], tw h0 M A (up sc 2 ((z.1 : Nat) : Int))) (fun r h' => match (if 16 < G.1 + (if 1 ≤ z.2 ∧ z.2 ≤ 16 then z.2 else 1) then .inl (8 * k + 4) else if ¬ (1 ≤ z.2 ∧ z.2 ≤ 16) then .inl (8 * (k + 1) + 2) else .inr (z.1, gAdds G to z.2) : Nat ⊕ (Nat × Gr)) with
        | .inl e => r = .inl (some (vI 0)) ∧ ∃ A' sc', h' = tw h0 M A' sc' ∧ lens A' ∧ Fr [6, 7] [2, 3] A A' sc sc' ∧ sc' 3 = ((e : Nat) : Int)
        | .inr z => r = .inl (some (vI 1)) ∧ ∃ X, h' = tw h0 M (up (up A 6 X) 7 ((A 7).set op (((z.2.1 : Nat) : Int) - 1))) (up sc 2 ((z.1 : Nat) : Int)) ∧ X.length = 17 ∧ isRow X 0 z.2) := by
      intro v x4 hv
      refine wp.go [] 90 fun W C hW hC => ?_
      refine hC _ _ _ (use (wpd.up (show d + 1 ≤ d + 3 by omega) (isIn_s (d := d) _ _ _ _)) ?_); rintro _ _ ⟨rfl, rfl⟩
      refine ⟨_, _, _, _, twF, rfl, rfl, ?_⟩
      refine ⟨_, _, _, twI rfl rfl, rfl, (by omega), gt_at (0) (by omega) (lenlt (j := 6) (hA) (show (0) < 17 by omega)), ?_⟩
      rw [h6.1]
      refine ⟨fun c => ?_, fun c => ?_⟩
      · have c2 := b0.mp c
        have c3 : ¬ (1 ≤ z.2 ∧ z.2 ≤ 16) := by rcases hv with rfl | hv <;> omega
        rw [if_neg c3]
        (conv => whnf); simp (disch := omega) only [iadd_eq, isub_eq, imul_eq]
        refine ⟨fun c4 => ?_, fun c4 => ?_⟩
        · rw [if_neg (by omega), if_pos c3]
          refine ⟨fun c5 => absurd (b0.mpr c2) c5, fun _ => ?_⟩
          refine ⟨_, _, _, twF, rfl, ?_⟩
          refine hC _ _ _ (use (wpd.up (show d + 1 ≤ d + 3 by omega) (fails_spec (d := d) (k := 2) (p := k + 1) (by decide) (by omega))) ?_)
          rintro _ _ ⟨rfl, rfl⟩
          exact ⟨Or.inl rfl, rfl, _, _, rfl, hA, (Fr.upS rfl).trans (Fr.upS rfl), up_eq _ _ _⟩
        · rw [if_pos (by omega)]
          refine ⟨_, _, _, twF, rfl, ?_⟩
          refine hC _ _ _ (use (wpd.up (show d + 1 ≤ d + 3 by omega) (fails_spec (d := d) (k := 4) (p := k) (by decide) (by omega))) ?_)
          rintro _ _ ⟨rfl, rfl⟩
          exact ⟨Or.inl rfl, rfl, _, _, rfl, hA, (Fr.upS rfl).trans (Fr.upS rfl), up_eq _ _ _⟩
      · have c2 := b1.mp c
        have hvz : v = z.2 := by rcases hv with rfl | hv <;> omega
        have c3 : 1 ≤ z.2 ∧ z.2 ≤ 16 := by omega
        subst hvz
        rw [if_pos c3]
        (conv => whnf); simp (disch := omega) only [iadd_eq, isub_eq, imul_eq]
        refine ⟨fun c4 => ?_, fun c4 => ?_⟩
        · rw [if_neg (by omega), if_neg (Classical.not_not.mpr c3)]
          refine ⟨fun c5 => ?_, fun c5 => absurd (b0.mp c5) (Classical.not_not.mpr c2)⟩
          refine ⟨_, _, _, twF, rfl, ?_⟩
          have hrd : rdTo G to := by
            rcases hto with q | ⟨q1, q2, q3⟩
            · exact Or.inl q
            · exact Or.inr ⟨q1, q2, q3, fun q => c1 ⟨by omega, q⟩⟩
          refine hC _ _ _ (use (wpd.up (show d + 1 ≤ d + 3 by omega) (adds_spec (d := d) (n := z.2) hA h6 hrd (by omega))) ?_)
          rintro _ _ ⟨rfl, X, rfl, hX, hXr⟩
          have hA2 : lens (up A 6 X) := hA.up (by rw [hX]; rfl)
          have hgn := adds_n G to z.2
          refine ⟨_, _, _, _, twF, rfl, rfl, ?_⟩
          refine ⟨_, _, _, _, twF, rfl, rfl, ?_⟩
          rw [show up sc 2 ((z.1 : Nat) : Int) 4 = ((op : Nat) : Int) by rw [upn_ne _ _ (by decide)]; exact ho]
          refine ⟨_, _, _, _, twF, rfl, rfl, ?_⟩
          refine ⟨_, _, _, twI rfl rfl, rfl, (by omega), gt_at (0) (by omega) (lenlt (j := 6) (hA2) (show (0) < 17 by omega)), ?_⟩
          rw [up_eq, hXr.1]
          (conv => whnf); simp (disch := omega) only [iadd_eq, isub_eq, imul_eq]
          (refine ⟨_, twI rfl rfl, (by omega), (ilt (op) (by omega) (lenlt (j := 7) (hA2) (show (op) < 20 by omega))), ?_⟩; rw [twSetI rfl rfl]; try rw [Int.toNat_natCast])
          rw [upn_ne _ _ (by decide)]
          exact ⟨Or.inr rfl, rfl, X, rfl, hX, hXr⟩
        · rw [if_pos (by omega)]
          refine ⟨_, _, _, twF, rfl, ?_⟩
          refine hC _ _ _ (use (wpd.up (show d + 1 ≤ d + 3 by omega) (fails_spec (d := d) (k := 4) (p := k) (by decide) (by omega))) ?_)
          rintro _ _ ⟨rfl, rfl⟩
          exact ⟨Or.inl rfl, rfl, _, _, rfl, hA, (Fr.upS rfl).trans (Fr.upS rfl), up_eq _ _ _⟩
    refine wp.go [60] 60 fun W C hW hC => ?_
    refine ⟨_, _, _, _, twF, rfl, rfl, ?_⟩
    rw [h2]
    (conv => whnf); simp (disch := omega) only [iadd_eq, isub_eq, imul_eq]
    (refine ⟨_, _, _, twF, rfl, (Nat.le_of_ble_eq_true rfl), ?_⟩; rw [twP2])
    refine ⟨_, _, _, _, twF, rfl, rfl, ?_⟩
    rw [up_eq, show ((k : Nat) : Int) + 1 = ((k + 1 : Nat) : Int) by omega]
    refine ⟨_, _, _, twF, rfl, ?_⟩
    refine hC _ _ _ (use (wpd.up (show d + 2 ≤ d + 3 by omega) (isDigit_spec (d := d) (k := k + 1) hA (hTu _) (up_eq _ _ _))) ?_); rintro _ _ ⟨rfl, rfl⟩
    refine ⟨fun c => ?_, fun c => ?_⟩
    · have c2 := b0.mp c
      rw [if_neg c2] at hz
      subst hz
      exact hW _ (tail 1 _ (Or.inl rfl))
    · have c2 := b1.mp c
      rw [if_pos c2] at hz
      subst hz
      refine ⟨_, _, _, twF, rfl, ?_⟩
      refine hC _ _ _ (use (digits_spec (d := d) hA hT (k := k + 1) hk) ?_)
      rintro _ _ ⟨v, rfl, hv, rfl⟩
      exact hW _ (tail v _ hv)
  refine wp.go [26] 40 fun W C hW hC => ?_
  refine ⟨_, _, _, _, twF, rfl, rfl, ?_⟩
  rw [h2]
  refine ⟨fun c => ?_, fun c => ?_⟩
  · exact hW _ (main _ rfl (fun q => q.1 c))
  · have hg : G.ok ∧ 0 ≤ to ∧ to < ((G.1 : Nat) : Int) := by
      rcases hto with ⟨-, q⟩ | q
      · exact absurd q c
      · exact q
    obtain ⟨c', rfl⟩ : ∃ c' : Nat, to = (c' : Int) := ⟨to.toNat, by omega⟩
    refine ⟨_, _, _, twF, rfl, ?_⟩
    refine hC _ _ _ (use (wpd.up (show d + 2 ≤ d + 3 by omega) (degRead_spec (d := d) hA hn h6 (c := c') (by omega))) ?_); rintro _ _ ⟨rfl, rfl⟩
    refine ⟨fun c3 => ?_, fun c3 => ?_⟩
    · refine hW _ (main _ rfl (fun q => c3 ?_))
      have : deg G c' = 4 := q.2
      rw [this]; rfl
    · have c4 : deg G c' = 4 := by have : ((deg G c' : Nat) : Int) = 4 := c3; omega
      have hat : atomR t k G (c' : Int) = .inl (8 * k + 3) := by unfold atomR; rw [if_pos ⟨c, c4⟩]
      rw [hat]
      refine ⟨_, _, _, twF, rfl, ?_⟩
      refine hC _ _ _ (use (wpd.up (show d + 1 ≤ d + 3 by omega) (fails_spec (d := d) (k := 3) (p := k) (by decide) (by omega))) ?_)
      rintro _ _ ⟨rfl, rfl⟩
      exact ⟨Or.inl rfl, rfl, _, _, rfl, hA, Fr.upS rfl, up_eq _ _ _⟩
end BONDS
