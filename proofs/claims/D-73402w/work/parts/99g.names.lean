/-! READING NAMES: what a text tells -/
def lenR (t : List Int) (k : Nat) (G : Gr) (to : Int) (isB : Bool) : Nat ⊕ (Nat × Gr) :=
  if ¬ isDig t k then .inl (8 * k + 1)
  else if ¬ (1 ≤ (digs t k 0).2 ∧ (digs t k 0).2 ≤ 16) then .inl (8 * k + 2)
  else if isB = true ∧ deg G to.toNat = 4 then .inl (8 * k + 3)
  else if 16 < G.1 + (digs t k 0).2 then .inl (8 * k + 4)
  else .inr ((digs t k 0).1, gAdds G to (digs t k 0).2)
abbrev Op : Type := Nat × Nat × Nat
def nStep (t : List Int) (k : Nat) (G : Gr) (st : List Op) : Nat ⊕ (Nat × Gr × List Op) :=
  if chr t k = 45 then
    (if ¬ isDig t (k + 1) then .inl (8 * (k + 1) + 1)
    else match st with
      | [] => .inl 0
      | x :: r =>
        if ¬ (x.2.2 ≤ (digs t (k + 1) 0).2 ∧ (digs t (k + 1) 0).2 ≤ x.2.1) then .inl (8 * (k + 1) + 2)
        else if chr t (digs t (k + 1) 0).1 ≠ 58 then .inl (8 * (digs t (k + 1) 0).1 + 1)
        else if chr t ((digs t (k + 1) 0).1 + 1) ≠ 40 then (match lenR t ((digs t (k + 1) 0).1 + 1) G ((x.1 + (digs t (k + 1) 0).2 - 1 : Nat) : Int) true with
          | .inl e => .inl e
          | .inr y => .inr (y.1, y.2, (x.1, x.2.1, (digs t (k + 1) 0).2) :: r))
        else if deg G (x.1 + (digs t (k + 1) 0).2 - 1) = 4 then .inl (8 * ((digs t (k + 1) 0).1 + 1) + 3)
        else (match lenR t ((digs t (k + 1) 0).1 + 2) G ((x.1 + (digs t (k + 1) 0).2 - 1 : Nat) : Int) false with
          | .inl e => .inl e
          | .inr y => .inr (y.1, y.2, (G.1, y.2.1 - G.1, 1) :: (x.1, x.2.1, (digs t (k + 1) 0).2) :: r)))
  else if chr t k = 41 ∧ 1 < st.length then .inr (k + 1, G, st.tail)
  else .inl (8 * k + 1)
def nRun (t : List Int) : Nat → Nat → Gr → List Op → Nat ⊕ Gr
  | 0, _, _, _ => .inl 0
  | f + 1, k, G, st => if st.length ≤ 1 ∧ chr t k = -1 then .inr G else (match nStep t k G st with
    | .inl e => .inl e
    | .inr z => nRun t f z.1 z.2.1 z.2.2)
def nBegin (t : List Int) : Nat ⊕ Gr := match lenR t 0 gNil (-1) false with
  | .inl e => .inl e
  | .inr y => nRun t 122 y.1 y.2 [(0, y.2.1, 1)]
def nOk (t : List Int) (k : Nat) (G : Gr) (st : List Op) : Prop := k ≤ t.length ∧ 1 ≤ st.length ∧ G.ok ∧ (∀ x, x ∈ st → x.1 + x.2.1 ≤ G.1 ∧ 1 ≤ x.2.2) ∧ st.length ≤ G.1
theorem len_ok {t : List Int} {k : Nat} {G : Gr} {to : Int} {isB : Bool} (hk : k ≤ t.length) (hto : (G = gNil ∧ to = -1) ∨ (G.ok ∧ 0 ≤ to ∧ to < ((G.1 : Nat) : Int) ∧ (isB = false → deg G to.toNat ≠ 4))) {y : Nat × Gr} (e : lenR t k G to isB = .inr y) : k < y.1 ∧ y.1 ≤ t.length ∧ y.2.ok ∧ G.1 < y.2.1 := by
  unfold lenR at e
  split at e
  · cases e
  · rename_i c1
    have c1 := Classical.not_not.mp c1
    have hkl := chr_in (t := t) (k := k) (by have := c1.1; omega)
    split at e
    · cases e
    · rename_i c2
      have c2 := Classical.not_not.mp c2
      split at e
      · cases e
      · rename_i c3
        split at e
        · cases e
        · rename_i c4
          cases e
          have hrd : rdTo G to := by
            rcases hto with q | ⟨q1, q2, q3, q4⟩
            · exact Or.inl q
            · refine Or.inr ⟨q1, q2, q3, ?_⟩
              cases isB with
              | false => exact q4 rfl
              | true => exact fun q => c3 ⟨rfl, q⟩
          have ho := (adds_ok hrd _ c2.1 (by omega)).1
          have hn := adds_n G to (digs t k 0).2
          have hd : k < (digs t k 0).1 ∧ (digs t k 0).1 ≤ t.length := by
            rw [digs_dig c1]
            have := digs_le (t := t) (t.length - (k + 1)) (k + 1) (10 * 0 + (chr t k - 48).toNat) (by omega)
            omega
          exact ⟨hd.1, hd.2, ho, by show G.1 < (gAdds G to (digs t k 0).2).1; omega⟩
theorem nstep_ok {t : List Int} {k : Nat} {G : Gr} {st : List Op} (h : nOk t k G st) {z : Nat × Gr × List Op} (e : nStep t k G st = .inr z) : k < z.1 ∧ nOk t z.1 z.2.1 z.2.2 := by
  obtain ⟨h1, h2, h3, h4, h5⟩ := h
  unfold nStep at e
  split at e
  · rename_i c1
    split at e
    · cases e
    · rename_i c2
      have c2 := Classical.not_not.mp c2
      have hkl := chr_in (t := t) (k := k + 1) (by have := c2.1; omega)
      have hd : k + 1 < (digs t (k + 1) 0).1 ∧ (digs t (k + 1) 0).1 ≤ t.length := by
        rw [digs_dig c2]
        have := digs_le (t := t) (t.length - (k + 1 + 1)) (k + 1 + 1) (10 * 0 + (chr t (k + 1) - 48).toNat) (by omega)
        omega
      cases st with
      | nil => simp at h2
      | cons x r =>
        have hx := h4 x List.mem_cons_self
        have hr : ∀ y, y ∈ r → y.1 + y.2.1 ≤ G.1 ∧ 1 ≤ y.2.2 := fun y hy => h4 y (List.mem_cons_of_mem _ hy)
        rw [List.length_cons] at h5
        dsimp only at e
        split at e
        · cases e
        · rename_i c3
          have c3 := Classical.not_not.mp c3
          split at e
          · cases e
          · rename_i c4
            have c4 := Classical.not_not.mp c4
            have hk2 := chr_in (t := t) (k := (digs t (k + 1) 0).1) (by rw [c4]; decide)
            split at e
            · cases e2 : lenR t ((digs t (k + 1) 0).1 + 1) G ((x.1 + (digs t (k + 1) 0).2 - 1 : Nat) : Int) true with
              | inl q => rw [e2] at e; cases e
              | inr y =>
                rw [e2] at e
                cases e
                obtain ⟨o1, o2, o3, o4⟩ := len_ok (by omega) (Or.inr ⟨h3, by omega, by omega, fun q => by cases q⟩) e2
                refine ⟨by show k < y.1; omega, o2, by simp, o3, fun w hw => ?_, by show ((x.1, x.2.1, (digs t (k + 1) 0).2) :: r).length ≤ y.2.1; rw [List.length_cons]; omega⟩
                show w.1 + w.2.1 ≤ y.2.1 ∧ 1 ≤ w.2.2
                rcases List.mem_cons.mp hw with rfl | hw
                · exact ⟨by show x.1 + x.2.1 ≤ y.2.1; omega, by show 1 ≤ (digs t (k + 1) 0).2; omega⟩
                · have := hr w hw; omega
            · rename_i c5
              have c5 := Classical.not_not.mp c5
              have hk3 := chr_in (t := t) (k := (digs t (k + 1) 0).1 + 1) (by rw [c5]; decide)
              split at e
              · cases e
              · rename_i c6
                cases e2 : lenR t ((digs t (k + 1) 0).1 + 2) G ((x.1 + (digs t (k + 1) 0).2 - 1 : Nat) : Int) false with
                | inl q => rw [e2] at e; cases e
                | inr y =>
                  rw [e2] at e
                  cases e
                  obtain ⟨o1, o2, o3, o4⟩ := len_ok (by omega) (Or.inr ⟨h3, by omega, by omega, fun _ => by rw [Int.toNat_natCast]; exact c6⟩) e2
                  refine ⟨by show k < y.1; omega, o2, by simp, o3, fun w hw => ?_, by show ((G.1, y.2.1 - G.1, 1) :: (x.1, x.2.1, (digs t (k + 1) 0).2) :: r).length ≤ y.2.1; rw [List.length_cons, List.length_cons]; omega⟩
                  show w.1 + w.2.1 ≤ y.2.1 ∧ 1 ≤ w.2.2
                  rcases List.mem_cons.mp hw with rfl | hw
                  · exact ⟨by show G.1 + (y.2.1 - G.1) ≤ y.2.1; omega, Nat.le_refl _⟩
                  · rcases List.mem_cons.mp hw with rfl | hw
                    · exact ⟨by show x.1 + x.2.1 ≤ y.2.1; omega, by show 1 ≤ (digs t (k + 1) 0).2; omega⟩
                    · have := hr w hw; omega
  · split at e
    · rename_i c3
      have hk := chr_in (t := t) (k := k) (by rw [c3.1]; decide)
      cases e
      refine ⟨Nat.lt_succ_self k, hk, by show 1 ≤ st.tail.length; rw [List.length_tail]; omega, h3, fun w hw => h4 w (List.mem_of_mem_tail hw), by show st.tail.length ≤ G.1; rw [List.length_tail]; omega⟩
    · cases e
theorem nRun_ok {t : List Int} : ∀ (f k : Nat) (G : Gr) (st : List Op), nOk t k G st → ∀ H, nRun t f k G st = .inr H → H.ok
  | 0, _, _, _, _, H, e => by cases e
  | f + 1, k, G, st, h, H, e => by
    unfold nRun at e
    split at e
    · cases e; exact h.2.2.1
    · cases e2 : nStep t k G st with
      | inl x => rw [e2] at e; cases e
      | inr z =>
        rw [e2] at e
        exact nRun_ok f _ _ _ (nstep_ok h e2).2 H e
theorem nRun_fuel {t : List Int} : ∀ (f f' k : Nat) (G : Gr) (st : List Op), nOk t k G st → t.length < k + f → t.length < k + f' → nRun t f k G st = nRun t f' k G st
  | 0, _, k, _, _, h, h1, _ => by have := h.1; omega
  | _ + 1, 0, k, _, _, h, _, h2 => by have := h.1; omega
  | f + 1, f' + 1, k, G, st, h, h1, h2 => by
    unfold nRun
    split
    · rfl
    · cases e2 : nStep t k G st with
      | inl x => rfl
      | inr z =>
        obtain ⟨q1, q2⟩ := nstep_ok h e2
        exact nRun_fuel f f' _ _ _ q2 (by omega) (by omega)
theorem nBegin_ok {t : List Int} (H : Gr) (e : nBegin t = .inr H) : H.ok := by
  unfold nBegin at e
  cases e2 : lenR t 0 gNil (-1) false with
  | inl x => rw [e2] at e; cases e
  | inr y =>
    rw [e2] at e
    obtain ⟨o1, o2, o3, o4⟩ := len_ok (Nat.zero_le _) (Or.inl ⟨rfl, rfl⟩) e2
    refine nRun_ok 122 y.1 y.2 [(0, y.2.1, 1)] ⟨o2, Nat.le_refl 1, o3, fun w hw => ?_, by show 1 ≤ y.2.1; exact o3.1.1⟩ H e
    rw [List.mem_singleton.mp hw]
    exact ⟨by show 0 + y.2.1 ≤ y.2.1; omega, Nat.le_refl _⟩
