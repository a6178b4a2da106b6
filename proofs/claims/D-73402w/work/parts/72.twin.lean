/-! THE TWIN's STATE: all its arrays lie behind it, in the order of its constructor; what it holds is a row of lists and a row of numbers -/
def up {α : Type} (f : Nat → α) (k : Nat) (v : α) : Nat → α := fun j => cond (Nat.beq j k) v (f j)
theorem up_eq {α : Type} (f : Nat → α) (k : Nat) (v : α) : up f k v k = v := by
  unfold up; rw [Nat.beq_refl]; rfl
theorem upn_ne {α : Type} (f : Nat → α) {k j : Nat} (v : α) (h : j ≠ k) : up f k v j = f j := by
  unfold up
  cases e : Nat.beq j k with
  | true => exact absurd (Nat.eq_of_beq_eq_true e) h
  | false => rfl
theorem up_up {α : Type} {f : Nat → α} {k : Nat} {v w : α} : up (up f k v) k w = up f k w := by
  funext j
  unfold up
  cases Nat.beq j k <;> rfl
theorem upn_self {α : Type} {f : Nat → α} {k : Nat} : up f k (f k) = f := by
  funext j
  by_cases c : j = k
  · subst c; rw [up_eq]
  · rw [upn_ne _ _ c]
/-- the kind of the twin's j-th array -/
def tg (j : Nat) : Nat := cond (Nat.beq j 4) 4 (cond ([5, 40, 42, 43].elem j) 3 (cond ([14, 15, 16, 34, 35, 36, 37, 38].elem j) 2 1))
def flds (M : Nat) (sc : Nat → Int) : List AV := [vR (some (M + 1)), vR (some (M + 2)), vI (sc 0), vR (some (M + 3)), vR (some (M + 4)), vR (some (M + 5)), vI (sc 1), vI (sc 2), vI (sc 3), vR (some (M + 6)), vR (some (M + 7)), vR (some (M + 8)), vR (some (M + 9)), vI (sc 4), vI (sc 5),
  vR (some (M + 10)), vR (some (M + 11)), vR (some (M + 12)), vR (some (M + 13)), vR (some (M + 14)), vR (some (M + 15)), vR (some (M + 16)), vR (some (M + 17)), vR (some (M + 18)), vR (some (M + 19)), vR (some (M + 20)), vR (some (M + 21)), vI (sc 6), vR (some (M + 22)), vR (some (M + 23)), vR (some (M + 24)),
  vR (some (M + 25)), vR (some (M + 26)), vR (some (M + 27)), vR (some (M + 28)), vR (some (M + 29)), vR (some (M + 30)), vR (some (M + 31)), vI (sc 7), vR (some (M + 32)), vR (some (M + 33)), vR (some (M + 34)), vR (some (M + 35)), vR (some (M + 36)), vI (sc 8), vR (some (M + 37)), vR (some (M + 38)), vR (some (M + 39)),
  vL (sc 9), vL (sc 10), vL (sc 11), vL (sc 12), vR (some (M + 40)), vR (some (M + 41)), vR (some (M + 42)), vI (sc 13), vR (some (M + 43)), vI (sc 14), vR (some (M + 44)), vR (some (M + 45))]
def tw (h0 : AH) (M : Nat) (A : Nat → List Int) (sc : Nat → Int) : AH :=
  (h0.sz, h0.sl, fun a => if M < a ∧ a ≤ M + 45 then (tg (a - M), A (a - M)) else h0.I a, h0.R, fun a => if a = M then (3, flds M sc) else h0.F a, h0.S)
section TWIN
variable {h0 : AH} {M : Nat} {A : Nat → List Int} {sc : Nat → Int}
theorem twF : (tw h0 M A sc).F M = (3, flds M sc) := if_pos rfl
theorem twI {j : Nat} (h1 : Nat.ble 1 j = true) (h2 : Nat.ble j 45 = true) : (tw h0 M A sc).I (M + j) = (tg j, A j) := by
  have h1 := Nat.le_of_ble_eq_true h1
  have h2 := Nat.le_of_ble_eq_true h2
  show (if M < M + j ∧ M + j ≤ M + 45 then (tg (M + j - M), A (M + j - M)) else h0.I (M + j)) = _
  rw [if_pos ⟨by omega, by omega⟩, Nat.add_sub_cancel_left]
theorem twSetI {j : Nat} {x : List Int} (h1 : Nat.ble 1 j = true) (h2 : Nat.ble j 45 = true) : (tw h0 M A sc).setI (M + j) x = tw h0 M (up A j x) sc := by
  have h3 := Nat.le_of_ble_eq_true h1
  have h4 := Nat.le_of_ble_eq_true h2
  have e : va_up (tw h0 M A sc).I (M + j) (((tw h0 M A sc).I (M + j)).1, x) = (tw h0 M (up A j x) sc).I := by
    rw [twI h1 h2]
    funext a
    show (if a = M + j then (tg j, x) else if M < a ∧ a ≤ M + 45 then (tg (a - M), A (a - M)) else h0.I a) = if M < a ∧ a ≤ M + 45 then (tg (a - M), up A j x (a - M)) else h0.I a
    by_cases c : a = M + j
    · subst c
      rw [if_pos rfl, if_pos ⟨by omega, by omega⟩, Nat.add_sub_cancel_left, up_eq]
    · rw [if_neg c]
      by_cases c2 : M < a ∧ a ≤ M + 45
      · rw [if_pos c2, if_pos c2, upn_ne _ _ (by omega)]
      · rw [if_neg c2, if_neg c2]
  show ((tw h0 M A sc).1, (tw h0 M A sc).2.1, va_up (tw h0 M A sc).I (M + j) (((tw h0 M A sc).I (M + j)).1, x), _) = _
  rw [e]
  rfl
theorem twSetF {l : List AV} {sc' : Nat → Int} (e : l = flds M sc') : (tw h0 M A sc).setF M l = tw h0 M A sc' := by
  subst e
  have e : va_up (tw h0 M A sc).F M (((tw h0 M A sc).F M).1, flds M sc') = (tw h0 M A sc').F := by
    rw [twF]
    funext a
    show (if a = M then (3, flds M sc') else if a = M then (3, flds M sc) else h0.F a) = if a = M then (3, flds M sc') else h0.F a
    by_cases c : a = M
    · rw [if_pos c, if_pos c]
    · rw [if_neg c, if_neg c, if_neg c]
  show ((tw h0 M A sc).1, (tw h0 M A sc).2.1, (tw h0 M A sc).I, (tw h0 M A sc).R, va_up (tw h0 M A sc).F M (((tw h0 M A sc).F M).1, flds M sc'), (tw h0 M A sc).S) = _
  rw [e]
  rfl
end TWIN
/-- the i-th of a row, 0 beyond -/
def gt (xs : List Int) (i : Nat) : Int := xs[i]?.getD 0
theorem gt_some {xs : List Int} {i : Nat} (h : i < xs.length) : xs[i]? = some (gt xs i) := by
  unfold gt; rw [List.getElem?_eq_getElem h]; rfl
theorem gt_set {xs : List Int} {i j : Nat} {v : Int} (h : i < xs.length) : gt (xs.set i v) j = if j = i then v else gt xs j := by
  unfold gt
  by_cases c : j = i
  · subst c; rw [if_pos rfl, List.getElem?_set_self h]; rfl
  · rw [if_neg c, List.getElem?_set_ne (Ne.symm c)]
theorem use {d z : Nat} {s : St} {Q K : Rs → AH → Prop} (hs : wp d z s Q) (hk : ∀ r h, Q r h → K r h) : wpd PP mLL d z s K := wpd.mono hk _ _ _ hs
/-- returns v, the heap as it was -/
abbrev gives (h : AH) (v : Int) : Rs → AH → Prop := fun r h' => r = .inl (some (vI v)) ∧ h' = h
/-! running, with what comes behind a cut or a call as names -/
def exW (C : Nat → St → (Rs → AH → Prop) → Prop) (W : St → Prop) (y : Nat) (Q : Rs → AH → Prop) (cuts : List Nat) : Nat → Nat → Ls → List AV → AH → Prop
  | 0, pc, L, st, h => W (pc, L, st, h)
  | n + 1, pc, L, st, h => PP y pc L st h (Kt C mLL (fun s => match s with
    | (pc, L, st, h) => cond (cuts.elem pc) (W (pc, L, st, h)) (exW C W y Q cuts n pc L st h)) Q)
theorem exW_eq {d y : Nat} {Q : Rs → AH → Prop} {cuts : List Nat} : ∀ (n pc : Nat) (L : Ls) (st : List AV) (h : AH), exW (wpd PP mLL d) (fun s => wpd PP mLL (d + 1) y s Q) y Q cuts n pc L st h = exN PP mLL d y Q cuts n pc L st h
  | 0, _, _, _, _ => rfl
  | n + 1, pc, L, st, h => by
    unfold exW exN
    congr 1
    congr 1
    funext s
    obtain ⟨pc', L', st', h'⟩ := s
    dsimp only
    rw [exW_eq n]
theorem wp.go (cuts : List Nat) (n : Nat) {d y pc : Nat} {L : Ls} {st : List AV} {h : AH} {Q : Rs → AH → Prop}
    (k : ∀ (W : St → Prop) (C : Nat → St → (Rs → AH → Prop) → Prop), (∀ s, wp (d + 1) y s Q → W s) → (∀ z s K, wp d z s K → C z s K) → exW C W y Q cuts n pc L st h) : wp (d + 1) y (pc, L, st, h) Q := by
  have := k (fun s => wpd PP mLL (d + 1) y s Q) (wpd PP mLL d) (fun _ h => h) (fun _ _ _ h => h)
  rw [exW_eq] at this
  exact wp.run cuts n this
/-! lengths of the arrays, numbers put -/
def ln (j : Nat) : Nat := [0, 17, 204, 51, 3, 120, 17, 20, 20, 20, 64, 256, 64, 64, 64, 64, 64, 256, 17, 272, 272, 4, 4, 4, 4, 256, 16, 64, 64, 12, 12, 3200, 17, 16, 41, 41, 41, 41, 41, 4, 24576, 256, 96, 96, 16, 4].getD j 0
theorem ln1 : ln 1 = 17 := rfl
theorem ln2 : ln 2 = 204 := rfl
theorem ln3 : ln 3 = 51 := rfl
theorem ln4 : ln 4 = 3 := rfl
theorem ln5 : ln 5 = 120 := rfl
theorem ln6 : ln 6 = 17 := rfl
theorem ln7 : ln 7 = 20 := rfl
theorem ln8 : ln 8 = 20 := rfl
theorem ln9 : ln 9 = 20 := rfl
theorem ln10 : ln 10 = 64 := rfl
theorem ln11 : ln 11 = 256 := rfl
theorem ln12 : ln 12 = 64 := rfl
theorem ln13 : ln 13 = 64 := rfl
theorem ln14 : ln 14 = 64 := rfl
theorem ln15 : ln 15 = 64 := rfl
theorem ln16 : ln 16 = 64 := rfl
theorem ln17 : ln 17 = 256 := rfl
theorem ln18 : ln 18 = 17 := rfl
theorem ln19 : ln 19 = 272 := rfl
theorem ln20 : ln 20 = 272 := rfl
theorem ln21 : ln 21 = 4 := rfl
theorem ln22 : ln 22 = 4 := rfl
theorem ln23 : ln 23 = 4 := rfl
theorem ln24 : ln 24 = 4 := rfl
theorem ln25 : ln 25 = 256 := rfl
theorem ln26 : ln 26 = 16 := rfl
theorem ln27 : ln 27 = 64 := rfl
theorem ln28 : ln 28 = 64 := rfl
theorem ln29 : ln 29 = 12 := rfl
theorem ln30 : ln 30 = 12 := rfl
theorem ln31 : ln 31 = 3200 := rfl
theorem ln32 : ln 32 = 17 := rfl
theorem ln33 : ln 33 = 16 := rfl
theorem ln34 : ln 34 = 41 := rfl
theorem ln35 : ln 35 = 41 := rfl
theorem ln36 : ln 36 = 41 := rfl
theorem ln37 : ln 37 = 41 := rfl
theorem ln38 : ln 38 = 41 := rfl
theorem ln39 : ln 39 = 4 := rfl
theorem ln40 : ln 40 = 24576 := rfl
theorem ln41 : ln 41 = 256 := rfl
theorem ln42 : ln 42 = 96 := rfl
theorem ln43 : ln 43 = 96 := rfl
theorem ln44 : ln 44 = 16 := rfl
theorem ln45 : ln 45 = 4 := rfl
def lens (A : Nat → List Int) : Prop := ∀ j, (A j).length = ln j
theorem lens.eq {A : Nat → List Int} (h : lens A) (j : Nat) : (A j).length = ln j := h j
theorem lens.up {A : Nat → List Int} (h : lens A) {j : Nat} {x : List Int} (e : x.length = ln j) : lens (up A j x) := by
  intro i
  by_cases c : i = j
  · subst c; rw [up_eq]; exact e
  · rw [upn_ne _ _ c]; exact h i
theorem twP0 {h0 : AH} {M : Nat} {A : Nat → List Int} {sc : Nat → Int} {x : Int} : (tw h0 M A sc).setF M ((flds M sc).set 2 (vI x)) = tw h0 M A (up sc 0 x) := twSetF rfl
theorem twP1 {h0 : AH} {M : Nat} {A : Nat → List Int} {sc : Nat → Int} {x : Int} : (tw h0 M A sc).setF M ((flds M sc).set 6 (vI x)) = tw h0 M A (up sc 1 x) := twSetF rfl
theorem twP2 {h0 : AH} {M : Nat} {A : Nat → List Int} {sc : Nat → Int} {x : Int} : (tw h0 M A sc).setF M ((flds M sc).set 7 (vI x)) = tw h0 M A (up sc 2 x) := twSetF rfl
theorem twP3 {h0 : AH} {M : Nat} {A : Nat → List Int} {sc : Nat → Int} {x : Int} : (tw h0 M A sc).setF M ((flds M sc).set 8 (vI x)) = tw h0 M A (up sc 3 x) := twSetF rfl
theorem twP4 {h0 : AH} {M : Nat} {A : Nat → List Int} {sc : Nat → Int} {x : Int} : (tw h0 M A sc).setF M ((flds M sc).set 13 (vI x)) = tw h0 M A (up sc 4 x) := twSetF rfl
theorem twP5 {h0 : AH} {M : Nat} {A : Nat → List Int} {sc : Nat → Int} {x : Int} : (tw h0 M A sc).setF M ((flds M sc).set 14 (vI x)) = tw h0 M A (up sc 5 x) := twSetF rfl
theorem twP6 {h0 : AH} {M : Nat} {A : Nat → List Int} {sc : Nat → Int} {x : Int} : (tw h0 M A sc).setF M ((flds M sc).set 27 (vI x)) = tw h0 M A (up sc 6 x) := twSetF rfl
theorem twP7 {h0 : AH} {M : Nat} {A : Nat → List Int} {sc : Nat → Int} {x : Int} : (tw h0 M A sc).setF M ((flds M sc).set 38 (vI x)) = tw h0 M A (up sc 7 x) := twSetF rfl
theorem twP8 {h0 : AH} {M : Nat} {A : Nat → List Int} {sc : Nat → Int} {x : Int} : (tw h0 M A sc).setF M ((flds M sc).set 44 (vI x)) = tw h0 M A (up sc 8 x) := twSetF rfl
theorem twP9 {h0 : AH} {M : Nat} {A : Nat → List Int} {sc : Nat → Int} {x : Int} : (tw h0 M A sc).setF M ((flds M sc).set 48 (vL x)) = tw h0 M A (up sc 9 x) := twSetF rfl
theorem twP10 {h0 : AH} {M : Nat} {A : Nat → List Int} {sc : Nat → Int} {x : Int} : (tw h0 M A sc).setF M ((flds M sc).set 49 (vL x)) = tw h0 M A (up sc 10 x) := twSetF rfl
theorem twP11 {h0 : AH} {M : Nat} {A : Nat → List Int} {sc : Nat → Int} {x : Int} : (tw h0 M A sc).setF M ((flds M sc).set 50 (vL x)) = tw h0 M A (up sc 11 x) := twSetF rfl
theorem twP12 {h0 : AH} {M : Nat} {A : Nat → List Int} {sc : Nat → Int} {x : Int} : (tw h0 M A sc).setF M ((flds M sc).set 51 (vL x)) = tw h0 M A (up sc 12 x) := twSetF rfl
theorem twP13 {h0 : AH} {M : Nat} {A : Nat → List Int} {sc : Nat → Int} {x : Int} : (tw h0 M A sc).setF M ((flds M sc).set 55 (vI x)) = tw h0 M A (up sc 13 x) := twSetF rfl
theorem twP14 {h0 : AH} {M : Nat} {A : Nat → List Int} {sc : Nat → Int} {x : Int} : (tw h0 M A sc).setF M ((flds M sc).set 57 (vI x)) = tw h0 M A (up sc 14 x) := twSetF rfl
/-- so many of one row into another one -/
def cp (dst : List Int) (o : Nat) (src : List Int) (p : Nat) : Nat → List Int
  | 0 => dst
  | k + 1 => (cp dst o src p k).set (o + k) (gt src (p + k))
theorem cp_succ {dst : List Int} {o : Nat} {src : List Int} {p k : Nat} : cp dst o src p (k + 1) = (cp dst o src p k).set (o + k) (gt src (p + k)) := rfl
theorem cp_length {dst : List Int} {o : Nat} {src : List Int} {p : Nat} : ∀ {k : Nat}, (cp dst o src p k).length = dst.length
  | 0 => rfl
  | k + 1 => by unfold cp; rw [List.length_set, cp_length]
theorem cp_gt {dst : List Int} {o : Nat} {src : List Int} {p i : Nat} : ∀ {k : Nat}, o + k ≤ dst.length → gt (cp dst o src p k) i = if o ≤ i ∧ i < o + k then gt src (p + (i - o)) else gt dst i
  | 0, _ => by rw [if_neg (by omega)]; rfl
  | k + 1, h => by
    unfold cp
    rw [gt_set (by rw [cp_length]; omega), cp_gt (by omega)]
    by_cases c : i = o + k
    · subst c; rw [if_pos rfl, if_pos ⟨by omega, by omega⟩, Nat.add_sub_cancel_left]
    · rw [if_neg c]
      by_cases c2 : o ≤ i ∧ i < o + k
      · rw [if_pos c2, if_pos ⟨c2.1, by omega⟩]
      · rw [if_neg c2, if_neg (by omega)]
theorem gt_beyond {xs : List Int} {i : Nat} (h : xs.length ≤ i) : gt xs i = 0 := by
  unfold gt; rw [List.getElem?_eq_none h]; rfl
theorem gt_ext {xs ys : List Int} (h : xs.length = ys.length) (e : ∀ i, gt xs i = gt ys i) : xs = ys := by
  apply List.ext_getElem? 
  intro i
  by_cases c : i < xs.length
  · rw [gt_some c, gt_some (h ▸ c), e]
  · rw [List.getElem?_eq_none (by omega), List.getElem?_eq_none (by omega)]
/-- called for its deeds: the end is a state of the twin -/
abbrev ends (h0 : AH) (M : Nat) (Q : Rs → (Nat → List Int) → (Nat → Int) → Prop) : Rs → AH → Prop := fun r h' => ∃ A' sc', h' = tw h0 M A' sc' ∧ lens A' ∧ Q r A' sc'
