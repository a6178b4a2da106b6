/-! THE COMPONENT: what lies in the heap; branches -/
/-- nothing that was there has changed; at most so many cells and slots more -/
def ext (c s : Nat) (h h' : AH) : Prop := h.sz ≤ h'.sz ∧ h'.sz ≤ h.sz + c ∧ h.sl ≤ h'.sl ∧ h'.sl ≤ h.sl + s ∧ (∀ a, a < h.sz → h'.I a = h.I a ∧ h'.R a = h.R a ∧ h'.F a = h.F a) ∧ h'.S = h.S
theorem ext.refl {h : AH} : ext 0 0 h h := ⟨Nat.le_refl _, Nat.le_refl _, Nat.le_refl _, Nat.le_refl _, fun _ _ => ⟨rfl, rfl, rfl⟩, rfl⟩
theorem ext.trans {c s c' s' : Nat} {h h1 h2 : AH} (k1 : ext c s h h1) (k2 : ext c' s' h1 h2) : ext (c + c') (s + s') h h2 := by
  obtain ⟨a1, a2, a3, a4, a5, a6⟩ := k1
  obtain ⟨b1, b2, b3, b4, b5, b6⟩ := k2
  refine ⟨by omega, by omega, by omega, by omega, fun a ha => ?_, b6.trans a6⟩
  have p := a5 a ha
  have q := b5 a (by omega)
  exact ⟨q.1.trans p.1, q.2.1.trans p.2.1, q.2.2.trans p.2.2⟩
theorem ext.more {c s c' s' : Nat} {h h' : AH} (k : ext c s h h') (hc : c ≤ c') (hs : s ≤ s') : ext c' s' h h' := by
  obtain ⟨a1, a2, a3, a4, a5, a6⟩ := k
  exact ⟨a1, by omega, a3, by omega, a5, a6⟩
theorem ext_newI {h : AH} {t : Nat} {x : List Int} : ext 1 x.length h (h.newI t x) := by
  refine ⟨Nat.le_succ _, Nat.le_refl _, Nat.le_add_right _ _, Nat.le_refl _, fun a ha => ⟨?_, rfl, rfl⟩, rfl⟩
  show (if a = h.sz then (t, x) else h.I a) = h.I a
  rw [if_neg (by omega)]
theorem ext_newR {h : AH} {t : Nat} {x : List (Option Nat)} : ext 1 x.length h (h.newR t x) := by
  refine ⟨Nat.le_succ _, Nat.le_refl _, Nat.le_add_right _ _, Nat.le_refl _, fun a ha => ⟨rfl, ?_, rfl⟩, rfl⟩
  show (if a = h.sz then (t, x) else h.R a) = h.R a
  rw [if_neg (by omega)]
theorem ext_newF {h : AH} {t : Nat} {x : List AV} : ext 1 x.length h (h.newF t x) := by
  refine ⟨Nat.le_succ _, Nat.le_refl _, Nat.le_add_right _ _, Nat.le_refl _, fun a ha => ⟨rfl, rfl, ?_⟩, rfl⟩
  show (if a = h.sz then (t, x) else h.F a) = h.F a
  rw [if_neg (by omega)]
theorem newI_at {h : AH} {t : Nat} {x : List Int} : (h.newI t x).I h.sz = (t, x) := if_pos rfl
theorem newR_at {h : AH} {t : Nat} {x : List (Option Nat)} : (h.newR t x).R h.sz = (t, x) := if_pos rfl
theorem newF_at {h : AH} {t : Nat} {x : List AV} : (h.newF t x).F h.sz = (t, x) := if_pos rfl
/-- an object changes, all else is as it was -/
theorem setF_at {h : AH} {a t : Nat} {x y : List AV} (e : h.F a = (t, x)) : (h.setF a y).F a = (t, y) := by
  show (if a = a then ((h.F a).1, y) else h.F a) = _
  rw [if_pos rfl, e]
theorem setF_ne {h : AH} {a b : Nat} {y : List AV} (e : b ≠ a) : (h.setF a y).F b = h.F b := if_neg e
theorem setR_at {h : AH} {a t : Nat} {x y : List (Option Nat)} (e : h.R a = (t, x)) : (h.setR a y).R a = (t, y) := by
  show (if a = a then ((h.R a).1, y) else h.R a) = _
  rw [if_pos rfl, e]
theorem setR_ne {h : AH} {a b : Nat} {y : List (Option Nat)} (e : b ≠ a) : (h.setR a y).R b = h.R b := if_neg e
theorem setI_at {h : AH} {a t : Nat} {x y : List Int} (e : h.I a = (t, x)) : (h.setI a y).I a = (t, y) := by
  show (if a = a then ((h.I a).1, y) else h.I a) = _
  rw [if_pos rfl, e]
theorem setI_ne {h : AH} {a b : Nat} {y : List Int} (e : b ≠ a) : (h.setI a y).I b = h.I b := if_neg e
abbrev brF (p : Nat) (t : Tr) : List AV := [vR (some p), vI ((szT t : Nat) : Int), vI ((tallT t : Nat) : Int), vL ((waysT t : Nat) : Int), vL ((formsT t : Nat) : Int), vL ((ownT t : Nat) : Int)]
/-- a row of references to branches -/
def BrL (h : AH) : Tr → List (Option Nat) → Prop
  | .var _, rs => rs = []
  | .op a b, rs => ∃ x p r qs, rs = some x :: r ∧ (x < h.sz ∧ h.F x = (7, brF p a) ∧ p < h.sz ∧ h.R p = (1, qs) ∧ BrL h a qs) ∧ BrL h b r
/-- a branch -/
def BrAt (h : AH) (x : Nat) (t : Tr) : Prop := ∃ p qs, x < h.sz ∧ h.F x = (7, brF p t) ∧ p < h.sz ∧ h.R p = (1, qs) ∧ BrL h t qs
theorem BrL.mono {h h' : AH} {c s : Nat} (e : ext c s h h') : ∀ {t : Tr} {rs : List (Option Nat)}, BrL h t rs → BrL h' t rs
  | .var _, _, k => k
  | .op a b, rs, ⟨x, p, r, qs, k1, ⟨k2, k3, k4, k5, k6⟩, k7⟩ => by
    have e5 := e.2.2.2.2.1
    have e1 := e.1
    exact ⟨x, p, r, qs, k1, ⟨by omega, (e5 x k2).2.2.trans k3, by omega, (e5 p k4).2.1.trans k5, BrL.mono e k6⟩, BrL.mono e k7⟩
theorem BrAt.mono {h h' : AH} {c s x : Nat} {t : Tr} (e : ext c s h h') (k : BrAt h x t) : BrAt h' x t := by
  obtain ⟨p, qs, k2, k3, k4, k5, k6⟩ := k
  have e5 := e.2.2.2.2.1
  have e1 := e.1
  exact ⟨p, qs, by omega, (e5 x k2).2.2.trans k3, by omega, (e5 p k4).2.1.trans k5, BrL.mono e k6⟩
theorem BrL_len {h : AH} : ∀ {t : Tr} {rs : List (Option Nat)}, BrL h t rs → rs.length = (kidsT t).length
  | .var _, rs, k => by have k : rs = [] := k; rw [k]; rfl
  | .op a b, rs, ⟨x, p, r, qs, k1, _, k7⟩ => by rw [k1]; simp only [kidsT, List.length_cons, BrL_len k7]
theorem BrL_at {h : AH} : ∀ {t : Tr} {rs : List (Option Nat)}, BrL h t rs → ∀ (k : Nat) (u : Tr), (kidsT t)[k]? = some u → ∃ x, rs[k]? = some (some x) ∧ BrAt h x u
  | .var _, rs, k, j, u, hj => by simp [kidsT] at hj
  | .op a b, rs, ⟨x, p, r, qs, k1, k2, k7⟩, j, u, hj => by
    cases j with
    | zero =>
      have hj : some a = some u := hj
      cases hj
      rw [k1]
      exact ⟨x, rfl, p, qs, k2⟩
    | succ j =>
      have hj : (kidsT b)[j]? = some u := hj
      rw [k1, List.getElem?_cons_succ]
      exact BrL_at k7 j u hj
theorem BrL_of {h : AH} : ∀ {l : List Tr} {rs : List (Option Nat)}, rs.length = l.length → (∀ (k : Nat) (u : Tr), l[k]? = some u → ∃ x, rs[k]? = some (some x) ∧ BrAt h x u) → BrL h (mkT l) rs
  | [], rs, h1, _ => List.length_eq_zero_iff.mp h1
  | a :: l, rs, h1, h2 => by
    obtain ⟨x, hx, p, qs, k2⟩ := h2 0 a rfl
    cases rs with
    | nil => simp at h1
    | cons y r =>
      have hx : some y = some (some x) := hx
      cases hx
      refine ⟨x, p, r, qs, rfl, k2, BrL_of (by simpa using h1) fun k u hk => ?_⟩
      have := h2 (k + 1) u (by rw [List.getElem?_cons_succ]; exact hk)
      rw [List.getElem?_cons_succ] at this
      exact this
theorem in_spec {d : Nat} {v lo hi : Int} {h : AH} : wp (d + 1) 174 (0, ent 6 [vL v, vL lo, vL hi], [], h) (gives h (if lo ≤ v ∧ v ≤ hi then 1 else 0)) := by
  refine wp.go [] 20 fun W C hW hC => ?_
  refine ⟨fun c => ?_, fun c => ?_⟩
  · have c := lcmp_lt.mp c
    rw [if_neg (by omega)]
    exact ⟨Or.inl rfl, rfl, rfl⟩
  · have c1 : ¬ v < lo := fun q => absurd (lcmp_lt.mpr q) (by omega)
    refine ⟨fun c2 => ?_, fun c2 => ?_⟩
    · have c2 := lcmp_gt.mp c2
      rw [if_neg (by omega)]
      exact ⟨Or.inl rfl, rfl, rfl⟩
    · have c3 : ¬ hi < v := fun q => absurd (lcmp_gt.mpr q) (by omega)
      rw [if_pos (by omega)]
      exact ⟨Or.inr rfl, rfl, rfl⟩
theorem min_spec {d : Nat} {x y : Int} {h : AH} : wp (d + 1) 161 (0, ent 2 [vI x, vI y], [], h) (gives h (min x y)) := by
  refine wp.go [] 20 fun W C hW hC => ?_
  refine ⟨fun c => ⟨?_, rfl⟩, fun c => ⟨?_, rfl⟩⟩
  · rw [show min x y = y by omega]
  · rw [show min x y = x by omega]
theorem max_spec {d : Nat} {x y : Int} {h : AH} : wp (d + 1) 162 (0, ent 2 [vI x, vI y], [], h) (gives h (max x y)) := by
  refine wp.go [] 20 fun W C hW hC => ?_
  refine ⟨fun c => ⟨?_, rfl⟩, fun c => ⟨?_, rfl⟩⟩
  · rw [show max x y = y by omega]
  · rw [show max x y = x by omega]
theorem icomp_spec {d : Nat} {x y : Int} {h : AH} : wp (d + 1) 9 (0, ent 2 [vI x, vI y], [], h) (gives h (if x < y then -1 else if x = y then 0 else 1)) := by
  refine wp.go [] 20 fun W C hW hC => ?_
  refine ⟨fun c => ?_, fun c => ⟨?_, rfl⟩⟩
  · refine ⟨fun c2 => ⟨?_, rfl⟩, fun c2 => ⟨?_, rfl⟩⟩
    · rw [if_neg (by omega), if_neg c2]
    · rw [if_neg (by omega), if_pos c2]
  · rw [if_pos (by omega)]
theorem bit_spec {d : Nat} {b : Bool} {h : AH} : wp (d + 1) 201 (0, ent 1 [vI (z01 b)], [], h) (gives h (z01 b)) := by
  refine wp.go [] 20 fun W C hW hC => ?_
  cases b with
  | true => exact ⟨fun c => absurd c (by decide), fun _ => ⟨rfl, rfl⟩⟩
  | false => exact ⟨fun _ => ⟨rfl, rfl⟩, fun c => absurd rfl c⟩
