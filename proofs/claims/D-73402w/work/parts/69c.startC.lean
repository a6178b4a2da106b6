/-! THE START's HEAP -/
set_option maxRecDepth 100000
def digO : List Int := (List.range 100).map fun j => ((48 + j % 10 : Nat) : Int)
def digT : List Int := (List.range 100).map fun j => ((48 + j / 10 : Nat) : Int)
/-- what lies there before: the script, the digits, an empty row, constants, two texts -/
def Start (h : AH) (b : Nat) (xs : List Int) : Prop :=
  h.I b = (201, xs) ∧ (∃ a, h.S 1 = some a ∧ h.I a = (203, digO)) ∧ (∃ a, h.S 2 = some a ∧ h.I a = (203, digT)) ∧ (∃ a, h.S 4 = some a ∧ h.R a = (206, [])) ∧ (∃ a, h.S 7 = some a ∧ h.F a = (228, [])) ∧
  ((∃ a, h.S 8 = some a ∧ h.F a = (221, [])) ∧ (∃ a, h.S 9 = some a ∧ h.F a = (222, [])) ∧ ∃ a, h.S 10 = some a ∧ h.F a = (223, [])) ∧
  (∃ a v w1 w2, h.S 11 = some a ∧ h.F a = (214, [vR (some v), vI 0, w1, w2]) ∧ h.I v = (203, [40])) ∧ (∃ a v w1 w2, h.S 12 = some a ∧ h.F a = (214, [vR (some v), vI 0, w1, w2]) ∧ h.I v = (203, [41])) ∧
  (∃ a l1 l2 l3 l4, h.S 13 = some a ∧ h.R a = (208, [some l1, some l2, some l3, some l4]) ∧ h.F l1 = (224, []) ∧ h.F l2 = (225, []) ∧ h.F l3 = (226, []) ∧ h.F l4 = (227, [])) ∧ ∃ a, h.S 0 = some a
section STARTH
variable {A : Array Value} {s : State}
/-- an old array of bytes -/
def oldB (s : State) (a : Nat) (xs : List Int) : Prop := ∃ cell : Cell, s.heap[a]? = some cell ∧ s.isArrayOf cell .byte ∧ cell.vm ≠ .unknown ∧ cell.slots.size = xs.length ∧ xs.length < 2 ^ 31 ∧ ∀ (j : Nat) (y : Int), xs[j]? = some y → ∃ v, cell.slots[j]? = some v ∧ fits .byte v = true ∧ aV v = vI y
theorem oldB_of {t : Term} {n : Nat} {xs : List Int} (hC : (Cond.exactly t "[B").before A s = true) (hb : (Cond.arrayOf t .byte).before A s = true) (hl : (Cond.eq (.length t) (.int (Int32.ofNat n))).before A s = true) (hn : n < 2 ^ 31) (hx : xs.length = n)
    (he : ∀ j, j < n → (Cond.eq (.elem t (.int (Int32.ofNat j))) (.int (Int32.ofInt (xs[j]?.getD 0)))).before A s = true) (hj : ∀ j, j < n → ¬ Int32.ofNat j < 0 ∧ (Int32.ofNat j).toNatClampNeg = j) (hf : ∀ j, j < n → fits .byte (.int (Int32.ofInt (xs[j]?.getD 0))) = true ∧ (Int32.ofInt (xs[j]?.getD 0)).toInt = xs[j]?.getD 0) : ∃ a, t.eval A s none [] s = some (.ref a) ∧ oldB s a xs := by
  obtain ⟨a, c, cell, k, e1, e2, e3, e4, e5, e6, -⟩ := Cond.exactly_spec hC
  obtain ⟨i1, i2⟩ := Cond.arrayOf_spec hb e1 e3
  have hat := arr_at e3 i1 i2
  have hsz := len_at e1 hat hl rfl hn
  refine ⟨a, e1, cell, e3, i1, i2, by rw [hsz, hx], by rw [hx]; exact hn, fun j y hy => ?_⟩
  have hlt : j < n := by rw [← hx]; exact (List.getElem?_eq_some_iff.mp hy).1
  have hv := elem_at e1 hat (eq_int (he j hlt)) (hj j hlt)
  refine ⟨_, hv, (hf j hlt).1, ?_⟩
  show vI (Int32.ofInt (xs[j]?.getD 0)).toInt = vI y
  rw [(hf j hlt).2, hy]; rfl
/-- an old object of a class without fields that are told -/
def oldF (s : State) (a : Nat) (C : String) : Prop := ∃ (cell : Cell) (c : ClassId), s.heap[a]? = some cell ∧ s.vm.findClass C = some c ∧ cell.cls = c ∧ cell.vm.isStatics = false
theorem oldF_of {t : Term} {C : String} (h : (Cond.exactly t C).before A s = true) : ∃ a, t.eval A s none [] s = some (.ref a) ∧ oldF s a C := by
  obtain ⟨a, c, cell, k, e1, e2, e3, e4, e5, e6, -⟩ := Cond.exactly_spec h
  exact ⟨a, e1, cell, c, e3, e2, e6, e5⟩
theorem oldF_ne {a b : Nat} {C C' : String} (h1 : oldF s a C) (h2 : oldF s b C') (hne : C ≠ C') : a ≠ b := by
  rintro rfl
  obtain ⟨x1, c1, a1, a2, a3, -⟩ := h1
  obtain ⟨x2, c2, b1, b2, b3, -⟩ := h2
  cases a1.symm.trans b1
  obtain ⟨k1, p1, p2⟩ := Vm.findClass_spec a2
  obtain ⟨k2, q1, q2⟩ := Vm.findClass_spec b2
  rw [← a3] at p1
  rw [← b3] at q1
  cases p1.symm.trans q1
  exact hne (p2.symm.trans q2)
theorem field_eval {t : Term} {a : Nat} {C f d : String} {v : Value} (ht : t.eval A s none [] s = some (.ref a)) (h : (Term.field t C f d).eval A s none [] s = some v) : s.fieldOf? a C f d = some v := by
  simp only [Term.eval, ht, Option.bind_eq_bind, Option.bind_some] at h
  exact h
/-- an old text -/
def oldS (s : State) (dC : Nat → ClassId) (dJ : Nat → Nat → Nat) (a v : Nat) (w1 w2 : AV) : Prop := ∃ cell : Cell, s.heap[a]? = some cell ∧ cell.cls = dC 14 ∧ cell.vm ≠ .unknown ∧ cell.vm.isStatics = false ∧ ∀ (k : Nat) (x : AV), [vR (some v), vI 0, w1, w2][k]? = some x → ∃ w, cell.slots[dJ 14 k]? = some w ∧ aV w = x
theorem fieldOf_at {a i : Nat} {C f d : String} {v : Value} {cell : Cell} (h : s.fieldOf? a C f d = some v) (hc : s.heap[a]? = some cell) (hS : SlotIs s C f d i) : cell.slots[i]? = some v ∧ cell.vm ≠ .unknown := by
  obtain ⟨cf, kf, fi, fd, hi, rfl⟩ := hS
  simp only [State.fieldOf?, State.fieldNamed?, hc, hi, Option.bind_eq_bind, Option.bind_some] at h
  cases hst : fd.isStatic with
  | true => simp [hst] at h
  | false =>
    simp only [hst, beq_self_eq_true, if_true, Option.pure_def, Option.bind_some] at h
    by_cases c : cell.vm = .unknown ∨ cell.vm.isStatics = true ∨ s.vm.assignable cell.cls cf = false
    · rw [if_pos c] at h; cases h
    · rw [if_neg c] at h
      exact ⟨h, fun z => c (Or.inl z)⟩
theorem oldS_of {dC : Nat → ClassId} {dJ : Nat → Nat → Nat} {t : Term} (hts : ∀ w ∈ lw_all, w.before A s = true) (hK : u_Kn s RJ18 TJ18 4 (dC 14) (dJ 14)) (hC : (Cond.exactly t "java/lang/String").before A s = true) (hV : (Cond.exactly (.field t "java/lang/String" "value" "[B") "[B").before A s = true) (hc : (Cond.eq (.field t "java/lang/String" "coder" "B") (.int 0)).before A s = true) : ∃ a v w1 w2, t.eval A s none [] s = some (.ref a) ∧ (Term.field t "java/lang/String" "value" "[B").eval A s none [] s = some (.ref v) ∧ oldS s dC dJ a v w1 w2 := by
  obtain ⟨a, c, cell, k, e1, e2, e3, e4, e5, e6, e7⟩ := Cond.exactly_spec hC
  obtain ⟨v, -, -, -, v1, -⟩ := Cond.exactly_spec hV
  obtain ⟨hS, hfc, kC, hkC, hkind⟩ := hK
  have i1 : c = dC 14 := Option.some.inj (e2.symm.trans hfc)
  subst i1
  cases e4.symm.trans hkC
  have hsz := e7 hkind
  obtain ⟨f0, u0⟩ := fieldOf_at (field_eval e1 v1) e3 (hS 0 (by decide))
  obtain ⟨f1, -⟩ := fieldOf_at (field_eval e1 (eq_int hc)) e3 (hS 1 (by decide))
  have more : ∀ j, j < 4 → ∃ w, cell.slots[dJ 14 j]? = some w := by
    intro j hj
    obtain ⟨cf, kf, fi, fd, hi, he⟩ := hS j hj
    have h3 := (u_facts hfc hkC (u_lays hts in_J18 hj) hi).2.2
    rw [he] at h3
    have hlt : dJ 14 j < cell.slots.size := by
      rw [hsz]
      exact (Array.getElem?_eq_some_iff.mp h3).1
    exact ⟨_, Array.getElem?_eq_getElem hlt⟩
  obtain ⟨x2, f2⟩ := more 2 (by decide)
  obtain ⟨x3, f3⟩ := more 3 (by decide)
  refine ⟨a, v, aV x2, aV x3, e1, v1, cell, e3, e6, u0, e5, fun j x hx => ?_⟩
  match j, hx with
  | 0, hx => cases hx; exact ⟨_, f0, rfl⟩
  | 1, hx => cases hx; exact ⟨_, f1, rfl⟩
  | 2, hx => cases hx; exact ⟨_, f2, rfl⟩
  | 3, hx => cases hx; exact ⟨_, f3, rfl⟩
  | j + 4, hx => simp at hx
end STARTH
