/-! THE ABSTRACT MACHINE AGAINST THE REAL ONE: what a heap, locals and a stack stand for -/
abbrev GD : Type := (Nat → Option vw_C) × (Nat → Option FieldType) × (Nat → ClassId) × (Nat → Nat → Nat) × (Nat → ClassId) × (Nat → ClassId) × Heap × (Nat → Option Nat) × (Nat → List (Nat × Nat))
abbrev GD.cof (D : GD) : Nat → Option vw_C := D.1
abbrev GD.rof (D : GD) : Nat → Option FieldType := D.2.1
abbrev GD.C (D : GD) : Nat → ClassId := D.2.2.1
abbrev GD.J (D : GD) : Nat → Nat → Nat := D.2.2.2.1
abbrev GD.A (D : GD) : Nat → ClassId := D.2.2.2.2.1
abbrev GD.B (D : GD) : Nat → ClassId := D.2.2.2.2.2.1
abbrev GD.H0 (D : GD) : Heap := D.2.2.2.2.2.2.1
abbrev GD.b (D : GD) : Nat := D.H0.size
abbrev GD.S (D : GD) : Nat → Option Nat := D.2.2.2.2.2.2.2.1
abbrev GD.E (D : GD) : Nat → List (Nat × Nat) := D.2.2.2.2.2.2.2.2
def iof (t : Nat) : Option FieldType := if t = 1 then some .int else if t = 2 then some .long else if t = 3 then some .byte else if t = 4 then some .boolean else none
def kid (D : GD) (k : Nat × Nat) : ClassId := match k.1 with
  | 0 => D.C k.2
  | 1 => D.A k.2
  | _ => D.B k.2
def RAk (D : GD) (s : State) (u : Nat) (ty : FieldType) : Prop := ty.isReference = true ∧ s.vm.findClass ("[" ++ ty.toString) = some (D.B u) ∧ ∃ (kA : Class) (comp : ClassId) (kcomp : Class), s.vm.classes[D.B u]? = some kA ∧ kA.kind = .array comp ty ∧ s.vm.classes[comp]? = some kcomp ∧
  ∀ k, (D.E u).elem k = true → k.2 ≠ 0 → s.vm.assignable (kid D k) comp = true ∧ ∃ kv : Class, s.vm.classes[kid D k]? = some kv
/-- the tables' classes at a state -/
def KB (D : GD) (s : State) : Prop := (∀ t q, D.cof t = some q → (s.vm.findClass q.1 = some (D.C t) ∧ ∃ k : Class, s.vm.classes[D.C t]? = some k) ∧ (q.2.2 ≠ 0 → u_Kn s q.1 q.2.1 q.2.2 (D.C t) (D.J t))) ∧ (∀ t ty, iof t = some ty → ArrOfT s (D.A t) ty ∧ s.vm.findClass ("[" ++ ty.toString) = some (D.A t)) ∧ ∀ t ty, D.rof t = some ty → RAk D s t ty
theorem KB.kn {D : GD} {s : State} {t N : Nat} {C : String} {T : u_T} (hK : KB D s) (hc : D.cof t = some (C, T, N)) (hN : N ≠ 0) : u_Kn s C T N (D.C t) (D.J t) := (hK.1 t _ hc).2 hN
def eV (t : Nat) (x : Int) : AV := if t = 2 then vL x else vI x
def cokI (D : GD) (s : State) (t : Nat) (xs : List Int) (cell : Cell) : Prop := ∃ ty, iof (t % 200) = some ty ∧ s.isArrayOf cell ty ∧ cell.vm ≠ .unknown ∧ (t < 200 → cell.vm = .none ∧ cell.cls = D.A t) ∧ cell.slots.size = xs.length ∧ xs.length < 2 ^ 31 ∧ ∀ (j : Nat) (y : Int), xs[j]? = some y → ∃ v, cell.slots[j]? = some v ∧ fits ty v = true ∧ aV v = eV (t % 200) y
def cokR (D : GD) (s : State) (t : Nat) (rs : List (Option Nat)) (cell : Cell) : Prop := ∃ ty, D.rof (t % 200) = some ty ∧ s.isArrayOf cell ty ∧ cell.vm ≠ .unknown ∧ (t < 200 → cell.vm = .none) ∧ cell.cls = D.B (t % 200) ∧ cell.slots.size = rs.length ∧ rs.length < 2 ^ 31 ∧ ∀ (j : Nat) (r : Option Nat), rs[j]? = some r → cell.slots[j]? = some (va_rf r)
def cokF (D : GD) (t : Nat) (fs : List AV) (cell : Cell) : Prop := ∃ q, D.cof (t % 200) = some q ∧ cell.cls = D.C (t % 200) ∧ (fs ≠ [] → cell.vm ≠ .unknown) ∧ cell.vm.isStatics = false ∧ (t < 200 → cell.vm = .none) ∧ fs.length = q.2.2 ∧ ∀ (k : Nat) (v : AV), fs[k]? = some v → ∃ w, cell.slots[D.J (t % 200) k]? = some w ∧ aV w = v
def hrel (D : GD) (s : State) (h : AH) (H : Heap) : Prop := H.size = h.sz ∧ (D.b ≤ h.sz ∧ ∀ q : Nat, q < D.b → H[q]? = D.H0[q]?) ∧ h.S = D.S ∧
  (∀ a t xs, h.I a = (t, xs) → t ≠ 0 → (t < 200 → D.b ≤ a) ∧ ∃ cell, H[a]? = some cell ∧ cokI D s t xs cell) ∧
  (∀ a t rs, h.R a = (t, rs) → t ≠ 0 → (t < 200 → D.b ≤ a) ∧ ∃ cell, H[a]? = some cell ∧ cokR D s t rs cell) ∧
  (∀ a t fs, h.F a = (t, fs) → t ≠ 0 → (t < 200 → D.b ≤ a) ∧ ∃ cell, H[a]? = some cell ∧ cokF D t fs cell)
def lrel (ls : Array Slot) (nL : Nat) (L : Ls) : Prop := ls.size = nL ∧ lv_wf ls ∧ L.length = nL ∧ ∀ i v, lg L i = some v → ∃ w, ls[i]? = some (.val w) ∧ aV w = v
theorem aV_I {v : Value} {y : Int} (h : aV v = vI y) : ∃ i : Int32, v = .int i ∧ i.toInt = y := by
  cases v <;> simp [aV] at h
  exact ⟨_, rfl, h⟩
theorem aV_L {v : Value} {y : Int} (h : aV v = vL y) : ∃ i : Int64, v = .long i ∧ i.toInt = y := by
  cases v <;> simp [aV] at h
  exact ⟨_, rfl, h⟩
theorem aV_R {v : Value} {r : Option Nat} (h : aV v = vR r) : v = va_rf r := by
  cases v <;> simp [aV] at h
  all_goals (subst h; rfl)
theorem aV_rf (r : Option Nat) : aV (va_rf r) = vR r := by cases r <;> rfl
theorem aV_cat {v : Value} (h : cat (aV v) = 1) : v.category = 1 := by
  cases v <;> first | rfl | (simp [aV, cat] at h)
theorem aV_cat2 {v : Value} (h : cat (aV v) = 2) : v.category = 2 := by
  cases v <;> first | rfl | (simp [aV, cat] at h)
theorem aV_catle (v : Value) : v.category ≤ cat (aV v) := by
  cases v <;> simp [aV, cat, Value.category]
theorem ofI32 (i : Int32) : Int32.ofInt i.toInt = i := Int32.ofInt_toInt i
theorem ofI64 (i : Int64) : Int64.ofInt i.toInt = i := Int64.ofInt_toInt i
theorem st_cons {stc : List Value} {a : AV} {r : List AV} (h : stc.map aV = a :: r) : ∃ v rc, stc = v :: rc ∧ aV v = a ∧ rc.map aV = r := by
  cases stc with
  | nil => simp at h
  | cons v rc =>
    simp only [List.map_cons, List.cons.injEq] at h
    exact ⟨v, rc, rfl, h.1, h.2⟩
theorem st_I {stc : List Value} {y : Int} {r : List AV} (h : stc.map aV = vI y :: r) : ∃ i rc, stc = .int i :: rc ∧ i.toInt = y ∧ rc.map aV = r := by
  obtain ⟨v, rc, rfl, h1, h2⟩ := st_cons h
  obtain ⟨i, rfl, hi⟩ := aV_I h1
  exact ⟨i, rc, rfl, hi, h2⟩
theorem st_L {stc : List Value} {y : Int} {r : List AV} (h : stc.map aV = vL y :: r) : ∃ i rc, stc = .long i :: rc ∧ i.toInt = y ∧ rc.map aV = r := by
  obtain ⟨v, rc, rfl, h1, h2⟩ := st_cons h
  obtain ⟨i, rfl, hi⟩ := aV_L h1
  exact ⟨i, rc, rfl, hi, h2⟩
theorem st_R {stc : List Value} {y : Option Nat} {r : List AV} (h : stc.map aV = vR y :: r) : ∃ rc, stc = va_rf y :: rc ∧ rc.map aV = r := by
  obtain ⟨v, rc, rfl, h1, h2⟩ := st_cons h
  exact ⟨rc, by rw [aV_R h1], h2⟩
theorem st_nil {stc : List Value} (h : stc.map aV = []) : stc = [] := by simpa using h
/-! locals -/
theorem lg_lset : ∀ (L : Ls) (i : Nat) (v : Option AV) (j : Nat), lg (lset L i v) j = if j = i ∧ i < L.length then v else lg L j
  | [], _, _, _ => by simp [lset, lg]
  | o :: r, 0, v, 0 => by simp [lset, lg]
  | o :: r, 0, v, j + 1 => by simp [lset, lg]
  | o :: r, i + 1, v, 0 => by simp [lset, lg]
  | o :: r, i + 1, v, j + 1 => by simp [lset, lg, lg_lset r i v j]
theorem len_lset : ∀ (L : Ls) (i : Nat) (v : Option AV), (lset L i v).length = L.length
  | [], _, _ => rfl
  | _ :: _, 0, _ => rfl
  | _ :: r, i + 1, v => by simp [lset, len_lset r i v]
theorem len_lst1 : ∀ (L : Ls) (i : Nat) (v : AV), (lst1 L i v).length = L.length
  | [], _, _ => by simp [lst1]
  | _ :: _, 0, _ => by simp [lst1]
  | _ :: r, 1, v => by simp [lst1, len_lset]
  | _ :: r, i + 2, v => by simp [lst1, len_lst1 r (i + 1) v]
theorem len_lst2 : ∀ (L : Ls) (i : Nat) (v : AV), (lst2 L i v).length = L.length
  | [], _, _ => by simp [lst2]
  | _ :: _, 0, _ => by simp [lst2, len_lset]
  | _ :: r, 1, v => by simp [lst2, len_lset]
  | _ :: r, i + 2, v => by simp [lst2, len_lst2 r (i + 1) v]
theorem lg_none : ∀ (L : Ls) (i : Nat), L.length ≤ i → lg L i = none
  | [], _, _ => by simp [lg]
  | _ :: _, 0, h => by simp at h
  | _ :: r, i + 1, h => by simp [lg]; exact lg_none r i (by simpa using h)
theorem lclr_some {o : Option AV} {v : AV} (h : lclr o = some v) : o = some v ∧ cat v = 1 := by
  unfold lclr at h
  split at h
  · cases h
  · cases h
  · rename_i hne hne2
    refine ⟨h, ?_⟩
    rcases v with y | y | y | y
    · rfl
    · exact absurd h (hne y)
    · rfl
    · exact absurd h (hne2 y)
/-- what a local holds behind a store of one slot -/
theorem lg_lst1 : ∀ (L : Ls) (i : Nat) (v : AV) (j : Nat) (w : AV), lg (lst1 L i v) j = some w → (j = i ∧ w = v) ∨ (j ≠ i ∧ lg L j = some w ∧ ¬ (j + 1 = i ∧ cat w ≠ 1))
  | [], _, _, _, _, h => by simp [lst1, lg] at h
  | o :: r, 0, v, 0, w, h => by simp [lst1, lg] at h; exact Or.inl ⟨rfl, h.symm⟩
  | o :: r, 0, v, j + 1, w, h => by simp [lst1, lg] at h; exact Or.inr ⟨by omega, by simpa [lg] using h, by omega⟩
  | o :: r, 1, v, 0, w, h => by
    simp only [lst1, lg] at h
    obtain ⟨h1, h2⟩ := lclr_some h
    exact Or.inr ⟨by omega, by simpa [lg] using h1, fun q => q.2 h2⟩
  | o :: r, 1, v, j + 1, w, h => by
    simp only [lst1, lg, lg_lset] at h
    by_cases c : j = 0 ∧ 0 < r.length
    · rw [if_pos c] at h
      exact Or.inl ⟨by omega, (Option.some.inj h).symm⟩
    · rw [if_neg c] at h
      by_cases c2 : j = 0
      · have : r = [] := List.length_eq_zero_iff.mp (by omega)
        subst this
        simp [lg] at h
      · exact Or.inr ⟨by omega, by simpa [lg] using h, by omega⟩
  | o :: r, i + 2, v, 0, w, h => by simp [lst1, lg] at h; exact Or.inr ⟨by omega, by simpa [lg] using h, by omega⟩
  | o :: r, i + 2, v, j + 1, w, h => by
    simp only [lst1, lg] at h
    rcases lg_lst1 r (i + 1) v j w h with ⟨h1, h2⟩ | ⟨h1, h2, h3⟩
    · exact Or.inl ⟨by omega, h2⟩
    · exact Or.inr ⟨by omega, by simpa [lg] using h2, fun q => h3 ⟨by omega, q.2⟩⟩
theorem lg_lst2 : ∀ (L : Ls) (i : Nat) (v : AV) (j : Nat) (w : AV), lg (lst2 L i v) j = some w → (j = i ∧ w = v) ∨ (j ≠ i ∧ j ≠ i + 1 ∧ lg L j = some w ∧ ¬ (j + 1 = i ∧ cat w ≠ 1))
  | [], _, _, _, _, h => by simp [lst2, lg] at h
  | o :: r, 0, v, 0, w, h => by simp [lst2, lg] at h; exact Or.inl ⟨rfl, h.symm⟩
  | o :: r, 0, v, j + 1, w, h => by
    simp only [lst2, lg, lg_lset] at h
    by_cases c : j = 0 ∧ 0 < r.length
    · rw [if_pos c] at h; cases h
    · rw [if_neg c] at h
      by_cases c2 : j = 0
      · have : r = [] := List.length_eq_zero_iff.mp (by omega)
        subst this
        simp [lg] at h
      · exact Or.inr ⟨by omega, by omega, by simpa [lg] using h, by omega⟩
  | o :: r, 1, v, 0, w, h => by
    simp only [lst2, lg] at h
    obtain ⟨h1, h2⟩ := lclr_some h
    exact Or.inr ⟨by omega, by omega, by simpa [lg] using h1, fun q => q.2 h2⟩
  | o :: r, 1, v, j + 1, w, h => by
    simp only [lst2, lg, lg_lset, len_lset] at h
    by_cases c1 : j = 1 ∧ 1 < r.length
    · rw [if_pos c1] at h; cases h
    · rw [if_neg c1] at h
      by_cases c : j = 0 ∧ 0 < r.length
      · rw [if_pos c] at h
        exact Or.inl ⟨by omega, (Option.some.inj h).symm⟩
      · rw [if_neg c] at h
        have hlt : j < r.length := by
          rcases Nat.lt_or_ge j r.length with q | q
          · exact q
          · exact absurd h (by rw [lg_none r j q]; simp)
        exact Or.inr ⟨by omega, by omega, by simpa [lg] using h, by omega⟩
  | o :: r, i + 2, v, 0, w, h => by simp [lst2, lg] at h; exact Or.inr ⟨by omega, by omega, by simpa [lg] using h, by omega⟩
  | o :: r, i + 2, v, j + 1, w, h => by
    simp only [lst2, lg] at h
    rcases lg_lst2 r (i + 1) v j w h with ⟨h1, h2⟩ | ⟨h1, h4, h2, h3⟩
    · exact Or.inl ⟨by omega, h2⟩
    · exact Or.inr ⟨by omega, by omega, by simpa [lg] using h2, fun q => h3 ⟨by omega, q.2⟩⟩
theorem cats_le : ∀ {rc : List Value} {r : List AV}, rc.map aV = r → (rc.map fun v => v.category).sum ≤ cats r
  | [], _, h => by subst h; simp [cats]
  | v :: rc, _, h => by
    subst h
    simp only [List.map_cons, List.sum_cons, cats]
    have h1 := aV_catle v
    have h2 := cats_le (rc := rc) rfl
    omega
