/-! THE START: what the Statement gives of classes and constants -/
def fnd {β : Type} (d : β) : List (Nat × β) → Nat → β
  | [], _ => d
  | (a, v) :: r, q => if q = a then v else fnd d r q
theorem fnd_mem {β : Type} {d v : β} : ∀ {l : List (Nat × β)} {q : Nat}, fnd d l q = v → v = d ∨ (q, v) ∈ l
  | [], q, h => Or.inl h.symm
  | (a, w) :: r, q, h => by
    unfold fnd at h
    by_cases c : q = a
    · rw [if_pos c] at h
      subst c; subst h
      exact Or.inr List.mem_cons_self
    · rw [if_neg c] at h
      rcases fnd_mem h with k | k
      · exact Or.inl k
      · exact Or.inr (List.mem_cons_of_mem _ k)
theorem fnd_get {β : Type} {d v : β} : ∀ {l : List (Nat × β)} {a : Nat}, (l.map (·.1)).Nodup → (a, v) ∈ l → fnd d l a = v
  | [], a, _, h => nomatch h
  | (b, w) :: r, a, hn, h => by
    rw [List.map_cons, List.nodup_cons] at hn
    unfold fnd
    rcases List.mem_cons.mp h with h | h
    · cases h; rw [if_pos rfl]
    · have : a ≠ b := fun e => hn.1 (e ▸ List.mem_map_of_mem (f := (·.1)) h)
      rw [if_neg this]
      exact fnd_get hn.2 h
section STARTA
variable {A : Array Value} {s : State}
def Rk (s : State) (q : vw_C) (c : ClassId) (iS : Nat → Nat) : Prop := ((s.vm.findClass q.1 = some c ∧ ∃ k : Class, s.vm.classes[c]? = some k) ∧ (q.2.2 ≠ 0 → u_Kn s q.1 q.2.1 q.2.2 c iS)) ∧ ∀ a b, a < q.2.2 → b < q.2.2 → a ≠ b → iS a ≠ iS b
theorem slot_inj {C : String} {T : u_T} {N : Nat} {c : ClassId} {iS : Nat → Nat} (hts : ∀ w ∈ lw_all, w.before A s = true) (hin : ∀ w ∈ u_ws C T N, w ∈ lw_all) (ty : Nat → FieldType) (hty : ∀ k, k < N → parseFieldDescriptor (T k).2.2.1 = some (ty k)) (hK : u_Kn s C T N c iS) {a b : Nat} (ha : a < N) (hb : b < N) (hne : (T a).2.1 ≠ (T b).2.1) : iS a ≠ iS b := by
  obtain ⟨cf, kf, fi, fd, hi, he⟩ := hK.1 a ha
  obtain ⟨cf', kf', fi', fd', hi', he'⟩ := hK.1 b hb
  rw [← he, ← he']
  refine u_apart (u_lays hts hin ha) (u_lays hts hin hb) hi hi' ?_
  rw [(State.fieldFound?_type hi (hty a ha)).1, (State.fieldFound?_type hi' (hty b hb)).1]
  exact hne
theorem slot_own {C : String} {T : u_T} {N : Nat} {c : ClassId} {iS : Nat → Nat} (hts : ∀ w ∈ lw_all, w.before A s = true) (hin : ∀ w ∈ u_ws C T N, w ∈ lw_all) (hK : u_Kn s C T N c iS) {a b : Nat} (ha : a < N) (hb : b < N) (fa : (T a).2.2.2 = true) (fb : (T b).2.2.2 = true) (hne : (T a).1 ≠ (T b).1) : iS a ≠ iS b := by
  obtain ⟨cf, kf, fi, fd, hi, he⟩ := hK.1 a ha
  obtain ⟨cf', kf', fi', fd', hi', he'⟩ := hK.1 b hb
  have la := hts _ (hin _ (u_in_lay ha))
  have lb := hts _ (hin _ (u_in_lay hb))
  unfold u_lay at la lb
  rw [if_pos fa] at la
  rw [if_pos fb] at lb
  obtain ⟨c1, k1, d1, e1, i1, f1, r1, -, g1, -, -, -, o1, -, dd1, q1, n1, -⟩ := Cond.laysFinal_spec la
  obtain ⟨c2, k2, d2, e2, i2, f2, r2, -, g2, -, -, -, o2, -, dd2, q2, n2, -⟩ := Cond.laysFinal_spec lb
  cases hi.symm.trans g1
  cases hi'.symm.trans g2
  cases r1.symm.trans r2
  rw [← he, ← he']
  intro e
  rw [e] at q1
  cases q1.symm.trans q2
  obtain ⟨x1, x2, x3⟩ := Vm.findClass_spec o1
  obtain ⟨y1, y2, y3⟩ := Vm.findClass_spec o2
  cases (State.fieldFound?_spec hi).1.symm.trans x2
  cases (State.fieldFound?_spec hi').1.symm.trans y2
  exact hne (by rw [← x3, ← y3, ← n1, ← n2])
theorem kn_of {C : String} {T : u_T} {N n : Nat} (hts : ∀ w ∈ lw_all, w.before A s = true) (hin : ∀ w ∈ u_ws C T N, w ∈ lw_all) (ty : Nat → FieldType) (hty : ∀ k, k < N → parseFieldDescriptor (T k).2.2.1 = some (ty k)) (hi : Cond.instantiable C n ∈ lw_all)
    (hn : ∀ a, a < N → ∀ b, b < N → a ≠ b → (T a).2.1 ≠ (T b).2.1 ∨ ((T a).2.2.2 = true ∧ (T b).2.2.2 = true ∧ (T a).1 ≠ (T b).1)) : ∃ (c : ClassId) (iS : Nat → Nat), Rk s (C, T, N) c iS := by
  obtain ⟨c, iS, hK⟩ := u_known hts hin (hts _ hi)
  obtain ⟨k, hk, -⟩ := hK.2.2
  refine ⟨c, iS, ⟨⟨hK.2.1, k, hk⟩, fun _ => hK⟩, fun a b ha hb hab => ?_⟩
  rcases hn a ha b hb hab with h | ⟨h1, h2, h3⟩
  · exact slot_inj hts hin ty hty hK ha hb h
  · exact slot_own hts hin hK ha hb h1 h2 h3
theorem kn_ex {C : String} {T : u_T} {t : Term} (h : (Cond.exactly t C).before A s = true) : ∃ (c : ClassId) (iS : Nat → Nat), Rk s (C, T, 0) c iS := by
  obtain ⟨a, c, cell, k, -, e2, -, e4, -⟩ := Cond.exactly_spec h
  exact ⟨c, fun _ => 0, ⟨⟨e2, k, e4⟩, fun z => absurd rfl z⟩, fun a b ha => absurd ha (Nat.not_lt_zero a)⟩
theorem co2 {α : Type} {b : Bool} {u k : Nat} {p q : Option α} {v : α} (hb : b = Nat.beq u k) (h : cond b p q = some v) : (u = k ∧ p = some v) ∨ q = some v := by
  cases b with
  | true => exact Or.inl ⟨Nat.eq_of_beq_eq_true hb.symm, h⟩
  | false => exact Or.inr h
theorem arr_of {ty : FieldType} (h : Cond.arrayClass ty ∈ lw_all) (hts : ∀ w ∈ lw_all, w.before A s = true) : ∃ c, ArrOfT s c ty ∧ s.vm.findClass ("[" ++ ty.toString) = some c := by
  obtain ⟨c, k, comp, h1, h2, h3⟩ := Cond.arrayClass_spec (hts _ h)
  exact ⟨c, fun n z => ⟨fun k e => (by simp [arrV] at e), k, h2, comp, h3⟩, h1⟩
/-- a reference array's class: its component's class by name -/
def Ra (s : State) (ty : FieldType) (nm : String) (c : ClassId) : Prop := ty.isReference = true ∧ s.vm.findClass ("[" ++ ty.toString) = some c ∧ ∃ (kA : Class) (comp : ClassId) (kc : Class), s.vm.classes[c]? = some kA ∧ kA.kind = .array comp ty ∧ s.vm.classes[comp]? = some kc ∧ s.vm.findClass nm = some comp
theorem ra_obj {n : String} (h : (Cond.arrayOver (.object n)).before A s = true) : ∃ c, Ra s (.object n) n c := by
  obtain ⟨comp, c, k, h1, -, h2, h3, h4⟩ := Cond.arrayOver_spec h
  obtain ⟨kc, e1, -⟩ := Vm.findClass_spec h1
  exact ⟨c, rfl, h4, k, comp, kc, h2, h3, e1, h1⟩
theorem ra_arr {t : FieldType} (h : (Cond.arrayOver (.array t)).before A s = true) : ∃ c, Ra s (.array t) (FieldType.array t).toString c := by
  simp only [Cond.before, Cond.holds, Cond.value, beq_iff_eq] at h
  cases hc : s.vm.findClass (FieldType.array t).toString with
  | none => simp [hc] at h
  | some comp =>
    simp only [hc, Option.bind_some, Option.bind_eq_some_iff, Option.map_eq_some_iff] at h
    obtain ⟨c, hi, k, hk, hb⟩ := h
    obtain ⟨hlt, hp, -⟩ := Array.findIdx?_eq_some_iff_getElem.mp hi
    have hkk : s.vm.classes[c] = k := (Array.getElem?_eq_some_iff.mp hk).2
    rw [hkk] at hp
    obtain ⟨kc, e1, -⟩ := Vm.findClass_spec hc
    cases hkind : k.kind with
    | array component ty =>
      rw [hkind] at hb hp
      simp at hb hp
      exact ⟨c, rfl, hb.2, k, comp, kc, hk, by rw [hkind, hp, hb.1], e1, hc⟩
    | _ => rw [hkind] at hb; simp at hb
theorem eq_int {t : Term} {v : Int32} (h : (Cond.eq t (.int v)).before A s = true) : t.eval A s none [] s = some (.int v) := by
  simp only [Cond.before, Cond.holds, Cond.value, Term.eval] at h
  cases e : t.eval A s none [] s with
  | none => simp [e] at h
  | some w => cases w <;> simp [e] at h; rw [h]
theorem eq_ref {t u : Term} {x : Nat} (hu : u.eval A s none [] s = some (.ref x)) (h : (Cond.eq t u).before A s = true) : t.eval A s none [] s = some (.ref x) := by
  simp only [Cond.before, Cond.holds, Cond.value, hu] at h
  cases e : t.eval A s none [] s with
  | none => simp [e] at h
  | some w => cases w <;> simp [e] at h; rw [h]
theorem arr_at {a : Nat} {cell : Cell} {ty : FieldType} (h1 : s.heap[a]? = some cell) (h2 : s.isArrayOf cell ty) (h3 : cell.vm ≠ .unknown) : s.arrayAt? a = some cell := by
  obtain ⟨h4, k, h5, comp, h6⟩ := h2
  have h7 : ¬ (cell.vm = .unknown ∨ cell.vm.isStatics = true) := by
    rintro (h | h)
    · exact h3 h
    · cases e : cell.vm <;> rw [e] at h <;> first | (exact absurd e (h4 _)) | (exact absurd h (by decide)) | (simp [VmData.isStatics] at h; done)
  simp [State.arrayAt?, h1, h5, h6, h7]
theorem len_at {t : Term} {a n : Nat} {cell : Cell} {v : Int32} (ht : t.eval A s none [] s = some (.ref a)) (hat : s.arrayAt? a = some cell) (h : (Cond.eq (.length t) (.int v)).before A s = true) (hv : v = Int32.ofNat n) (hn : n < 2 ^ 31) : cell.slots.size = n := by
  have h1 := eq_int h
  simp only [Term.eval, ht, hat, Option.bind_eq_bind, Option.bind_some, Option.pure_def] at h1
  split at h1
  · rename_i hlt
    have h2 : cell.slots.size.toInt32 = v := by simpa using h1
    have h3 : Int32.ofNat cell.slots.size = Int32.ofNat n := by rw [← hv, ← h2]
    have a1 : cell.slots.size ≤ n := (Int32.ofNat_le_ofNat hlt hn).mp (by rw [h3]; exact Int32.le_refl _)
    have a2 : n ≤ cell.slots.size := (Int32.ofNat_le_ofNat hn hlt).mp (by rw [h3]; exact Int32.le_refl _)
    omega
  · cases h1
theorem elem_at {t : Term} {a j : Nat} {cell : Cell} {v : Value} (ht : t.eval A s none [] s = some (.ref a)) (hat : s.arrayAt? a = some cell) (h : (Term.elem t (.int (Int32.ofNat j))).eval A s none [] s = some v) (hj : ¬ Int32.ofNat j < 0 ∧ (Int32.ofNat j).toNatClampNeg = j) : cell.slots[j]? = some v := by
  simp only [Term.eval, ht, hat, Option.bind_eq_bind, Option.bind_some, if_neg hj.1, hj.2] at h
  exact h
end STARTA
