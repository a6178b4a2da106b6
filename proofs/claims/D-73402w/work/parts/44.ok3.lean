theorem push_facts {H : Heap} {n : Nat} (h : H.size = n) (cell : Cell) : (H.push cell)[n]? = some cell ∧ (H.push cell).size = n + 1 ∧ ∀ q, q < n → (H.push cell)[q]? = H[q]? := by
  subst h
  exact ⟨by simp, by simp, fun q hq => by rw [Array.getElem?_push, if_neg (by omega)]⟩
section OK3
variable {p : Program} {l : Launch} {e : Env} {R : Room} {s : State} {m : MethodId} {args : Array Value} {below : List Frame} {meth : Method} {c : Code} {Q : State → Prop} {D : GD} {nL z0 l0 pc q : Nat} {cc : ByteArray}
theorem iof_lt {t : Nat} {ty : FieldType} (h : iof t = some ty) : (t = 1 ∧ ty = .int) ∨ (t = 2 ∧ ty = .long) ∨ (t = 3 ∧ ty = .byte) ∨ (t = 4 ∧ ty = .boolean) := by
  unfold iof at h
  split at h
  · cases h; exact Or.inl ⟨by assumption, rfl⟩
  · split at h
    · cases h; exact Or.inr (Or.inl ⟨by assumption, rfl⟩)
    · split at h
      · cases h; exact Or.inr (Or.inr (Or.inl ⟨by assumption, rfl⟩))
      · split at h
        · cases h; exact Or.inr (Or.inr (Or.inr ⟨by assumption, rfl⟩))
        · cases h
theorem rep_get {α : Type} {n j : Nat} {a b : α} (h : (List.replicate n a)[j]? = some b) : j < n ∧ b = a := by
  have h1 := (List.getElem?_eq_some_iff.mp h).1
  rw [List.length_replicate] at h1
  rw [List.getElem?_replicate, if_pos h1] at h
  exact ⟨h1, (Option.some.inj h).symm⟩
theorem not_neg {n : Int32} (h : 0 ≤ n.toInt) : ¬ n < 0 := fun z => by
  rw [Int32.lt_iff_toInt_lt, Int32.toInt_zero] at z
  omega
theorem k_newarray (hx : p.tables.exec = Jvm.exec) (hb : c.code = cc) (hK : KB D s) {aty : ArrayType} {t : Nat} (hty : iof t = some (newarray.typeOf aty)) (harr : (Cond.arrayClass (newarray.typeOf aty)).before args s = true) (hd : decode cc pc = .ok (.newarray aty, 2)) : OkN p l e R s m args below meth c Q D nL z0 l0 pc (nwI t (pc + 2)) := by
  intro L st h o hw hz hl hf
  unfold nwI at hf
  split at hf
  · obtain ⟨e1, e2, hf⟩ := hf
    refine ⟨_, _, _, _, hf.symm, hw.newI, Nat.le_succ _, Nat.le_add_right _ _, fun r1 r2 k H ls stc locs h1 h2 h3 h4 => ?_⟩
    have h1 : hrel D s h H := h1
    obtain ⟨n, rc, rfl, rfl, h5⟩ := st_I h3
    have hN : n.toNatClampNeg = n.toInt.toNat := rfl
    have r1 : h.sz + 1 - z0 ≤ R.cells := r1
    have r2 : h.sl + (List.replicate n.toInt.toNat (0 : Int)).length - l0 ≤ R.slots := r2
    rw [List.length_replicate] at r2
    have hcb : componentBytes (newarray.typeOf aty) ≤ 8 := by cases aty <;> decide
    refine W.newa hx hb harr rfl hd rfl (not_neg e1) (Nat.le_trans (Nat.mul_le_mul_left _ hcb) (by omega)) (by show h.sz - z0 + 1 ≤ _; omega) (by show h.sl - l0 + _ ≤ _; omega) fun cA kA comp f1 f2 f3 => ?_
    obtain ⟨a1, a2⟩ := hK.2.1 t _ hty
    cases f1.symm.trans a2
    have hlt : t < 200 := by rcases iof_lt hty with ⟨z, -⟩ | ⟨z, -⟩ | ⟨z, -⟩ | ⟨z, -⟩ <;> omega
    have hmod : t % 200 = t := Nat.mod_eq_of_lt hlt
    have hk := k (H.push { cls := D.A t, slots := Array.replicate n.toNatClampNeg (defaultValue (newarray.typeOf aty)), vm := .none }) ls (.ref H.size :: rc) locs (h1.newI (cell := { cls := D.A t, slots := Array.replicate n.toNatClampNeg (defaultValue (newarray.typeOf aty)), vm := .none }) (push_facts h1.1 _).1 (push_facts h1.1 _).2.1 (push_facts h1.1 _).2.2 ⟨_, by rw [hmod]; exact hty, ⟨(fun k z => by cases z), kA, f2, comp, f3⟩, (fun z => by cases z), (fun _ => ⟨rfl, rfl⟩), (by show (Array.replicate _ _).size = _; rw [Array.size_replicate, List.length_replicate]; rfl), (by rw [List.length_replicate]; omega), fun j y hy => ?_⟩) h2 (by simp [aV, h1.1, h5]) h4
    · have hg : (h.newI t (List.replicate n.toInt.toNat 0)).sz - z0 = h.sz - z0 + 1 := by show h.sz + 1 - z0 = _; omega
      have hg2 : (h.newI t (List.replicate n.toInt.toNat 0)).sl - l0 = h.sl - l0 + n.toNatClampNeg := by show h.sl + _ - l0 = _; rw [List.length_replicate, hN]; omega
      rw [hg, hg2] at hk
      exact hk
    · obtain ⟨j1, rfl⟩ := rep_get hy
      refine ⟨defaultValue (newarray.typeOf aty), ?_, ?_, ?_⟩
      · show (Array.replicate n.toNatClampNeg _)[j]? = _
        rw [Array.getElem?_replicate, if_pos (show j < n.toNatClampNeg from j1)]
      · cases aty <;> rfl
      · rw [hmod]
        rcases iof_lt hty with ⟨rfl, z⟩ | ⟨rfl, z⟩ | ⟨rfl, z⟩ | ⟨rfl, z⟩ <;> rw [z] <;> rfl
  · exact hf.elim
/-- rows of references: by a row of the machine that makes them -/
theorem ok_nwR {t : Nat} {ty : FieldType} (hK : KB D s) (ht : t < 200) (hty : D.rof t = some ty)
    (row : ∀ (H : Heap) (locs : List Loc) (cells slots : Nat) (ls : Array Slot) (rest : List Value) (n : Int32), ¬ n < 0 → n.toNatClampNeg * 4 ≤ 536870912 → cells + 1 ≤ R.cells → slots + n.toNatClampNeg ≤ R.slots → (∀ (cA : ClassId) (kA : Class) (comp : ClassId), s.vm.findClass ("[" ++ ty.toString) = some cA → s.vm.classes[cA]? = some kA → kA.kind = .array comp ty → W p l e R s m args below meth c (H.push { cls := cA, slots := Array.replicate n.toNatClampNeg .null, vm := .none }) locs (cells + 1) (slots + n.toNatClampNeg) Q (F0 m q ls (.ref H.size :: rest))) → W p l e R s m args below meth c H locs cells slots Q (F0 m pc ls (.int n :: rest))) : OkN p l e R s m args below meth c Q D nL z0 l0 pc (nwR t q) := by
  intro L st h o hw hz hl hf
  unfold nwR at hf
  split at hf
  · obtain ⟨e1, e2, hf⟩ := hf
    refine ⟨_, _, _, _, hf.symm, hw.newR, Nat.le_succ _, Nat.le_add_right _ _, fun r1 r2 k H ls stc locs h1 h2 h3 h4 => ?_⟩
    have h1 : hrel D s h H := h1
    obtain ⟨n, rc, rfl, rfl, h5⟩ := st_I h3
    have hN : n.toNatClampNeg = n.toInt.toNat := rfl
    have r1 : h.sz + 1 - z0 ≤ R.cells := r1
    have r2 : h.sl + (List.replicate n.toInt.toNat (none : Option Nat)).length - l0 ≤ R.slots := r2
    rw [List.length_replicate] at r2
    refine row H locs _ _ ls rc n (not_neg e1) (by omega) (by show h.sz - z0 + 1 ≤ _; omega) (by show h.sl - l0 + _ ≤ _; omega) fun cA kA comp f1 f2 f3 => ?_
    obtain ⟨a1, a2, a3⟩ := hK.2.2 t _ hty
    cases f1.symm.trans a2
    have hmod : t % 200 = t := Nat.mod_eq_of_lt ht
    have hk := k (H.push { cls := D.B t, slots := Array.replicate n.toNatClampNeg .null, vm := .none }) ls (.ref H.size :: rc) locs (h1.newR (cell := { cls := D.B t, slots := Array.replicate n.toNatClampNeg .null, vm := .none }) (push_facts h1.1 _).1 (push_facts h1.1 _).2.1 (push_facts h1.1 _).2.2 ⟨ty, by rw [hmod]; exact hty, ⟨(fun k z => by cases z), kA, f2, comp, f3⟩, (fun z => by cases z), (fun _ => rfl), by rw [hmod], (by show (Array.replicate _ _).size = _; rw [Array.size_replicate, List.length_replicate]; rfl), (by rw [List.length_replicate]; omega), fun j y hy => ?_⟩) h2 (by simp [aV, h1.1, h5]) h4
    · have hg : (h.newR t (List.replicate n.toInt.toNat none)).sz - z0 = h.sz - z0 + 1 := by show h.sz + 1 - z0 = _; omega
      have hg2 : (h.newR t (List.replicate n.toInt.toNat none)).sl - l0 = h.sl - l0 + n.toNatClampNeg := by show h.sl + _ - l0 = _; rw [List.length_replicate, hN]; omega
      rw [hg, hg2] at hk
      exact hk
    · obtain ⟨j1, rfl⟩ := rep_get hy
      show (Array.replicate n.toNatClampNeg _)[j]? = _
      rw [Array.getElem?_replicate, if_pos (show j < n.toNatClampNeg from j1)]
      rfl
  · exact hf.elim
theorem k_anewarray (hx : p.tables.exec = Jvm.exec) (hb : c.code = cc) (hK : KB D s) {own C : String} {index t : Nat} (hown : s.vm.findClass own = some m.cls) (ht : t < 200) (hty : D.rof t = some (.object C)) (hclink : (Cond.classLink own index C).before args s = true) (hover : (Cond.arrayOver (.object C)).before args s = true) (hd : decode cc pc = .ok (.anewarray index, 3)) : OkN p l e R s m args below meth c Q D nL z0 l0 pc (nwR t (pc + 3)) :=
  ok_nwR hK ht hty fun H locs cells slots ls rest n h1 h2 h3 h4 k => W.anew hx hb hown hclink hover rfl hd rfl h1 h2 h3 h4 fun cA kA comp f1 f2 f3 _ => k cA kA comp f1 f2 f3
theorem k_anewarrayA (hx : p.tables.exec = Jvm.exec) (hb : c.code = cc) (hK : KB D s) {own : String} {ty : FieldType} {index t : Nat} (hown : s.vm.findClass own = some m.cls) (ht : t < 200) (hty : D.rof t = some (.array ty)) (hclink : (Cond.classLink own index (FieldType.array ty).toString).before args s = true) (hover : (Cond.arrayOver (.array ty)).before args s = true) (hd : decode cc pc = .ok (.anewarray index, 3)) : OkN p l e R s m args below meth c Q D nL z0 l0 pc (nwR t (pc + 3)) :=
  ok_nwR hK ht hty fun H locs cells slots ls rest n h1 h2 h3 h4 k => W.anewA hx hb hown hclink hover rfl hd rfl h1 h2 h3 h4 fun cA kA comp f1 f2 f3 _ => k cA kA comp f1 f2 f3
theorem k_new (hx : p.tables.exec = Jvm.exec) (hb : c.code = cc) (hK : KB D s) {own C : String} {T : u_T} {N index t : Nat} (hts : ∀ w ∈ lw_all, w.before args s = true) (hin : ∀ w ∈ u_ws C T N, w ∈ lw_all) (ty : Nat → FieldType) (hty : ∀ k, k < N → parseFieldDescriptor (T k).2.2.1 = some (ty k)) (hown : s.vm.findClass own = some m.cls) (hcl : (Cond.classLink own index C).before args s = true) (hinst : (Cond.instantiable C N).before args s = true) (hini : (Cond.initialized C).before args s = true)
    (ht : t < 200) (hc : D.cof t = some (C, T, N)) {fs : List AV} (hlen : fs.length = N) (hfs : ∀ j, j < N → fs[j]? = some (aV (defaultValue (ty j)))) (hd : decode cc pc = .ok (.new index, 3)) : OkN p l e R s m args below meth c Q D nL z0 l0 pc (nwO t fs (pc + 3)) := by
  intro L st h o hw hz hl hf
  unfold nwO at hf
  refine ⟨_, _, _, _, hf.symm, hw.newF, Nat.le_succ _, Nat.le_add_right _ _, fun r1 r2 k H ls stc locs h1 h2 h3 h4 => ?_⟩
  have h1 : hrel D s h H := h1
  have r1 : h.sz + 1 - z0 ≤ R.cells := r1
  have r2 : h.sl + fs.length - l0 ≤ R.slots := r2
  have hKn : u_Kn s C T N (D.C t) (D.J t) := by
    by_cases h0 : N = 0
    · obtain ⟨c', k', f1, f2, f3, -⟩ := Cond.instantiable_spec hinst
      have e2 : c' = D.C t := Option.some.inj (f1.symm.trans (hK.1 t _ hc).1.1)
      subst e2
      exact ⟨fun k hk => absurd hk (by omega), f1, k', f2, f3⟩
    · exact hK.kn hc h0
  refine W.newcK hx hb hown hcl hinst hini rfl hd (by show h.sz - z0 + 1 ≤ _; omega) (by show h.sl - l0 + _ ≤ _; omega) hKn.2.1 h1.1 fun H1 kC hkC e1 z1 o1 => ?_
  obtain ⟨cell, c1, c2, c3, c4⟩ := u_born ty hts hin hKn hkC e1 hty
  have hmod : t % 200 = t := Nat.mod_eq_of_lt ht
  have hk := k H1 ls (.ref h.sz :: stc) locs (h1.newF c1 z1 (fun x hx => o1 x hx) ⟨_, by rw [hmod]; exact hc, by rw [hmod]; exact c2, (fun _ z => by rw [c3] at z; cases z), (by rw [c3]; rfl), (fun _ => c3), hlen, fun j v hv => ?_⟩) h2 (by show aV (.ref h.sz) :: _ = _; rw [h3]; rfl) h4
  · have hg : (h.newF t fs).sz - z0 = h.sz - z0 + 1 := by show h.sz + 1 - z0 = _; omega
    have hg2 : (h.newF t fs).sl - l0 = h.sl - l0 + N := by show h.sl + _ - l0 = _; omega
    rw [hg, hg2] at hk
    exact hk
  · have hj : j < N := by rw [← hlen]; exact (List.getElem?_eq_some_iff.mp hv).1
    rw [hfs j hj] at hv
    cases hv
    rw [hmod]
    exact ⟨_, c4 j hj, rfl⟩
/-- a field of a class read -/
def RowG (p : Program) (l : Launch) (e : Env) (R : Room) (s : State) (m : MethodId) (args : Array Value) (below : List Frame) (meth : Method) (c : Code) (Q : State → Prop) (D : GD) (pc q t k : Nat) : Prop :=
  ∀ (H : Heap) (locs : List Loc) (cells slots : Nat) (ls : Array Slot) (rest : List Value) (a : Nat) (cell : Cell) (w : Value), H[a]? = some cell → cell.cls = D.C t → cell.vm ≠ .unknown → cell.slots[D.J t k]? = some w → W p l e R s m args below meth c H locs cells slots Q (F0 m q ls (w :: rest)) → W p l e R s m args below meth c H locs cells slots Q (F0 m pc ls (.ref a :: rest))
theorem lk_nil {P : Nat → Nat → Prop} : ∀ t k, lk [] t = some k → P t k := fun t k h => by simp [lk] at h
theorem lk_cons {P : Nat → Nat → Prop} {a b : Nat} {r : List (Nat × Nat)} (h1 : P a b) (h2 : ∀ t k, lk r t = some k → P t k) : ∀ t k, lk ((a, b) :: r) t = some k → P t k := by
  intro t k h
  unfold lk at h
  cases g : Nat.beq a t with
  | true =>
    rw [g] at h
    cases h
    rw [← Nat.eq_of_beq_eq_true g]
    exact h1
  | false =>
    rw [g] at h
    exact h2 t k h
theorem ok_getf {kk : List (Nat × Nat)} (h0 : lk kk 0 = none) (rows : ∀ t k, lk kk t = some k → RowG p l e R s m args below meth c Q D pc q t k) : OkN p l e R s m args below meth c Q D nL z0 l0 pc (getf kk q) := by
  refine OkN.same fun L st h o hf => ?_
  unfold getf at hf
  split at hf
  · obtain ⟨u, fs, k, v, e1, e2, e3, hf⟩ := hf
    refine ⟨_, _, _, hf.symm, fun H ls stc locs cells slots h1 h2 h3 kk => ?_⟩
    obtain ⟨rc, rfl, h6⟩ := st_R h3
    obtain ⟨-, cell, g1, qq, g2, g3, g4, g5, g6, g7, g8⟩ := h1.2.2.2.2.2 _ u fs e1 (fun z => by rw [z] at e2; exact absurd (h0.symm.trans e2) (by simp))
    obtain ⟨w, w1, w2⟩ := g8 k v e3
    exact rows _ k e2 H locs cells slots ls rc _ cell w g1 g3 (g4 (fun z => by rw [z] at e3; simp at e3)) w1 (kk _ _ h2 (by simp [w2, h6]))
  · exact hf.elim
theorem g_get (hx : p.tables.exec = Jvm.exec) (hb : c.code = cc) (hK : KB D s) (hts : ∀ w ∈ lw_all, w.before args s = true) {own ref C : String} {T : u_T} {N index t k : Nat} (hown : s.vm.findClass own = some m.cls) (hin : ∀ w ∈ u_ws C T N, w ∈ lw_all) (hc : D.cof t = some (C, T, N)) (hk : k < N) (hlink : (Cond.fieldLink own index ref (T k).2.1 (T k).2.2.1).before args s = true) (hsame : ∀ x, s.fieldFound? (T k).1 (T k).2.1 (T k).2.2.1 = some x → s.fieldFound? ref (T k).2.1 (T k).2.2.1 = some x) (hd : decode cc pc = .ok (.getfield index, 3)) : RowG p l e R s m args below meth c Q D pc (pc + 3) t k := by
  intro H locs cells slots ls rest a cell w h1 h2 h3 h4 kk
  obtain ⟨hS, hfc, kC, hkC, hkind⟩ := hK.kn hc (by omega)
  obtain ⟨cf, kf, fi, f, hi, hsl⟩ := hS k hk
  exact W.getf hx hb hown hlink (hsame _ hi) (u_facts hfc hkC (u_lays hts hin hk) hi).1 h1 h3 (v := w) (by rw [hsl]; exact h4) rfl rfl hd kk
theorem g_getN (hx : p.tables.exec = Jvm.exec) (hb : c.code = cc) (hK : KB D s) (hts : ∀ w ∈ lw_all, w.before args s = true) {own ref C host : String} {T : u_T} {N index t k : Nat} (hown : s.vm.findClass own = some m.cls) (hin : ∀ w ∈ u_ws C T N, w ∈ lw_all) (hc : D.cof t = some (C, T, N)) (hk : k < N) (hlink : (Cond.fieldLinkNest own index ref (T k).2.1 (T k).2.2.1 host).before args s = true) (hsame : ∀ x, s.fieldFound? (T k).1 (T k).2.1 (T k).2.2.1 = some x → s.fieldFound? ref (T k).2.1 (T k).2.2.1 = some x) (hd : decode cc pc = .ok (.getfield index, 3)) : RowG p l e R s m args below meth c Q D pc (pc + 3) t k := by
  intro H locs cells slots ls rest a cell w h1 h2 h3 h4 kk
  obtain ⟨hS, hfc, kC, hkC, hkind⟩ := hK.kn hc (by omega)
  obtain ⟨cf, kf, fi, f, hi, hsl⟩ := hS k hk
  exact va_Wgetf hx hb hown hlink (hsame _ hi) (u_facts hfc hkC (u_lays hts hin hk) hi).1 h1 h3 (v := w) (by rw [hsl]; exact h4) rfl rfl hd kk
end OK3
