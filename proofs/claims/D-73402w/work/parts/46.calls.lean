/-! CALLS: by the callee's exact contract -/
def rmD (d mc ms : Nat) : Room := { frames := d + 1, cells := mc, slots := ms, locals := 100 * (d + 1) }
theorem cokI.moved {D : GD} {s U : State} {t : Nat} {xs : List Int} {cell : Cell} (h : s.vm.Alike U.vm) (k : cokI D s t xs cell) : cokI D U t xs cell := by
  obtain ⟨ty, k1, k2, k3⟩ := k
  exact ⟨ty, k1, State.isArrayOf_alike h k2, k3⟩
theorem cokR.moved {D : GD} {s U : State} {t : Nat} {xs : List (Option Nat)} {cell : Cell} (h : s.vm.Alike U.vm) (k : cokR D s t xs cell) : cokR D U t xs cell := by
  obtain ⟨ty, k1, k2, k3⟩ := k
  exact ⟨ty, k1, State.isArrayOf_alike h k2, k3⟩
theorem hrel.moved {D : GD} {s U : State} {h : AH} {H : Heap} (hv : s.vm.Alike U.vm) (k : hrel D s h H) : hrel D U h H := by
  obtain ⟨k1, k2, k3, k4, k5, k6⟩ := k
  refine ⟨k1, k2, k3, fun a t xs e1 e2 => ?_, fun a t xs e1 e2 => ?_, k6⟩
  · obtain ⟨a1, cell, a2, a3⟩ := k4 a t xs e1 e2
    exact ⟨a1, cell, a2, a3.moved hv⟩
  · obtain ⟨a1, cell, a2, a3⟩ := k5 a t xs e1 e2
    exact ⟨a1, cell, a2, a3.moved hv⟩
theorem RAk.moved {D : GD} {s U : State} {u : Nat} {ty : FieldType} (hv : s.vm.Alike U.vm) (k : RAk D s u ty) : RAk D U u ty := by
  obtain ⟨k1, k2, kA, comp, kc, k3, k4, k5, k6⟩ := k
  obtain ⟨kA', a1, a2⟩ := hv.2.2 _ _ k3
  obtain ⟨kc', b1, b2⟩ := hv.2.2 _ _ k5
  refine ⟨k1, by rw [hv.findClass]; exact k2, kA', comp, kc', a1, by rw [a2]; exact k4, b1, fun k e1 e2 => ?_⟩
  obtain ⟨d1, kv, d2⟩ := k6 k e1 e2
  obtain ⟨kv', d3, -⟩ := hv.2.2 _ _ d2
  exact ⟨by rw [hv.assignable]; exact d1, kv', d3⟩
theorem KB.moved {D : GD} {s U : State} (hv : s.vm.Alike U.vm) (k : KB D s) : KB D U :=
  ⟨fun t q e => ⟨⟨by rw [hv.findClass]; exact (k.1 t q e).1.1, by obtain ⟨kk, hkk⟩ := (k.1 t q e).1.2; obtain ⟨kk', h2, -⟩ := hv.2.2 _ _ hkk; exact ⟨kk', h2⟩⟩, fun h => u_Kn_moved hv ((k.1 t q e).2 h)⟩, fun t ty e => ⟨arrOfT_moved hv (k.2.1 t ty e).1, by rw [hv.findClass]; exact (k.2.1 t ty e).2⟩, fun t ty e => (k.2.2 t ty e).moved hv⟩
abbrev MI : Type := Nat → MethodName × ByteArray × Nat × Option FieldType
def PcA (D : GD) (X : State → Prop) (as : List AV) (h : AH) : Array Value → State → Prop := fun a U => (∃ vs : List Value, a = vs.toArray ∧ vs.map aV = as) ∧ hrel D U h U.heap ∧ KB D U ∧ X U
def QcA (D : GD) (r : Option AV) (h : AH) : Array Value → State → Outcome → State → Prop := fun _ _ o t => (∃ v : Option Value, o = .returned v ∧ v.map aV = r) ∧ hrel D t h t.heap
/-- how a method ends: it returns, or it throws -/
def QE (D : GD) (r : Rs) (h : AH) (mc ms : Nat) : Array Value → State → Outcome → State → Prop := match r with
  | .inl v => fun a st o t => QcA D v h a st o t ∧ ∃ L, FrameEnd st o t L mc ms ∧ ∀ q ∈ L, D.b ≤ q.base
  | .inr q => fun _ st o t => o = .threw q ∧ hrel D t h t.heap ∧ ∃ L, st.WarmedH t.vm ∧ st.sameButNew ({ t with vm := st.vm } : State) L mc ms ∧ ∀ z ∈ L, D.b ≤ z.base
/-- method z at depth d, with these arguments and this heap, ends so and leaves this heap -/
def MetA (l : Launch) (D : GD) (X : State → Prop) (N : MI) (d z : Nat) (as : List AV) (h : AH) (r : Rs) (h' : AH) : Prop :=
  MetE l (N z).1 lw_all (rmD d (h'.sz - h.sz) (h'.sl - h.sl)) (PcA D X as h) (QE D r h' (h'.sz - h.sz) (h'.sl - h.sl))
theorem MetA.b {l : Launch} {D : GD} {X : State → Prop} {N : MI} {d z : Nat} {as : List AV} {h h' : AH} {v : Option AV} (k : MetA l D X N d z as h (.inl v) h') : MetB l (N z).1 lw_all (rmD d (h'.sz - h.sz) (h'.sl - h.sl)) (PcA D X as h) (QcA D v h') (h'.sz - h.sz) (h'.sl - h.sl) (fun q => D.b ≤ q) := k
theorem MetA.t {l : Launch} {D : GD} {X : State → Prop} {N : MI} {d z : Nat} {as : List AV} {h h' : AH} {a : Nat} (k : MetA l D X N d z as h (.inr a) h') : MetT l (N z).1 lw_all (rmD d (h'.sz - h.sz) (h'.sl - h.sl)) (PcA D X as h) a (fun t => hrel D t h' t.heap) (h'.sz - h.sz) (h'.sl - h.sl) (fun q => D.b ≤ q) := k
def ME (below : List Frame) (Qe : Array Value → State → Outcome → State → Prop) (args : Array Value) (s : State) : State → Prop := fun t => ∃ o, t.status = .running ∧ Ended t below o ∧ Qe args s o t
/-- what the carried words must bear -/
def Xok (X : State → Prop) : Prop := (∀ s U : State, s.vm = U.vm → X s → X U) ∧ ∀ s U : State, s.WarmedH U.vm → X s → X U
theorem PcA.blind {D : GD} {X : State → Prop} (hX : Xok X) {as : List AV} {h : AH} : FrameBlind (PcA D X as h) := by
  intro a U g mk ⟨h1, h2, h3, h4⟩
  exact ⟨h1, h2.moved (Vm.Alike.refl U.vm), h3.moved (Vm.Alike.refl U.vm), hX.1 U _ rfl h4⟩
theorem splt_spec : ∀ (n : Nat) (st as as' r : List AV), splt n st as = some (as', r) → ∃ bs, as' = bs ++ as ∧ bs.length = n ∧ st = bs.reverse ++ r
  | 0, st, as, as', r, h => by cases h; exact ⟨[], rfl, rfl, rfl⟩
  | n + 1, [], as, as', r, h => by cases h
  | n + 1, v :: st, as, as', r, h => by
    obtain ⟨bs, h1, h2, h3⟩ := splt_spec n st (v :: as) as' r h
    exact ⟨bs ++ [v], by rw [h1]; simp, by simp [h2], by rw [h3]; simp⟩
theorem st_splt {n : Nat} {stc : List Value} {st as r : List AV} (h : splt n st [] = some (as, r)) (hs : stc.map aV = st) : ∃ As rest : List Value, stc = As.reverse ++ rest ∧ As.map aV = as ∧ rest.map aV = r ∧ As.length = n := by
  obtain ⟨bs, h1, h2, h3⟩ := splt_spec n st [] as r h
  rw [List.append_nil] at h1
  subst h1
  rw [h3] at hs
  obtain ⟨x1, x2, e1, e2, e3⟩ := List.map_eq_append_iff.mp hs
  refine ⟨x1.reverse, x2, by simp [e1], by rw [List.map_reverse, e2, List.reverse_reverse], e3, ?_⟩
  have := congrArg List.length e2
  simp only [List.length_map, List.length_reverse] at this ⊢
  omega
section CALL
variable {p : Program} {l : Launch} {e : Env} {R : Room} {s : State} {m : MethodId} {args : Array Value} {below : List Frame} {meth : Method} {c : Code} {Q : State → Prop} {D : GD} {nL z0 l0 pc q d : Nat} {cc : ByteArray} {X : State → Prop} {N : MI}
def nxr (q : Nat) (L : Ls) (r : List AV) (v : Option AV) (h : AH) : St := match v with
  | none => (q, L, r, h)
  | some y => (q, L, y :: r, h)
/-- a call: if the callee returns so, the machine goes on so -/
def OkC (p : Program) (l : Launch) (e : Env) (R : Room) (s : State) (m : MethodId) (args : Array Value) (below : List Frame) (meth : Method) (c : Code) (Q : State → Prop) (D : GD) (X : State → Prop) (N : MI) (nL z0 l0 d pc : Nat) (f : Sem) : Prop :=
  ∀ (L : Ls) (st : List AV) (h : AH) (o : Out), WF h → z0 ≤ h.sz → l0 ≤ h.sl → f L st h (fun o' => o' = o) → ∃ (z : Nat) (as r : List AV) (q : Nat), o = cl z as h (kt q L r) ∧ ∀ (v : Option AV) (h' : AH), h.sz ≤ h'.sz → h.sl ≤ h'.sl → h'.sz - z0 ≤ R.cells → h'.sl - l0 ≤ R.slots → MetA l D X N d z as h (.inl v) h' → MW p l e R s m args below meth c Q D nL z0 l0 (nxr q L r v h') → MW p l e R s m args below meth c Q D nL z0 l0 (pc, L, st, h)
theorem W.callA' {H : Heap} {locs : List Loc} {cells slots mc ms : Nat} {ls : Array Slot} {st0 rest : List Value} {r : Option AV} {h' : AH} {a : Array Value} (hr : va_Run p l e R s m args below meth c H locs cells slots mc ms (F0 m pc ls st0) rest (QcA D r h' a) (fun q => D.b ≤ q))
    (kk : ∀ (H1 : Heap) (locs1 : List Loc) (v : Option Value), v.map aV = r → hrel D s h' H1 → (∀ q ∈ locs1, q ∈ locs ∨ D.b ≤ q.base) → W p l e R s m args below meth c H1 locs1 (cells + mc) (slots + ms) Q (F0 m (pc + 3) ls (v.toList ++ rest))) : W p l e R s m args below meth c H locs cells slots Q (F0 m pc ls st0) := by
  intro T hT Y
  obtain ⟨v, st₀, t, T', L, h0, X', hL, e1, e2, ⟨⟨v', hv, hp⟩, hrl⟩, st⟩ := hr T hT Y
  cases hv
  have hal : t.vm.Alike s.vm := by rw [← e2]; exact X'.warmed.alike.symm
  obtain ⟨t2, a1, b1⟩ := kk t.heap (locs ++ L) v hp (hrl.moved hal) (fun q hq => (List.mem_append.mp hq).elim Or.inl (fun z => Or.inr (hL q z))) T' e1 X'
  exact ⟨t2, st t2 a1, b1⟩
/-- the common end of all kinds of call -/
theorem callEnd {L : Ls} {r : List AV} {h h' : AH} {v : Option AV} (hz : z0 ≤ h.sz) (hl : l0 ≤ h.sl) (g1 : h.sz ≤ h'.sz) (g2 : h.sl ≤ h'.sl) {H : Heap} {locs : List Loc} {ls : Array Slot} {stc rest : List Value} {a : Array Value} (h2 : lrel ls nL L) (h4 : ∀ q ∈ locs, D.b ≤ q.base) (h5 : rest.map aV = r)
    (hr : va_Run p l e R s m args below meth c H locs (h.sz - z0) (h.sl - l0) (h'.sz - h.sz) (h'.sl - h.sl) (F0 m pc ls stc) rest (QcA D v h' a) (fun q => D.b ≤ q)) (k : MW p l e R s m args below meth c Q D nL z0 l0 (nxr (pc + 3) L r v h')) : W p l e R s m args below meth c H locs (h.sz - z0) (h.sl - l0) Q (F0 m pc ls stc) := by
  refine W.callA' hr fun H1 locs1 vv e1 e2 e3 => ?_
  have hg : h.sz - z0 + (h'.sz - h.sz) = h'.sz - z0 := by omega
  have hg2 : h.sl - l0 + (h'.sl - h.sl) = h'.sl - l0 := by omega
  rw [hg, hg2]
  have e4 : ∀ q ∈ locs1, D.b ≤ q.base := fun q hq => (e3 q hq).elim (h4 q) id
  cases vv with
  | none =>
    subst e1
    exact k H1 ls rest locs1 e2 h2 h5 e4
  | some w =>
    subst e1
    exact k H1 ls (w :: rest) locs1 e2 h2 (by show aV w :: rest.map aV = _; rw [h5]; rfl) e4
theorem callW {rc : List Value} {r : List AV} (h : rc.map aV = r) (g : Nat.ble (cats r) 8 = true) (ls : Array Slot) (st : List Value) : 2 * (F0 m pc ls st).monitorRoom + (rc.map fun v => v.category).sum ≤ 8 := by
  have := Nat.le_trans (cats_le h) (Nat.le_of_ble_eq_true g)
  show 2 * 0 + _ ≤ 8
  omega
theorem k_invS {own : String} (S : CallFix p m c cc nL s args lw_all own) (hK : KB D s) (hX : Xok X) (hXs : X s) {index z n : Nat} (cw : ∀ mc ms, CallB R s args own index (N z).1 (N z).2.1 (N z).2.2.1 (N z).2.2.2 (ws_ (N z).1 (N z).2.1 (N z).2.2.1 (N z).2.2.2) (rmD d mc ms) mc ms n ∧ (Cond.static (N z).1).before args s = true) (hd : decode cc pc = .ok (.invokestatic index, 3)) : OkC p l e R s m args below meth c Q D X N nL z0 l0 d pc (ivS z n (pc + 3)) := by
  intro L st h o hw hz hl hf
  unfold ivS at hf
  split at hf
  · rename_i as r hsp
    cases g : Nat.ble (cats r) 8 with
    | false => rw [g] at hf; exact hf.elim
    | true =>
      rw [g] at hf
      refine ⟨z, as, r, pc + 3, (show _ = _ from hf).symm, fun v h' g1 g2 g3 g4 hM k H ls stc locs h1 h2 h3 h4 => ?_⟩
      have h1 : hrel D s h H := h1
      obtain ⟨As, rest, rfl, a1, a2, a3⟩ := st_splt hsp h3
      exact callEnd (h := h) hz hl g1 g2 h2 h4 a2 (va_runS S (MetB.met hM.b) (cw _ _) ⟨PcA.blind hX, fun U hU hW => ⟨⟨As, rfl, a1⟩, by rw [hU]; exact h1.moved hW.alike, hK.moved hW.alike, hX.2 s U hW hXs⟩⟩ rfl a3 h2.1 rfl (callW a2 g _ _) hd ⟨by omega, by omega⟩) k
  · exact hf.elim
/-- a call through an object of class t reaches z -/
def RunV (p : Program) (l : Launch) (e : Env) (R : Room) (s : State) (m : MethodId) (args : Array Value) (below : List Frame) (meth : Method) (c : Code) (D : GD) (N : MI) (nL d pc n t z : Nat) : Prop :=
  ∀ (H : Heap) (locs : List Loc) (cells slots mc ms : Nat) (ls : Array Slot) (As rest : List Value) (b : Nat) (Pc : Array Value → State → Prop) (Qc : Array Value → State → Outcome → State → Prop) (free : Addr → Prop), MetB l (N z).1 lw_all (rmD d mc ms) Pc Qc mc ms free → FrameBlind Pc → (∀ U : State, U.heap = H → s.WarmedH U.vm → Pc (Value.ref b :: As).toArray U) → (∃ cell : Cell, H[b]? = some cell ∧ cell.vm.isStatics = false ∧ cell.cls = D.C t) → As.length = n → ls.size = nL → 2 * (F0 m pc ls (As.reverse ++ .ref b :: rest)).monitorRoom + (rest.map fun v => v.category).sum ≤ 8 → cells + mc ≤ R.cells ∧ slots + ms ≤ R.slots →
    va_Run p l e R s m args below meth c H locs cells slots mc ms (F0 m pc ls (As.reverse ++ .ref b :: rest)) rest (Qc (Value.ref b :: As).toArray) free
def RunF (p : Program) (l : Launch) (e : Env) (R : Room) (s : State) (m : MethodId) (args : Array Value) (below : List Frame) (meth : Method) (c : Code) (D : GD) (N : MI) (nL d pc n t z : Nat) : Prop :=
  ∀ (H : Heap) (locs : List Loc) (cells slots mc ms : Nat) (ls : Array Slot) (As rest : List Value) (b : Nat) (Pc : Array Value → State → Prop) (Qc : Array Value → State → Outcome → State → Prop) (free : Addr → Prop), MetB l (N z).1 lw_all (rmD d mc ms) Pc Qc mc ms free → FrameBlind Pc → (∀ U : State, U.heap = H → s.WarmedH U.vm → Pc (Value.ref b :: As).toArray U) → (∃ cell : Cell, H[b]? = some cell ∧ cell.vm.isStatics = false ∧ cell.cls = D.C t) → As.length = n → ls.size = nL → 2 * (F0 m pc ls (As.reverse ++ .ref b :: rest)).monitorRoom + (rest.map fun v => v.category).sum ≤ 8 → cells + mc ≤ R.cells ∧ slots + ms ≤ R.slots →
    va_Run5 p l e R s m args below meth c H locs cells slots mc ms (F0 m pc ls (As.reverse ++ .ref b :: rest)) rest (Qc (Value.ref b :: As).toArray) free
theorem ok_ivV (hK : KB D s) (hX : Xok X) (hXs : X s) {zz : List (Nat × Nat)} {n : Nat} (h0 : lk zz 0 = none) (runs : ∀ t z, lk zz t = some z → RunV p l e R s m args below meth c D N nL d pc n t z) : OkC p l e R s m args below meth c Q D X N nL z0 l0 d pc (ivV zz n (pc + 3)) := by
  intro L st h o hw hz hl hf
  unfold ivV at hf
  split at hf
  · rename_i as a r hsp
    cases g : Nat.ble (cats r) 8 with
    | false => rw [g] at hf; exact hf.elim
    | true =>
      rw [g] at hf
      obtain ⟨u, fs, z, e1, e2, hf⟩ := hf
      refine ⟨z, _, r, pc + 3, (show _ = _ from hf).symm, fun v h' g1 g2 g3 g4 hM k H ls stc locs h1 h2 h3 h4 => ?_⟩
      have h1 : hrel D s h H := h1
      obtain ⟨As, rest, rfl, a1, a2, a3⟩ := st_splt hsp h3
      obtain ⟨rest, rfl, a4⟩ := st_R a2
      obtain ⟨-, cell, q1, qq, q2, q3, q4, q5, q6⟩ := h1.2.2.2.2.2 a u fs e1 (fun y => by rw [y] at e2; exact absurd (h0.symm.trans e2) (by simp))
      exact callEnd (h := h) hz hl g1 g2 h2 h4 a4 (runs _ z e2 H locs _ _ _ _ ls As rest a _ _ _ hM.b (PcA.blind hX) (fun U hU hW => ⟨⟨Value.ref a :: As, rfl, by simp [aV, a1]⟩, by rw [hU]; exact h1.moved hW.alike, hK.moved hW.alike, hX.2 s U hW hXs⟩) ⟨cell, q1, q5, q3⟩ a3 h2.1 (callW a4 g _ _) ⟨by omega, by omega⟩) k
  · exact hf.elim
theorem W.callA5 {H : Heap} {locs : List Loc} {cells slots mc ms : Nat} {ls : Array Slot} {st0 rest : List Value} {r : Option AV} {h' : AH} {a : Array Value} (hr : va_Run5 p l e R s m args below meth c H locs cells slots mc ms (F0 m pc ls st0) rest (QcA D r h' a) (fun q => D.b ≤ q))
    (kk : ∀ (H1 : Heap) (locs1 : List Loc) (v : Option Value), v.map aV = r → hrel D s h' H1 → (∀ q ∈ locs1, q ∈ locs ∨ D.b ≤ q.base) → W p l e R s m args below meth c H1 locs1 (cells + mc) (slots + ms) Q (F0 m (pc + 5) ls (v.toList ++ rest))) : W p l e R s m args below meth c H locs cells slots Q (F0 m pc ls st0) := by
  intro T hT Y
  obtain ⟨v, st₀, t, T', L, h0, X', hL, e1, e2, ⟨⟨v', hv, hp⟩, hrl⟩, st⟩ := hr T hT Y
  cases hv
  have hal : t.vm.Alike s.vm := by rw [← e2]; exact X'.warmed.alike.symm
  obtain ⟨t2, a1, b1⟩ := kk t.heap (locs ++ L) v hp (hrl.moved hal) (fun q hq => (List.mem_append.mp hq).elim Or.inl (fun z => Or.inr (hL q z))) T' e1 X'
  exact ⟨t2, st t2 a1, b1⟩
theorem callEnd5 {L : Ls} {r : List AV} {h h' : AH} {v : Option AV} (hz : z0 ≤ h.sz) (hl : l0 ≤ h.sl) (g1 : h.sz ≤ h'.sz) (g2 : h.sl ≤ h'.sl) {H : Heap} {locs : List Loc} {ls : Array Slot} {stc rest : List Value} {a : Array Value} (h2 : lrel ls nL L) (h4 : ∀ q ∈ locs, D.b ≤ q.base) (h5 : rest.map aV = r)
    (hr : va_Run5 p l e R s m args below meth c H locs (h.sz - z0) (h.sl - l0) (h'.sz - h.sz) (h'.sl - h.sl) (F0 m pc ls stc) rest (QcA D v h' a) (fun q => D.b ≤ q)) (k : MW p l e R s m args below meth c Q D nL z0 l0 (nxr (pc + 5) L r v h')) : W p l e R s m args below meth c H locs (h.sz - z0) (h.sl - l0) Q (F0 m pc ls stc) := by
  refine W.callA5 hr fun H1 locs1 vv e1 e2 e3 => ?_
  have hg : h.sz - z0 + (h'.sz - h.sz) = h'.sz - z0 := by omega
  have hg2 : h.sl - l0 + (h'.sl - h.sl) = h'.sl - l0 := by omega
  rw [hg, hg2]
  have e4 : ∀ q ∈ locs1, D.b ≤ q.base := fun q hq => (e3 q hq).elim (h4 q) id
  cases vv with
  | none =>
    subst e1
    exact k H1 ls rest locs1 e2 h2 h5 e4
  | some w =>
    subst e1
    exact k H1 ls (w :: rest) locs1 e2 h2 (by show aV w :: rest.map aV = _; rw [h5]; rfl) e4
theorem ok_ivF (hK : KB D s) (hX : Xok X) (hXs : X s) {zz : List (Nat × Nat)} {n : Nat} (h0 : lk zz 0 = none) (runs : ∀ t z, lk zz t = some z → RunF p l e R s m args below meth c D N nL d pc n t z) : OkC p l e R s m args below meth c Q D X N nL z0 l0 d pc (ivV zz n (pc + 5)) := by
  intro L st h o hw hz hl hf
  unfold ivV at hf
  split at hf
  · rename_i as a r hsp
    cases g : Nat.ble (cats r) 8 with
    | false => rw [g] at hf; exact hf.elim
    | true =>
      rw [g] at hf
      obtain ⟨u, fs, z, e1, e2, hf⟩ := hf
      refine ⟨z, _, r, pc + 5, (show _ = _ from hf).symm, fun v h' g1 g2 g3 g4 hM k H ls stc locs h1 h2 h3 h4 => ?_⟩
      have h1 : hrel D s h H := h1
      obtain ⟨As, rest, rfl, a1, a2, a3⟩ := st_splt hsp h3
      obtain ⟨rest, rfl, a4⟩ := st_R a2
      obtain ⟨-, cell, q1, qq, q2, q3, q4, q5, q6⟩ := h1.2.2.2.2.2 a u fs e1 (fun y => by rw [y] at e2; exact absurd (h0.symm.trans e2) (by simp))
      exact callEnd5 (h := h) hz hl g1 g2 h2 h4 a4 (runs _ z e2 H locs _ _ _ _ ls As rest a _ _ _ hM.b (PcA.blind hX) (fun U hU hW => ⟨⟨Value.ref a :: As, rfl, by simp [aV, a1]⟩, by rw [hU]; exact h1.moved hW.alike, hK.moved hW.alike, hX.2 s U hW hXs⟩) ⟨cell, q1, q5, q3⟩ a3 h2.1 (callW a4 g _ _) ⟨by omega, by omega⟩) k
  · exact hf.elim
/-- a constructor -/
theorem ok_ivI (hK : KB D s) (hX : Xok X) (hXs : X s) {z n : Nat} (run : ∀ (H : Heap) (locs : List Loc) (cells slots mc ms : Nat) (ls : Array Slot) (As rest : List Value) (b : Nat) (Pc : Array Value → State → Prop) (Qc : Array Value → State → Outcome → State → Prop) (free : Addr → Prop), MetB l (N z).1 lw_all (rmD d mc ms) Pc Qc mc ms free → PreS s H Pc (.ref b :: As) → As.length = n → ls.size = nL → 2 * (F0 m pc ls (As.reverse ++ .ref b :: rest)).monitorRoom + (rest.map fun v => v.category).sum ≤ 8 → cells + mc ≤ R.cells ∧ slots + ms ≤ R.slots →
    va_Run p l e R s m args below meth c H locs cells slots mc ms (F0 m pc ls (As.reverse ++ .ref b :: rest)) rest (Qc (Value.ref b :: As).toArray) free) : OkC p l e R s m args below meth c Q D X N nL z0 l0 d pc (ivI z n (pc + 3)) := by
  intro L st h o hw hz hl hf
  unfold ivI at hf
  split at hf
  · rename_i as a r hsp
    cases g : Nat.ble (cats r) 8 with
    | false => rw [g] at hf; exact hf.elim
    | true =>
      rw [g] at hf
      refine ⟨z, _, r, pc + 3, (show _ = _ from hf).symm, fun v h' g1 g2 g3 g4 hM k H ls stc locs h1 h2 h3 h4 => ?_⟩
      have h1 : hrel D s h H := h1
      obtain ⟨As, rest, rfl, a1, a2, a3⟩ := st_splt hsp h3
      obtain ⟨rest, rfl, a4⟩ := st_R a2
      exact callEnd (h := h) hz hl g1 g2 h2 h4 a4 (run H locs _ _ _ _ ls As rest a _ _ _ hM.b ⟨PcA.blind hX, fun U hU hW => ⟨⟨Value.ref a :: As, rfl, by simp [aV, a1]⟩, by rw [hU]; exact h1.moved hW.alike, hK.moved hW.alike, hX.2 s U hW hXs⟩⟩ a3 h2.1 (callW a4 g _ _) ⟨by omega, by omega⟩) k
  · exact hf.elim
/-- a call through an object of class t reaches z, who throws -/
def RunVT (p : Program) (l : Launch) (e : Env) (R : Room) (s : State) (m : MethodId) (args : Array Value) (below : List Frame) (meth : Method) (c : Code) (D : GD) (N : MI) (nL d pc n t z : Nat) : Prop :=
  ∀ (H : Heap) (locs : List Loc) (cells slots mc ms : Nat) (ls : Array Slot) (As rest : List Value) (b : Nat) (Pc : Array Value → State → Prop) (q : Addr) (Ht : State → Prop) (free : Addr → Prop), MetT l (N z).1 lw_all (rmD d mc ms) Pc q Ht mc ms free → FrameBlind Pc → (∀ U : State, U.heap = H → s.WarmedH U.vm → Pc (Value.ref b :: As).toArray U) → (∃ cell : Cell, H[b]? = some cell ∧ cell.vm.isStatics = false ∧ cell.cls = D.C t) → As.length = n → ls.size = nL → 2 * (F0 m pc ls (As.reverse ++ .ref b :: rest)).monitorRoom + (rest.map fun v => v.category).sum ≤ 8 → cells + mc ≤ R.cells ∧ slots + ms ≤ R.slots →
    va_RunT p l e R s m args below meth c H locs cells slots mc ms (F0 m pc ls (As.reverse ++ .ref b :: rest)) rest q Ht free
/-- a call that may throw -/
def OkX (p : Program) (l : Launch) (e : Env) (R : Room) (s : State) (m : MethodId) (args : Array Value) (below : List Frame) (meth : Method) (c : Code) (D : GD) (X : State → Prop) (N : MI) (nL z0 l0 d pc : Nat) (f : Sem) : Prop :=
  ∀ (L : Ls) (st : List AV) (h : AH) (o : Out), WF h → z0 ≤ h.sz → l0 ≤ h.sl → f L st h (fun o' => o' = o) → ∃ (z : Nat) (as r : List AV) (q : Nat) (hd : Option Nat), o = cl z as h (kx hd q L r) ∧
    (∀ (Q : State → Prop) (v : Option AV) (h' : AH), h.sz ≤ h'.sz → h.sl ≤ h'.sl → h'.sz - z0 ≤ R.cells → h'.sl - l0 ≤ R.slots → MetA l D X N d z as h (.inl v) h' → MW p l e R s m args below meth c Q D nL z0 l0 (nxr q L r v h') → MW p l e R s m args below meth c Q D nL z0 l0 (pc, L, st, h)) ∧
    (∀ (a : Nat) (h' : AH), hd = none → h.sz ≤ h'.sz → h.sl ≤ h'.sl → h'.sz - z0 ≤ R.cells → h'.sl - l0 ≤ R.slots → MetA l D X N d z as h (.inr a) h' → MW p l e R s m args below meth c (ME below (QE D (.inr a) h' (h'.sz - z0) (h'.sl - l0)) args s) D nL z0 l0 (pc, L, st, h)) ∧
    (∀ (Q : State → Prop) (a : Nat) (h' : AH) (t : Nat), hd = some t → (h'.F a).1 = 6 → h.sz ≤ h'.sz → h.sl ≤ h'.sl → h'.sz - z0 ≤ R.cells → h'.sl - l0 ≤ R.slots → MetA l D X N d z as h (.inr a) h' → MW p l e R s m args below meth c Q D nL z0 l0 (t, L, [vR (some a)], h') → MW p l e R s m args below meth c Q D nL z0 l0 (pc, L, st, h))
/-- where the throw goes: no row of the table covers this place, or the first one takes class 6 -/
def Goes6 (s : State) (m : MethodId) (args : Array Value) (c : Code) (D : GD) (pc : Nat) : Option Nat → Prop
  | none => ∀ x ∈ c.exceptionTable.toList, covers x pc = false
  | some t => ∃ (x : ExceptionTableEntry) (suf : List ExceptionTableEntry) (own name : String) (cT : ClassId), c.exceptionTable.toList = x :: suf ∧ covers x pc = true ∧ x.handlerPc = t ∧ x.catchType ≠ 0 ∧ s.vm.findClass own = some m.cls ∧ (Cond.classLink own x.catchType name).before args s = true ∧ s.vm.findClass name = some cT ∧ s.vm.assignable (D.C 6) cT = true
theorem ok_ivVx (hK : KB D s) (hX : Xok X) (hXs : X s) (hlocks : meth.locks = false) {hd : Option Nat} (hgo : s.vm.method? m = some meth → meth.code = some c → Goes6 s m args c D pc hd) {zz : List (Nat × Nat)} {n : Nat} (h0 : lk zz 0 = none) (runs : ∀ t z, lk zz t = some z → RunV p l e R s m args below meth c D N nL d pc n t z ∧ RunVT p l e R s m args below meth c D N nL d pc n t z) : OkX p l e R s m args below meth c D X N nL z0 l0 d pc (ivVx hd zz n (pc + 3)) := by
  intro L st h o hw hz hl hf
  unfold ivVx at hf
  split at hf
  · rename_i as a r hsp
    cases g : Nat.ble (cats r) 8 with
    | false => rw [g] at hf; exact hf.elim
    | true =>
      rw [g] at hf
      obtain ⟨u, fs, z, e1, e2, hf⟩ := hf
      refine ⟨z, _, r, pc + 3, hd, (show _ = _ from hf).symm, ?_, ?_, ?_⟩
      · intro Q v h' g1 g2 g3 g4 hM k H ls stc locs h1 h2 h3 h4
        have h1 : hrel D s h H := h1
        obtain ⟨As, rest, rfl, a1, a2, a3⟩ := st_splt hsp h3
        obtain ⟨rest, rfl, a4⟩ := st_R a2
        obtain ⟨-, cell, q1, qq, q2, q3, q4, q5, q6⟩ := h1.2.2.2.2.2 a u fs e1 (fun y => by rw [y] at e2; exact absurd (h0.symm.trans e2) (by simp))
        exact callEnd (h := h) hz hl g1 g2 h2 h4 a4 ((runs _ z e2).1 H locs _ _ _ _ ls As rest a _ _ _ hM.b (PcA.blind hX) (fun U hU hW => ⟨⟨Value.ref a :: As, rfl, by simp [aV, a1]⟩, by rw [hU]; exact h1.moved hW.alike, hK.moved hW.alike, hX.2 s U hW hXs⟩) ⟨cell, q1, q5, q3⟩ a3 h2.1 (callW a4 g _ _) ⟨by omega, by omega⟩) k
      · intro ex h' eh g1 g2 g3 g4 hM H ls stc locs h1 h2 h3 h4
        subst eh
        have h1 : hrel D s h H := h1
        obtain ⟨As, rest, rfl, a1, a2, a3⟩ := st_splt hsp h3
        obtain ⟨rest, rfl, a4⟩ := st_R a2
        obtain ⟨-, cell, q1, qq, q2, q3, q4, q5, q6⟩ := h1.2.2.2.2.2 a u fs e1 (fun y => by rw [y] at e2; exact absurd (h0.symm.trans e2) (by simp))
        have hr := (runs _ z e2).2 H locs (h.sz - z0) (h.sl - l0) _ _ ls As rest a _ _ _ _ hM.t (PcA.blind hX) (fun U hU hW => ⟨⟨Value.ref a :: As, rfl, by simp [aV, a1]⟩, by rw [hU]; exact h1.moved hW.alike, hK.moved hW.alike, hX.2 s U hW hXs⟩) ⟨cell, q1, q5, q3⟩ a3 h2.1 (callW a4 g _ _) ⟨by omega, by omega⟩
        have hg : h.sz - z0 + (h'.sz - h.sz) = h'.sz - z0 := by omega
        have hg2 : h.sl - l0 + (h'.sl - h.sl) = h'.sl - l0 := by omega
        intro T hT Y
        obtain ⟨t, T', L', X', hL', k1, k2, k3, st1⟩ := hr T hT Y
        obtain ⟨st2, hrun, hend, hWm, hsm⟩ := X'.leaveThrown ex (g := F0 m pc ls rest) rfl rfl rfl (hgo X'.method X'.code) hlocks
        rw [hg, hg2] at hsm
        refine ⟨_, st1.trans st2, .threw ex, hrun, hend, rfl, ?_, locs ++ L', hWm, hsm, fun q hq => (List.mem_append.mp hq).elim (h4 q) (hL' q)⟩
        have hh : hrel D T' h' T'.heap := by
          rw [k1]
          exact k3.moved (by rw [← k2]; exact Vm.Alike.refl _)
        exact hh.moved (Vm.Alike.refl _)
      · intro Q ex h' t eh e6 g1 g2 g3 g4 hM k H ls stc locs h1 h2 h3 h4
        subst eh
        have h1 : hrel D s h H := h1
        obtain ⟨As, rest, rfl, a1, a2, a3⟩ := st_splt hsp h3
        obtain ⟨rest, rfl, a4⟩ := st_R a2
        obtain ⟨-, cell, q1, qq, q2, q3, q4, q5, q6⟩ := h1.2.2.2.2.2 a u fs e1 (fun y => by rw [y] at e2; exact absurd (h0.symm.trans e2) (by simp))
        have hr := (runs _ z e2).2 H locs (h.sz - z0) (h.sl - l0) _ _ ls As rest a _ _ _ _ hM.t (PcA.blind hX) (fun U hU hW => ⟨⟨Value.ref a :: As, rfl, by simp [aV, a1]⟩, by rw [hU]; exact h1.moved hW.alike, hK.moved hW.alike, hX.2 s U hW hXs⟩) ⟨cell, q1, q5, q3⟩ a3 h2.1 (callW a4 g _ _) ⟨by omega, by omega⟩
        have hg : h.sz - z0 + (h'.sz - h.sz) = h'.sz - z0 := by omega
        have hg2 : h.sl - l0 + (h'.sl - h.sl) = h'.sl - l0 := by omega
        intro T hT Y
        obtain ⟨x, suf, own, name, cT, x1, x2, rfl, x4, x5, x6, x7, x8⟩ := hgo Y.method Y.code
        obtain ⟨t, T', L', X', hL', k1, k2, k3, st1⟩ := hr T hT Y
        have hh : hrel D T' h' T'.heap := by
          rw [k1]
          exact k3.moved (by rw [← k2]; exact Vm.Alike.refl _)
        obtain ⟨-, ce, w1, qq', w2, w3, w4, w5, w6⟩ := hh.2.2.2.2.2 ex 6 _ (Prod.ext e6 rfl) (by decide)
        obtain ⟨c1, c2⟩ := X'.catches_of_link x5 x4 x6 x7 x8
        obtain ⟨vm', X'', st2⟩ := X'.thenCaughtThrough ex (g := F0 m pc ls rest) rfl st1 w1 w5 (by rw [w3]; exact c2) [] x suf x1 (fun y hy => nomatch hy) x2 (by rw [w3]; exact c1)
        rw [hg, hg2] at X''
        have hal : T'.vm.Alike s.vm := X'.warmed.alike.symm
        obtain ⟨t2, s2, b2⟩ := k T'.heap ls [.ref ex] (locs ++ L') (hh.moved hal) h2 rfl (fun q hq => (List.mem_append.mp hq).elim (h4 q) (hL' q)) (T'.setVm vm') rfl X''
        exact ⟨t2, st2.trans s2, b2⟩
  · exact hf.elim
end CALL
