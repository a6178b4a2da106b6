/-! switches, casts, more calls, statics -/
def swT (y : Int) (df : Nat) : List (Int × Nat) → Nat
  | [] => df
  | (k, t) :: r => if y = k then t else swT y df r
theorem swK_T {y : Int} {K : Nat → Prop} {df : Nat} : ∀ ts : List (Int × Nat), swK y K df ts → K (swT y df ts)
  | [], k => k
  | (a, t) :: r, k => by
    unfold swT
    by_cases c : y = a
    · rw [if_pos c]; exact k.1 c
    · rw [if_neg c]; exact swK_T r (k.2 c)
/-- a switch's table as the machine has it -/
def tswl (pc : Nat) (lo : Int) : List Int → List (Int × Nat)
  | [] => []
  | o :: r => (lo, ((pc : Int) + o).toNat) :: tswl pc (lo + 1) r
theorem swT_out {pc df : Nat} {y : Int} : ∀ (offs : List Int) (lo : Int), (y < lo ∨ lo + offs.length ≤ y) → swT y df (tswl pc lo offs) = df
  | [], _, _ => rfl
  | o :: r, lo, h => by
    unfold tswl swT
    rw [if_neg (by simp only [List.length_cons] at h; omega)]
    exact swT_out r (lo + 1) (by simp only [List.length_cons] at h; omega)
theorem swT_in {pc df : Nat} {y : Int} : ∀ (offs : List Int) (lo : Int), lo ≤ y → y < lo + offs.length → ∃ o, offs[(y - lo).toNat]? = some o ∧ swT y df (tswl pc lo offs) = ((pc : Int) + o).toNat
  | [], lo, h1, h2 => by simp at h2; omega
  | o :: r, lo, h1, h2 => by
    unfold tswl swT
    by_cases c : y = lo
    · exact ⟨o, by rw [c]; simp, by rw [if_pos c]⟩
    · obtain ⟨o', a, b⟩ := swT_in (pc := pc) (df := df) (y := y) r (lo + 1) (by omega) (by simp only [List.length_cons] at h2; omega)
      refine ⟨o', ?_, by rw [if_neg c]; exact b⟩
      have e : (y - lo).toNat = (y - (lo + 1)).toNat + 1 := by omega
      rw [e, List.getElem?_cons_succ]
      exact a
section MORE
variable {l : Launch} {D : GD} {X : State → Prop} {N : MI} {y : MethodName} {cc : ByteArray} {nL : Nat} {ret : Option FieldType} {d pc : Nat}
theorem A_sw {dflt lo hi : Int} {offs : List Int} {len df : Nat} {ts : List (Int × Nat)} (hts : ts = tswl pc lo offs) (hhi : hi = lo + offs.length - 1) (hdf : (pc : Int) + dflt = (df : Int)) (hpos : offs.all (fun o => decide (0 ≤ (pc : Int) + o)) = true) (hd : decode cc pc = .ok (.tableswitch dflt lo hi offs.toArray, len)) : OkA l D X N y cc nL ret d pc (sw ts df) := by
  refine aN fun p e R s m args below meth c z0 l0 Q hc _ _ => ?_
  refine OkN.same fun L st h o hf => ?_
  unfold sw at hf
  split at hf
  · rename_i yy r
    have hf := swK_T _ hf
    refine ⟨_, _, _, hf.symm, fun H ls stc locs cells slots h1 h2 h3 k => ?_⟩
    obtain ⟨i, rc, rfl, rfl, h5⟩ := st_I h3
    have hk := k ls rc h2 h5
    rw [hts] at hk
    by_cases c1 : i.toInt < lo ∨ lo + offs.length ≤ i.toInt
    · rw [swT_out offs lo c1] at hk
      exact lv_tableOut hc.1 hc.2.1 hd (by omega) hdf hk
    · obtain ⟨o', a, b⟩ := swT_in (pc := pc) (df := df) offs lo (y := i.toInt) (by omega) (by omega)
      rw [b] at hk
      have hp := of_decide_eq_true (List.all_eq_true.mp hpos o' (List.mem_of_getElem? a))
      exact lv_tableIn hc.1 hc.2.1 hd (by omega) (by omega) (off := o') (by rw [List.getElem?_toArray]; exact a) (by omega) hk
  · exact hf.elim
theorem A_chk {ks : List (Nat × Nat)} {idx : Nat} {nm : String} (hlt : ∀ k, ks.elem k = true → k.2 < 200) (h1 : Cond.classLink y.cls idx nm ∈ lw_all) (hr : ∀ k, ks.elem k = true → ∃ C, (∀ s, KB D s → s.vm.findClass C = some (kid D k)) ∧ ∀ U, X U → va_Nw (.castable C nm) U) (hd : decode cc pc = .ok (.checkcast idx, 3)) : OkA l D X N y cc nL ret d pc (chk ks (pc + 3)) :=
  aN fun p e R s m args below meth c z0 l0 Q h _ _ => ok_chk hlt (fun H locs cells slots ls rest k => lv_castN h.1 h.2.1 hd k) fun k hk H locs cells slots ls rest a cell g1 g2 g3 kk => by
    obtain ⟨C, c1, c2⟩ := hr k hk
    exact va_castY (C := C) h.1 h.2.1 h.2.2.2.1 (h.2.2.2.2.1 _ h1) (c2 s h.2.2.2.2.2.2.1) ⟨cell, g1, g2, by rw [g3]; exact c1 s h.2.2.2.2.2.1⟩ hd kk
theorem castSame {p : Program} {e : Env} {R : Room} {s : State} {m : MethodId} {args : Array Value} {below : List Frame} {meth : Method} {c : Code} {Q : State → Prop} {H : Heap} {locs : List Loc} {cells slots : Nat} {ls : Array Slot} {rest : List Value} {own nm : String} {idx a : Nat} {cell : Cell} (hexec : p.tables.exec = Jvm.exec) (hb : c.code = cc) (hown : s.vm.findClass own = some m.cls) (hlink : (Cond.classLink own idx nm).before args s = true) (g1 : H[a]? = some cell) (g2 : cell.vm.isStatics = false) (g3 : s.vm.findClass nm = some cell.cls) (hd : decode cc pc = .ok (.checkcast idx, 3))
    (k : W p l e R s m args below meth c H locs cells slots Q (F0 m (pc + 3) ls (.ref a :: rest))) : W p l e R s m args below meth c H locs cells slots Q (F0 m pc ls (.ref a :: rest)) := by
  intro T hT X
  obtain ⟨vm', X', st⟩ := X.checkcastYes hexec hown hlink (by rw [hT]; exact g1) g2 g3 (va_asg _ _) (g := F0 m pc ls (.ref a :: rest)) rfl rfl (by rw [hb]; exact hd)
  obtain ⟨t, a1, b1⟩ := k (T.setVm vm') hT X'
  exact ⟨t, st t a1, b1⟩
/-- casts: to the very class, or to one that the words name -/
theorem A_chk2 {ks : List (Nat × Nat)} {idx : Nat} {nm : String} (hlt : ∀ k, ks.elem k = true → k.2 < 200) (h1 : Cond.classLink y.cls idx nm ∈ lw_all) (hr : ∀ k, ks.elem k = true → (∀ s, KB D s → s.vm.findClass nm = some (kid D k)) ∨ ∃ C, (∀ s, KB D s → s.vm.findClass C = some (kid D k)) ∧ ∀ U, X U → va_Nw (.castable C nm) U) (hd : decode cc pc = .ok (.checkcast idx, 3)) : OkA l D X N y cc nL ret d pc (chk ks (pc + 3)) :=
  aN fun p e R s m args below meth c z0 l0 Q h _ _ => ok_chk hlt (fun H locs cells slots ls rest k => lv_castN h.1 h.2.1 hd k) fun k hk H locs cells slots ls rest a cell g1 g2 g3 kk => by
    rcases hr k hk with c1 | ⟨C, c1, c2⟩
    · exact castSame h.1 h.2.1 h.2.2.2.1 (h.2.2.2.2.1 _ h1) g1 g2 (by rw [g3]; exact c1 s h.2.2.2.2.2.1) hd kk
    · exact va_castY (C := C) h.1 h.2.1 h.2.2.2.1 (h.2.2.2.2.1 _ h1) (c2 s h.2.2.2.2.2.2.1) ⟨cell, g1, g2, by rw [g3]; exact c1 s h.2.2.2.2.2.1⟩ hd kk
theorem kr0 {P : Nat × Nat → Prop} : ∀ k, ([] : List (Nat × Nat)).elem k = true → P k := fun k h => by cases h
theorem kr1 {P : Nat × Nat → Prop} {a : Nat × Nat} {r : List (Nat × Nat)} (h1 : P a) (h2 : ∀ k, r.elem k = true → P k) : ∀ k, (a :: r).elem k = true → P k := by
  intro k h
  rcases List.mem_cons.mp (List.mem_of_elem_eq_true h) with rfl | h
  · exact h1
  · exact h2 k (List.elem_eq_true_of_mem h)
theorem fc_F {t Nn : Nat} {C : String} {T : u_T} (hc : D.cof t = some (C, T, Nn)) : ∀ s, KB D s → s.vm.findClass C = some (kid D (0, t)) := fun s h => (h.1 t _ hc).1.1
theorem fc_I {t : Nat} {ty : FieldType} (hc : iof t = some ty) : ∀ s, KB D s → s.vm.findClass ("[" ++ ty.toString) = some (kid D (1, t)) := fun s h => (h.2.1 t _ hc).2
theorem fc_R {t : Nat} {ty : FieldType} (hc : D.rof t = some ty) : ∀ s, KB D s → s.vm.findClass ("[" ++ ty.toString) = some (kid D (2, t)) := fun s h => (h.2.2 t _ hc).2.1
variable {y' : MethodName} {b' : ByteArray} {L' : Nat} {r' : Option FieldType} {z n idx : Nat}
theorem A_invSN {host : String} (hN : N z = (y', b', L', r')) (hL : L' ≤ 81) (h1 : ∀ U, X U → va_Nw (.methodLinkNest y.cls idx y' host) U) (h2 : Cond.static y' ∈ lw_all) (h3 : Cond.initialized y'.cls ∈ lw_all) (h4 : Cond.code y' b' L' r' ∈ lw_all) (hX : Xok X) (hd0 : y'.cls ≠ "java/lang/invoke/MethodHandle" ∧ y'.cls ≠ "java/lang/invoke/VarHandle" ∧ (parseMethodDescriptor y'.desc).map (fun d => d.parameters.length) = some n) (hd : decode cc pc = .ok (.invokestatic idx, 3)) : OkA l D X N y cc nL ret d pc (ivS z n (pc + 3)) := by
  refine aC fun p e R s m args below meth c z0 l0 Q h hf hl => ?_
  intro L st hh o hw hz hll hff
  unfold ivS at hff
  split at hff
  · rename_i as r hsp
    cases g : Nat.ble (cats r) 8 with
    | false => rw [g] at hff; exact hff.elim
    | true =>
      rw [g] at hff
      refine ⟨z, as, r, pc + 3, (show _ = _ from hff).symm, fun v h' g1 g2 g3 g4 hM k H ls stc locs h1' h2' h3' h4' => ?_⟩
      have h1' : hrel D s hh H := h1'
      obtain ⟨As, rest, rfl, a1, a2, a3⟩ := st_splt hsp h3'
      have hM := hM.b
      rw [hN] at hM
      exact callEnd (h := hh) hz hll g1 g2 h2' h4' a2 (va_runSN ⟨h.1, h.2.1, h.2.2.1, h.2.2.2.1, h.2.2.2.2.1⟩ (MetB.met hM) ⟨va_cnB n h.2.2.2.2.1 (lw_meth h4) rfl rfl rfl (h1 s h.2.2.2.2.2.2.1) (h.2.2.2.2.1 _ h3) hd0 (rm_ok hf hl hL), h.2.2.2.2.1 _ h2, trivial⟩ ⟨PcA.blind hX, fun U hU hW => ⟨⟨As, rfl, a1⟩, by rw [hU]; exact h1'.moved hW.alike, h.2.2.2.2.2.1.moved hW.alike, hX.2 s U hW h.2.2.2.2.2.2.1⟩⟩ rfl a3 h2'.1 rfl (callW a2 g _ _) hd ⟨by omega, by omega⟩) k
  · exact hff.elim
theorem A_invIN {host : String} (hN : N z = (y', b', L', none)) (hL : L' ≤ 81) (h1 : ∀ U, X U → va_Nw (.methodLinkNest y.cls idx y' host) U) (h2 : Cond.instanceMethod y' ∈ lw_all) (h3 : Cond.initialized y'.cls ∈ lw_all) (h4 : Cond.code y' b' L' none ∈ lw_all) (hX : Xok X) (hi : y'.name = "<init>") (hd0 : y'.cls ≠ "java/lang/invoke/MethodHandle" ∧ y'.cls ≠ "java/lang/invoke/VarHandle" ∧ (parseMethodDescriptor y'.desc).map (fun d => d.parameters.length) = some n) (hd : decode cc pc = .ok (.invokespecial idx, 3)) : OkA l D X N y cc nL ret d pc (ivI z n (pc + 3)) :=
  aC fun p e R s m args below meth c z0 l0 Q h hf hl => ok_ivI h.2.2.2.2.2.1 hX h.2.2.2.2.2.2.1 fun H locs cells slots mc ms ls As rest b Pc Qc free hM hp hn hsz hW hroom => by
    rw [hN] at hM
    exact va_runIN ⟨h.1, h.2.1, h.2.2.1, h.2.2.2.1, h.2.2.2.2.1⟩ (MetB.met hM) ⟨va_cnB n h.2.2.2.2.1 (lw_meth h4) rfl rfl rfl (h1 s h.2.2.2.2.2.2.1) (h.2.2.2.2.1 _ h3) hd0 (rm_ok hf hl hL), hi, h.2.2.2.2.1 _ h2⟩ hp rfl hn hsz rfl hW hd hroom
theorem vr_SU {t Nn : Nat} {C : String} {T : u_T} (hc : D.cof t = some (C, T, Nn)) (hN : N z = (y', b', L', r')) (hL : L' ≤ 81) (hN0 : Nn ≠ 0) (h1 : Cond.methodLink y.cls idx y' ∈ lw_all) (h2 : Cond.sameMethod y'.cls y'.cls y'.name y'.desc ∈ lw_all) (h3 : Cond.superclass y.cls y'.cls ∈ lw_all) (h4 : Cond.instanceMethod y' ∈ lw_all) (h5 : Cond.initialized y'.cls ∈ lw_all) (h6 : Cond.code y' b' L' r' ∈ lw_all) (hd0 : y'.name ≠ "<init>" ∧ (parseMethodDescriptor y'.desc).map (fun d => d.parameters.length) = some n) (hd : decode cc pc = .ok (.invokespecial idx, 3)) : VRow l D X N y cc nL ret d pc n t z := by
  intro p e R s m args below meth c h hf hl H locs cells slots mc ms ls As rest b Pc Qc free hM hbl hpre hrc hn hsz hW hroom
  rw [hN] at hM
  exact va_runSU (C := C) (h.2.2.2.2.2.1.kn hc hN0).2 ⟨h.1, h.2.1, h.2.2.1, h.2.2.2.1, h.2.2.2.2.1⟩ (MetB.met hM) (va_cwSU n h.2.2.2.2.1 (lw_app (gl h1 (gl h2 (gl h3 (gl h4 (gl h5 gl0))))) (lw_meth h6)) rfl rfl rfl hd0 (rm_ok hf hl hL)) ⟨hbl, rv_of h.2.2.2.2.2.1 hc hrc, hpre⟩ rfl hn hsz rfl hW hd hroom
theorem vr_VN {t Nn : Nat} {C host : String} {T : u_T} (hc : D.cof t = some (C, T, Nn)) (hN : N z = (y', b', L', r')) (hL : L' ≤ 81) (h1 : ∀ U, X U → va_Nw (.methodLinkNest y.cls idx y' host) U) (h2 : Cond.instanceMethod y' ∈ lw_all) (h3 : Cond.selects C y' y' ∈ lw_all) (h4 : Cond.initialized y'.cls ∈ lw_all) (h5 : Cond.code y' b' L' r' ∈ lw_all) (hd0 : y'.cls ≠ "java/lang/invoke/MethodHandle" ∧ y'.cls ≠ "java/lang/invoke/VarHandle" ∧ (parseMethodDescriptor y'.desc).map (fun d => d.parameters.length) = some n) (hd : decode cc pc = .ok (.invokevirtual idx, 3)) : VRow l D X N y cc nL ret d pc n t z := by
  intro p e R s m args below meth c h hf hl H locs cells slots mc ms ls As rest b Pc Qc free hM hbl hpre hrc hn hsz hW hroom
  rw [hN] at hM
  exact va_runVN (C := C) ⟨h.1, h.2.1, h.2.2.1, h.2.2.2.1, h.2.2.2.2.1⟩ (MetB.met hM) ⟨va_cnB n h.2.2.2.2.1 (lw_meth h5) rfl rfl rfl (h1 s h.2.2.2.2.2.2.1) (h.2.2.2.2.1 _ h4) hd0 (rm_ok hf hl hL), h.2.2.2.2.1 _ h2, h.2.2.2.2.1 _ h3⟩ ⟨hbl, rv_of h.2.2.2.2.2.1 hc hrc, hpre⟩ rfl hn hsz rfl hW hd hroom
/-- a private method finds itself, whatever object it is called on -/
theorem sel_priv {s : State} {args : Array Value} {C : String} {Nn : Nat} (hy : y'.cls ≠ "java/lang/invoke/MethodHandle" ∧ y'.cls ≠ "java/lang/invoke/VarHandle") (hins : (Cond.instantiable C Nn).before args s = true) (hpriv : (Cond.privateMethod y').before args s = true) (hinst : (Cond.instanceMethod y').before args s = true) (hni : ∀ c k, s.vm.findClass y'.cls = some c → s.vm.classes[c]? = some k → k.isInterface = false) :
    (Cond.selects C y' y').before args s = true := by
  obtain ⟨c, k, hc, hk, -, hniab, -, -⟩ := Cond.instantiable_spec hins
  obtain ⟨mk, methM, hnamed, hmethM, -, -⟩ := Cond.instanceMethod_spec hinst
  have hfound : s.methodFound? y'.cls y'.name y'.desc = some mk := State.methodFound?_of_named hnamed hy
  have hcls := findClass_of_methodNamed hnamed
  obtain ⟨kM, hkM, -⟩ := Vm.findClass_spec hcls
  have hsel : selectMethod {} s.vm c mk = .method mk := selectMethod_private hmethM (Cond.privateMethod_at hpriv mk methM hnamed hmethM)
  have hn := hni _ _ hcls hkM
  simp only [Cond.before, Cond.holds, Cond.value, hc, hfound, hnamed, hsel, hkM]
  simp; exact hn
theorem vr_P {t Nn : Nat} {C : String} {T : u_T} {x8 y8 : MethodName} (hc : D.cof t = some (C, T, Nn)) (hN : N z = (y', b', L', r')) (hL : L' ≤ 81) (h1 : Cond.methodLink y.cls idx y' ∈ lw_all) (h2 : Cond.sameMethod y'.cls y'.cls y'.name y'.desc ∈ lw_all) (h3 : ∀ U, X U → va_Nw (.privateMethod y') U) (h7 : Cond.instantiable C Nn ∈ lw_all) (h8 : Cond.selects C x8 y8 ∈ lw_all) (h9 : y8.cls = y'.cls) (h4 : Cond.instanceMethod y' ∈ lw_all) (h5 : Cond.initialized y'.cls ∈ lw_all) (h6 : Cond.code y' b' L' r' ∈ lw_all) (hd0 : y'.cls ≠ "java/lang/invoke/MethodHandle" ∧ y'.cls ≠ "java/lang/invoke/VarHandle" ∧ (parseMethodDescriptor y'.desc).map (fun d => d.parameters.length) = some n) (hd : decode cc pc = .ok (.invokevirtual idx, 3)) : VRow l D X N y cc nL ret d pc n t z := by
  intro p e R s m args below meth c h hf hl H locs cells slots mc ms ls As rest b Pc Qc free hM hbl hpre hrc hn hsz hW hroom
  rw [hN] at hM
  have hts := h.2.2.2.2.1
  have hni : ∀ c k, s.vm.findClass y'.cls = some c → s.vm.classes[c]? = some k → k.isInterface = false := by
    intro c k hcc hkk
    obtain ⟨_, _, m8, _, _, e3, _, mk, e5, e6⟩ := Cond.selects_spec (hts _ h8)
    have e7 := findClass_of_methodNamed e3
    rw [h9] at e7
    cases e7.symm.trans hcc
    cases e5.symm.trans hkk
    exact e6
  have hsel := sel_priv (C := C) ⟨hd0.1, hd0.2.1⟩ (hts _ h7) (va_Nw.use (A := args) rfl (h3 s h.2.2.2.2.2.2.1)) (hts _ h4) hni
  have hG : GoodIn lw_all (ws_ y' b' L' r') := lw_meth h6
  have hcm : Cond.code y' b' L' r' ∈ ws_ y' b' L' r' := List.mem_cons_self
  have hr := rm_ok (mc := mc) (ms := ms) hf hl hL
  have cu : va_CU R s args y.cls C y'.cls idx y' y' b' L' r' (ws_ y' b' L' r') (rmD d mc ms) mc ms n := by
    refine ⟨⟨rfl, rfl, hr.1, hr.2, pay_in hts hG, hcm⟩, hts _ h6, hts _ h5, ⟨hd0.1, hd0.2.1⟩, fun sig hs => ?_, hts _ h1, hts _ h2, va_Decl.of (hts _ h4) (hts _ h6), hsel, hts _ h4⟩
    have h2 := hd0.2.2
    rw [hs] at h2
    exact (Option.some.inj h2).symm
  exact va_runU (C := C) (owner := y'.cls) (x := y') ⟨h.1, h.2.1, h.2.2.1, h.2.2.2.1, h.2.2.2.2.1⟩ (MetB.met hM) cu ⟨hbl, rv_of h.2.2.2.2.2.1 hc hrc, hpre⟩ rfl hn hsz rfl hW hd hroom
def FRow (l : Launch) (D : GD) (X : State → Prop) (N : MI) (y : MethodName) (cc : ByteArray) (nL : Nat) (ret : Option FieldType) (d pc n t z : Nat) : Prop := ∀ (p : Program) (e : Env) (R : Room) (s : State) (m : MethodId) (args : Array Value) (below : List Frame) (meth : Method) (c : Code), Cx D X y cc nL ret p s m args meth c → d + 2 ≤ R.frames → 100 * (d + 2) ≤ R.locals → RunF p l e R s m args below meth c D N nL d pc n t z
theorem fr_F {t Nn cnt : Nat} {C : String} {T : u_T} {x' : MethodName} (hc : D.cof t = some (C, T, Nn)) (hN : N z = (y', b', L', r')) (hL : L' ≤ 81) (hN0 : Nn ≠ 0) (h1 : Cond.methodLink y.cls idx x' ∈ lw_all) (h2 : Cond.selects C x' y' ∈ lw_all) (h3 : Cond.instanceMethod y' ∈ lw_all) (h4 : Cond.initialized y'.cls ∈ lw_all) (h5 : Cond.code y' b' L' r' ∈ lw_all) (hF : ∀ U, X U → va_Fw C x' y' U) (hd0 : x'.cls ≠ "java/lang/invoke/MethodHandle" ∧ x'.cls ≠ "java/lang/invoke/VarHandle" ∧ (parseMethodDescriptor x'.desc).map (fun d => d.parameters.length) = some n) (hd : decode cc pc = .ok (.invokeinterface idx cnt, 5)) : FRow l D X N y cc nL ret d pc n t z := by
  intro p e R s m args below meth c h hf hl H locs cells slots mc ms ls As rest b Pc Qc free hM hbl hpre hrc hn hsz hW hroom
  rw [hN] at hM
  exact va_runF (C := C) (h.2.2.2.2.2.1.kn hc hN0).2 ⟨h.1, h.2.1, h.2.2.1, h.2.2.2.1, h.2.2.2.2.1⟩ (MetB.met hM) (va_cwF n h.2.2.2.2.1 (lw_app (gl h1 (gl h2 (gl h3 (gl h4 gl0)))) (lw_meth h5)) rfl rfl rfl (hF s h.2.2.2.2.2.2.1) hd0 (rm_ok hf hl hL)) ⟨hbl, rv_of h.2.2.2.2.2.1 hc hrc, hpre⟩ rfl hn hsz rfl hW hd hroom
theorem A_invF {zz : List (Nat × Nat)} (hX : Xok X) (h0 : lk zz 0 = none) (rows : ∀ t z, lk zz t = some z → FRow l D X N y cc nL ret d pc n t z) : OkA l D X N y cc nL ret d pc (ivV zz n (pc + 5)) :=
  aC fun p e R s m args below meth c z0 l0 Q h hf hl => ok_ivF h.2.2.2.2.2.1 hX h.2.2.2.2.2.2.1 h0 fun t z q => rows t z q p e R s m args below meth c h hf hl
/-! statics -/
theorem gets_row {p : Program} {e : Env} {R : Room} {s : State} {m : MethodId} {args : Array Value} {below : List Frame} {meth : Method} {c : Code} {Q : State → Prop} {H : Heap} {locs : List Loc} {cells slots : Nat} {ls : Array Slot} {rest : List Value} {C n' ds ref : String} {v : Value} {hh : AH} (h : Cx D X y cc nL ret p s m args meth c) (hZ : va_Z C n' ds v (fun q => D.b ≤ q) s D.H0) (hlink : Cond.fieldLink y.cls idx ref n' ds ∈ lw_all) (hs : C = ref ∨ Cond.sameField ref C n' ds ∈ lw_all) (hd : decode cc pc = .ok (.getstatic idx, 3)) (hr : hrel D s hh H)
    (kk : W p l e R s m args below meth c H locs cells slots Q (F0 m (pc + 3) ls (v :: rest))) : W p l e R s m args below meth c H locs cells slots Q (F0 m pc ls rest) := by
  obtain ⟨cf, kf, fi, f, a, cell, h1, h2, h3, h4, h5, h6, h7, h8⟩ := hZ
  have ha : a < D.b := Nat.not_le.mp h8
  have h1' : s.fieldFound? ref n' ds = some (cf, kf, fi, f) := by
    rcases hs with hs | hs
    · rw [← hs]; exact h1
    · exact u_same (h.2.2.2.2.1 _ hs) _ h1
  exact W.gets h.1 h.2.1 h.2.2.2.1 (h.2.2.2.2.1 _ hlink) h1' h2 h3 h4 (by rw [hr.2.1.2 a ha]; exact h5) (fun z => by rw [z] at h6; cases h6) h7 rfl hd kk
theorem A_getsI {C n' ds ref : String} {v : Int32} {k : Int} (hk : v.toInt = k) (hZ : ∀ U, X U → va_Z C n' ds (.int v) (fun q => D.b ≤ q) U D.H0) (hlink : Cond.fieldLink y.cls idx ref n' ds ∈ lw_all) (hs : C = ref ∨ Cond.sameField ref C n' ds ∈ lw_all) (hd : decode cc pc = .ok (.getstatic idx, 3)) : OkA l D X N y cc nL ret d pc (kI k (pc + 3)) :=
  aN fun p e R s m args below meth c z0 l0 Q h _ _ => OkN.same fun L st hh o hf => ⟨pc + 3, L, vI k :: st, hf.symm, fun H ls stc locs cells slots h1 h2 h3 k => gets_row h (hZ s h.2.2.2.2.2.2.1) hlink hs hd h1 (k _ _ h2 (by simp [aV, hk, h3]))⟩
theorem A_getsR {C n' ds ref : String} {k : Nat} (hZ : ∀ U, X U → va_Z C n' ds (va_rf (D.S k)) (fun q => D.b ≤ q) U D.H0) (hlink : Cond.fieldLink y.cls idx ref n' ds ∈ lw_all) (hs : C = ref ∨ Cond.sameField ref C n' ds ∈ lw_all) (hd : decode cc pc = .ok (.getstatic idx, 3)) : OkA l D X N y cc nL ret d pc (gst k (pc + 3)) :=
  aN fun p e R s m args below meth c z0 l0 Q h _ _ => OkN.same fun L st hh o hf => ⟨pc + 3, L, vR (hh.S k) :: st, hf.symm, fun H ls stc locs cells slots h1 h2 h3 kx => gets_row h (hZ s h.2.2.2.2.2.2.1) hlink hs hd h1 (kx _ _ h2 (by
    have h1 : hrel D s hh H := h1
    rw [List.map_cons, aV_rf, h3, h1.2.2.1]))⟩
theorem A_ldcw {n : Int} {v : Int32} (hn : v.toInt = n) (h1 : Cond.constant y.cls idx v ∈ lw_all) (hd : decode cc pc = .ok (.ldc_w idx, 3)) : OkA l D X N y cc nL ret d pc (kI n (pc + 3)) :=
  aN fun p e R s m args below meth c z0 l0 Q h _ _ => ok_kI hn fun H locs cells slots ls rest k => lv_ldcw h.1 h.2.1 h.2.2.2.1 (h.2.2.2.2.1 _ h1) hd k
end MORE
