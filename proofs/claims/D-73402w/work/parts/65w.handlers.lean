/-! a call of a method with handlers that returns (the method tell) -/
theorem MetB.metW {l : Launch} {y : MethodName} {rm : Room} {Pc : Array Value → State → Prop} {Qc : Array Value → State → Outcome → State → Prop} {mc ms : Nat} {free : Addr → Prop} {b : ByteArray} {L : Nat} {r : Option FieldType} {hh : List (Nat × Nat × Nat × Nat)} (h : MetB l y lw_all rm Pc Qc mc ms free) : Met l y (wsW_ y b L r hh) rm Pc Qc mc ms free := by
  intro p e ha hc hk s m args below hf happ hP _
  obtain ⟨h1, h2, h3, h4, h5, -, h6, h7⟩ := (Spec.appliesLoose_iff hf).mp happ
  exact h p e ha hc hk s m args below hf ⟨h1, h2, h3, h4, h5, h6, atoms_intro fun w hw => atoms_spec (ws := wsW_ y b L r hh) h7 w (List.mem_cons_of_mem _ hw)⟩ hP
section HANDLERS
variable {l : Launch} {D : GD} {X : State → Prop} {N : MI} {y : MethodName} {cc : ByteArray} {nL : Nat} {ret : Option FieldType} {d pc : Nat}
variable {y' : MethodName} {b' : ByteArray} {L' : Nat} {r' : Option FieldType} {z n idx : Nat}
theorem vr_VW {t Nn : Nat} {C : String} {T : u_T} {hh : List (Nat × Nat × Nat × Nat)} (hc : D.cof t = some (C, T, Nn)) (hN : N z = (y', b', L', r')) (hL : L' ≤ 81) (h1 : Cond.methodLink y.cls idx y' ∈ lw_all) (h2 : Cond.instanceMethod y' ∈ lw_all) (h3 : Cond.selects C y' y' ∈ lw_all) (h4 : Cond.initialized C ∈ lw_all) (h5 : Cond.codeWith y' b' L' r' hh ∈ lw_all) (hd0 : y'.cls = C ∧ y'.cls ≠ "java/lang/invoke/MethodHandle" ∧ y'.cls ≠ "java/lang/invoke/VarHandle" ∧ (parseMethodDescriptor y'.desc).map (fun d => d.parameters.length) = some n) (hd : decode cc pc = .ok (.invokevirtual idx, 3)) : VRow l D X N y cc nL ret d pc n t z := by
  intro p e R s m args below meth c h hf hl H locs cells slots mc ms ls As rest b Pc Qc free hM hbl hpre hrc hn hsz hW hroom
  rw [hN] at hM
  exact vx_runVW (C := C) ⟨h.1, h.2.1, h.2.2.1, h.2.2.2.1, h.2.2.2.2.1⟩ (MetB.metW hM) (vx_cwVW n h.2.2.2.2.1 (lw_VW h1 h2 h3 h4 h5) rfl rfl rfl hd0 (rm_ok hf hl hL)) ⟨hbl, rv_of h.2.2.2.2.2.1 hc hrc, hpre⟩ rfl hn hsz rfl hW hd hroom
end HANDLERS
