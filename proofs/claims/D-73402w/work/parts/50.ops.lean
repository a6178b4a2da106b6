/-! EACH OPCODE, IN EVERY BODY: by its decode row -/
section ROWS
variable {p : Program} {l : Launch} {e : Env} {R : Room} {s : State} {m : MethodId} {args : Array Value} {below : List Frame} {meth : Method} {c : Code} {H : Heap} {locs : List Loc} {cells slots : Nat} {Q : State → Prop} {cc : ByteArray} {pc : Nat} {ls ls2 : Array Slot} {rest : List Value}
theorem rs_istore_n {k : Fin 4} {y : Int32} (hexec : p.tables.exec = Jvm.exec) (hb : c.code = cc) (hdg : decode cc pc = .ok (.istore_n k, 1)) (e' : storeLocals ls (k : Nat) (.int y) = some ls2) (kk : W p l e R s m args below meth c H locs cells slots Q (F0 m (pc + 1) ls2 rest)) : W p l e R s m args below meth c H locs cells slots Q (F0 m pc ls (.int y :: rest)) := by
  intro T hT X
  obtain ⟨t, a, b⟩ := kk T hT X
  refine ⟨t, ?_, b⟩
  jvm_step X.here [X.here.top, ↓top_set X.here.top, hexec, hb, hdg, e']
  exact a
theorem rs_istore {i : Nat} {y : Int32} (hexec : p.tables.exec = Jvm.exec) (hb : c.code = cc) (hdg : decode cc pc = .ok (.istore i, 2)) (e' : storeLocals ls i (.int y) = some ls2) (kk : W p l e R s m args below meth c H locs cells slots Q (F0 m (pc + 2) ls2 rest)) : W p l e R s m args below meth c H locs cells slots Q (F0 m pc ls (.int y :: rest)) := by
  intro T hT X
  obtain ⟨t, a, b⟩ := kk T hT X
  refine ⟨t, ?_, b⟩
  jvm_step X.here [X.here.top, ↓top_set X.here.top, hexec, hb, hdg, e']
  exact a
theorem rs_lstore_n {k : Fin 4} {y : Int64} (hexec : p.tables.exec = Jvm.exec) (hb : c.code = cc) (hdg : decode cc pc = .ok (.lstore_n k, 1)) (e' : storeLocals ls (k : Nat) (.long y) = some ls2) (kk : W p l e R s m args below meth c H locs cells slots Q (F0 m (pc + 1) ls2 rest)) : W p l e R s m args below meth c H locs cells slots Q (F0 m pc ls (.long y :: rest)) := by
  intro T hT X
  obtain ⟨t, a, b⟩ := kk T hT X
  refine ⟨t, ?_, b⟩
  jvm_step X.here [X.here.top, ↓top_set X.here.top, hexec, hb, hdg, e']
  exact a
theorem rs_lstore {i : Nat} {y : Int64} (hexec : p.tables.exec = Jvm.exec) (hb : c.code = cc) (hdg : decode cc pc = .ok (.lstore i, 2)) (e' : storeLocals ls i (.long y) = some ls2) (kk : W p l e R s m args below meth c H locs cells slots Q (F0 m (pc + 2) ls2 rest)) : W p l e R s m args below meth c H locs cells slots Q (F0 m pc ls (.long y :: rest)) := by
  intro T hT X
  obtain ⟨t, a, b⟩ := kk T hT X
  refine ⟨t, ?_, b⟩
  jvm_step X.here [X.here.top, ↓top_set X.here.top, hexec, hb, hdg, e']
  exact a
theorem rs_astore_n {k : Fin 4} {y : Option Nat} (hexec : p.tables.exec = Jvm.exec) (hb : c.code = cc) (hdg : decode cc pc = .ok (.astore_n k, 1)) (e' : storeLocals ls (k : Nat) (va_rf y) = some ls2) (kk : W p l e R s m args below meth c H locs cells slots Q (F0 m (pc + 1) ls2 rest)) : W p l e R s m args below meth c H locs cells slots Q (F0 m pc ls (va_rf y :: rest)) := by
  intro T hT X
  obtain ⟨t, a, b⟩ := kk T hT X
  refine ⟨t, ?_, b⟩
  cases y with
  | none =>
    have e' : storeLocals ls (k : Nat) .null = some ls2 := e'
    show Steps _ _ _ (T.setTop (F0 m pc ls (.null :: rest))) _
    jvm_step X.here [X.here.top, ↓top_set X.here.top, hexec, hb, hdg, e', Value.isRef]
    exact a
  | some y =>
    have e' : storeLocals ls (k : Nat) (.ref y) = some ls2 := e'
    show Steps _ _ _ (T.setTop (F0 m pc ls (.ref y :: rest))) _
    jvm_step X.here [X.here.top, ↓top_set X.here.top, hexec, hb, hdg, e', Value.isRef]
    exact a
theorem rs_astore {i : Nat} {y : Option Nat} (hexec : p.tables.exec = Jvm.exec) (hb : c.code = cc) (hdg : decode cc pc = .ok (.astore i, 2)) (e' : storeLocals ls i (va_rf y) = some ls2) (kk : W p l e R s m args below meth c H locs cells slots Q (F0 m (pc + 2) ls2 rest)) : W p l e R s m args below meth c H locs cells slots Q (F0 m pc ls (va_rf y :: rest)) := by
  intro T hT X
  obtain ⟨t, a, b⟩ := kk T hT X
  refine ⟨t, ?_, b⟩
  cases y with
  | none =>
    have e' : storeLocals ls i .null = some ls2 := e'
    show Steps _ _ _ (T.setTop (F0 m pc ls (.null :: rest))) _
    jvm_step X.here [X.here.top, ↓top_set X.here.top, hexec, hb, hdg, e', Value.isRef]
    exact a
  | some y =>
    have e' : storeLocals ls i (.ref y) = some ls2 := e'
    show Steps _ _ _ (T.setTop (F0 m pc ls (.ref y :: rest))) _
    jvm_step X.here [X.here.top, ↓top_set X.here.top, hexec, hb, hdg, e', Value.isRef]
    exact a
theorem rs_iinc {i : Nat} {n : Int} {y : Int32} (hexec : p.tables.exec = Jvm.exec) (hb : c.code = cc) (hdg : decode cc pc = .ok (.iinc i n, 3)) (hg : ls[i]? = some (.val (.int y))) (e' : storeLocals ls i (.int (y + Int32.ofInt n)) = some ls2) (kk : W p l e R s m args below meth c H locs cells slots Q (F0 m (pc + 3) ls2 rest)) : W p l e R s m args below meth c H locs cells slots Q (F0 m pc ls rest) := by
  intro T hT X
  obtain ⟨t, a, b⟩ := kk T hT X
  refine ⟨t, ?_, b⟩
  jvm_step X.here [X.here.top, ↓top_set X.here.top, hexec, hb, hdg, hg, e']
  exact a
end ROWS
section OPS
variable {l : Launch} {D : GD} {X : State → Prop} {N : MI} {y : MethodName} {cc : ByteArray} {nL : Nat} {ret : Option FieldType} {d pc : Nat}
theorem okl {k : Nat} {f : Sem} (h : OkA l D X N y cc nL ret d k f) : OkA l D X N y cc nL ret d pc (cond (Nat.beq pc k) f bad) := by
  cases g : Nat.beq pc k with
  | true =>
    have := Nat.eq_of_beq_eq_true g
    subst this
    exact h
  | false => exact fun p e R s m args below meth c z0 l0 _ _ _ => Or.inl fun Q L st h o _ _ _ hf => hf.elim
theorem okn {b : Bool} {f g : Sem} (hf : OkA l D X N y cc nL ret d pc f) (hg : OkA l D X N y cc nL ret d pc g) : OkA l D X N y cc nL ret d pc (cond b f g) := by
  cases b
  · exact hg
  · exact hf
theorem aN {f : Sem} (h : ∀ (p : Program) (e : Env) (R : Room) (s : State) (m : MethodId) (args : Array Value) (below : List Frame) (meth : Method) (c : Code) (z0 l0 : Nat) (Q : State → Prop), Cx D X y cc nL ret p s m args meth c → d + 2 ≤ R.frames → 100 * (d + 2) ≤ R.locals → OkN p l e R s m args below meth c Q D nL z0 l0 pc f) : OkA l D X N y cc nL ret d pc f :=
  fun p e R s m args below meth c z0 l0 hc h1 h2 => Or.inl fun Q => h p e R s m args below meth c z0 l0 Q hc h1 h2
theorem aC {f : Sem} (h : ∀ (p : Program) (e : Env) (R : Room) (s : State) (m : MethodId) (args : Array Value) (below : List Frame) (meth : Method) (c : Code) (z0 l0 : Nat) (Q : State → Prop), Cx D X y cc nL ret p s m args meth c → d + 2 ≤ R.frames → 100 * (d + 2) ≤ R.locals → OkC p l e R s m args below meth c Q D X N nL z0 l0 d pc f) : OkA l D X N y cc nL ret d pc f :=
  fun p e R s m args below meth c z0 l0 hc h1 h2 => Or.inr (Or.inl fun Q => h p e R s m args below meth c z0 l0 Q hc h1 h2)
theorem aR {f : Sem} (h : ∀ (p : Program) (e : Env) (R : Room) (s : State) (m : MethodId) (args : Array Value) (below : List Frame) (meth : Method) (c : Code) (z0 l0 : Nat), Cx D X y cc nL ret p s m args meth c → OkR p l e R s m args below meth c D nL z0 l0 pc f) : OkA l D X N y cc nL ret d pc f :=
  fun p e R s m args below meth c z0 l0 hc h1 h2 => Or.inr (Or.inr (Or.inl (h p e R s m args below meth c z0 l0 hc)))
theorem A_bad : OkA l D X N y cc nL ret d pc bad := aN fun p e R s m args below meth c z0 l0 Q hc _ _ L st h o _ _ _ hf => hf.elim
theorem A_iconst {n : Int} (hn : (Int32.ofInt n).toInt = n) (hd : decode cc pc = .ok (.iconst n, 1)) : OkA l D X N y cc nL ret d pc (kI n (pc + 1)) := aN fun p e R s m args below meth c z0 l0 Q hc _ _ => ok_kI hn (fun H locs cells slots ls rest k => lv_iconst hc.1 hc.2.1 hd rfl k)
theorem A_bipush {n : Int} (hn : ((Int8.ofInt n).toInt32).toInt = n) (hd : decode cc pc = .ok (.bipush n, 2)) : OkA l D X N y cc nL ret d pc (kI n (pc + 2)) := aN fun p e R s m args below meth c z0 l0 Q hc _ _ => ok_kI hn (fun H locs cells slots ls rest k => lv_bipush hc.1 hc.2.1 hd rfl k)
theorem A_sipush {n : Int} (hn : ((Int16.ofInt n).toInt32).toInt = n) (hd : decode cc pc = .ok (.sipush n, 3)) : OkA l D X N y cc nL ret d pc (kI n (pc + 3)) := aN fun p e R s m args below meth c z0 l0 Q hc _ _ => ok_kI hn (fun H locs cells slots ls rest k => lv_sipush hc.1 hc.2.1 hd rfl k)
theorem A_lconst {k : Fin 2} {n : Int} (hn : (Int64.ofNat (k : Nat)).toInt = n) (hd : decode cc pc = .ok (.lconst k, 1)) : OkA l D X N y cc nL ret d pc (kL n (pc + 1)) := aN fun p e R s m args below meth c z0 l0 Q hc _ _ => ok_kL hn (fun H locs cells slots ls rest k => lv_lconst hc.1 hc.2.1 hd rfl k)
theorem A_aconst_null (hd : decode cc pc = .ok (.aconst_null, 1)) : OkA l D X N y cc nL ret d pc (kN (pc + 1)) := aN fun p e R s m args below meth c z0 l0 Q hc _ _ => ok_kN (fun H locs cells slots ls rest k => lv_null hc.1 hc.2.1 hd k)
theorem A_iload_n {k : Fin 4} {i : Nat} (hi : (k : Nat) = i) (hd : decode cc pc = .ok (.iload_n k, 1)) : OkA l D X N y cc nL ret d pc (lodI i (pc + 1)) := aN fun p e R s m args below meth c z0 l0 Q hc _ _ => ok_lodI (fun H locs cells slots ls rest v hv k => lv_iload_n hc.1 hc.2.1 hd hi hv k)
theorem A_iload {i : Nat} (hd : decode cc pc = .ok (.iload i, 2)) : OkA l D X N y cc nL ret d pc (lodI i (pc + 2)) := aN fun p e R s m args below meth c z0 l0 Q hc _ _ => ok_lodI (fun H locs cells slots ls rest v hv k => lv_iload hc.1 hc.2.1 hd hv k)
theorem A_lload_n {k : Fin 4} {i : Nat} (hi : (k : Nat) = i) (hd : decode cc pc = .ok (.lload_n k, 1)) : OkA l D X N y cc nL ret d pc (lodL i (pc + 1)) := aN fun p e R s m args below meth c z0 l0 Q hc _ _ => ok_lodL (fun H locs cells slots ls rest v hv k => lv_lload_n hc.1 hc.2.1 hd hi hv k)
theorem A_lload {i : Nat} (hd : decode cc pc = .ok (.lload i, 2)) : OkA l D X N y cc nL ret d pc (lodL i (pc + 2)) := aN fun p e R s m args below meth c z0 l0 Q hc _ _ => ok_lodL (fun H locs cells slots ls rest v hv k => lv_lload hc.1 hc.2.1 hd hv k)
theorem A_aload_n {k : Fin 4} {i : Nat} (hi : (k : Nat) = i) (hd : decode cc pc = .ok (.aload_n k, 1)) : OkA l D X N y cc nL ret d pc (lodR i (pc + 1)) := aN fun p e R s m args below meth c z0 l0 Q hc _ _ => ok_lodR (fun H locs cells slots ls rest v hv k => by cases v with | none => exact lv_aload_nN hc.1 hc.2.1 hd hi hv k | some v => exact lv_aload_n hc.1 hc.2.1 hd hi hv k)
theorem A_aload {i : Nat} (hd : decode cc pc = .ok (.aload i, 2)) : OkA l D X N y cc nL ret d pc (lodR i (pc + 2)) := aN fun p e R s m args below meth c z0 l0 Q hc _ _ => ok_lodR (fun H locs cells slots ls rest v hv k => by cases v with | none => exact lv_aloadN hc.1 hc.2.1 hd hv k | some v => exact lv_aload hc.1 hc.2.1 hd hv k)
theorem A_istore_n {k : Fin 4} {i : Nat} (hi : (k : Nat) = i) (hn : i < nL) (hd : decode cc pc = .ok (.istore_n k, 1)) : OkA l D X N y cc nL ret d pc (stoI i (pc + 1)) := aN fun p e R s m args below meth c z0 l0 Q hc _ _ => ok_stoI hn (fun H locs cells slots ls rest ls2 v hv k => by subst hi; exact rs_istore_n hc.1 hc.2.1 hd hv k)
theorem A_istore {i : Nat} (hn : i < nL) (hd : decode cc pc = .ok (.istore i, 2)) : OkA l D X N y cc nL ret d pc (stoI i (pc + 2)) := aN fun p e R s m args below meth c z0 l0 Q hc _ _ => ok_stoI hn (fun H locs cells slots ls rest ls2 v hv k => rs_istore hc.1 hc.2.1 hd hv k)
theorem A_lstore_n {k : Fin 4} {i : Nat} (hi : (k : Nat) = i) (hn : i + 1 < nL) (hd : decode cc pc = .ok (.lstore_n k, 1)) : OkA l D X N y cc nL ret d pc (stoL i (pc + 1)) := aN fun p e R s m args below meth c z0 l0 Q hc _ _ => ok_stoL hn (fun H locs cells slots ls rest ls2 v hv k => by subst hi; exact rs_lstore_n hc.1 hc.2.1 hd hv k)
theorem A_lstore {i : Nat} (hn : i + 1 < nL) (hd : decode cc pc = .ok (.lstore i, 2)) : OkA l D X N y cc nL ret d pc (stoL i (pc + 2)) := aN fun p e R s m args below meth c z0 l0 Q hc _ _ => ok_stoL hn (fun H locs cells slots ls rest ls2 v hv k => rs_lstore hc.1 hc.2.1 hd hv k)
theorem A_astore_n {k : Fin 4} {i : Nat} (hi : (k : Nat) = i) (hn : i < nL) (hd : decode cc pc = .ok (.astore_n k, 1)) : OkA l D X N y cc nL ret d pc (stoR i (pc + 1)) := aN fun p e R s m args below meth c z0 l0 Q hc _ _ => ok_stoR hn (fun H locs cells slots ls rest ls2 v hv k => by subst hi; exact rs_astore_n hc.1 hc.2.1 hd hv k)
theorem A_astore {i : Nat} (hn : i < nL) (hd : decode cc pc = .ok (.astore i, 2)) : OkA l D X N y cc nL ret d pc (stoR i (pc + 2)) := aN fun p e R s m args below meth c z0 l0 Q hc _ _ => ok_stoR hn (fun H locs cells slots ls rest ls2 v hv k => rs_astore hc.1 hc.2.1 hd hv k)
theorem A_iinc {i : Nat} {n : Int} (hn : i < nL) (hd : decode cc pc = .ok (.iinc i n, 3)) : OkA l D X N y cc nL ret d pc (inc i n (pc + 3)) := aN fun p e R s m args below meth c z0 l0 Q hc _ _ => ok_inc hn (fun H locs cells slots ls rest ls2 v hg hv k => rs_iinc hc.1 hc.2.1 hd hg hv k)
theorem A_iadd (hd : decode cc pc = .ok (.iadd, 1)) : OkA l D X N y cc nL ret d pc (opI iadd (pc + 1)) := aN fun p e R s m args below meth c z0 l0 Q hc _ _ => ok_opI (g := fun x y => x + y) (fun x y => by simp only [iadd, ofI32]) (fun H locs cells slots ls rest x y k => lv_iadd hc.1 hc.2.1 hd k)
theorem A_isub (hd : decode cc pc = .ok (.isub, 1)) : OkA l D X N y cc nL ret d pc (opI isub (pc + 1)) := aN fun p e R s m args below meth c z0 l0 Q hc _ _ => ok_opI (g := fun x y => x - y) (fun x y => by simp only [isub, ofI32]) (fun H locs cells slots ls rest x y k => lv_isub hc.1 hc.2.1 hd k)
theorem A_imul (hd : decode cc pc = .ok (.imul, 1)) : OkA l D X N y cc nL ret d pc (opI imul (pc + 1)) := aN fun p e R s m args below meth c z0 l0 Q hc _ _ => ok_opI (g := fun x y => x * y) (fun x y => by simp only [imul, ofI32]) (fun H locs cells slots ls rest x y k => lv_imul hc.1 hc.2.1 hd k)
theorem A_iand (hd : decode cc pc = .ok (.iand, 1)) : OkA l D X N y cc nL ret d pc (opI iand (pc + 1)) := aN fun p e R s m args below meth c z0 l0 Q hc _ _ => ok_opI (g := fun x y => x &&& y) (fun x y => by simp only [iand, ofI32]) (fun H locs cells slots ls rest x y k => lv_iand hc.1 hc.2.1 hd k)
theorem A_ior (hd : decode cc pc = .ok (.ior, 1)) : OkA l D X N y cc nL ret d pc (opI ior (pc + 1)) := aN fun p e R s m args below meth c z0 l0 Q hc _ _ => ok_opI (g := fun x y => x ||| y) (fun x y => by simp only [ior, ofI32]) (fun H locs cells slots ls rest x y k => lv_ior hc.1 hc.2.1 hd k)
theorem A_ixor (hd : decode cc pc = .ok (.ixor, 1)) : OkA l D X N y cc nL ret d pc (opI ixor (pc + 1)) := aN fun p e R s m args below meth c z0 l0 Q hc _ _ => ok_opI (g := fun x y => x ^^^ y) (fun x y => by simp only [ixor, ofI32]) (fun H locs cells slots ls rest x y k => lv_ixor hc.1 hc.2.1 hd k)
theorem A_ishl (hd : decode cc pc = .ok (.ishl, 1)) : OkA l D X N y cc nL ret d pc (opI ishl (pc + 1)) := aN fun p e R s m args below meth c z0 l0 Q hc _ _ => ok_opI (g := fun x y => x <<< (y &&& 31)) (fun x y => by simp only [ishl, ofI32]) (fun H locs cells slots ls rest x y k => lv_ishl hc.1 hc.2.1 hd k)
theorem A_ishr (hd : decode cc pc = .ok (.ishr, 1)) : OkA l D X N y cc nL ret d pc (opI ishr (pc + 1)) := aN fun p e R s m args below meth c z0 l0 Q hc _ _ => ok_opI (g := fun x y => x >>> (y &&& 31)) (fun x y => by simp only [ishr, ofI32]) (fun H locs cells slots ls rest x y k => lv_ishr hc.1 hc.2.1 hd k)
theorem A_iushr (hd : decode cc pc = .ok (.iushr, 1)) : OkA l D X N y cc nL ret d pc (opI iushr (pc + 1)) := aN fun p e R s m args below meth c z0 l0 Q hc _ _ => ok_opI (g := fun x y => (x.toUInt32 >>> (y.toUInt32 &&& Int32.toUInt32 31)).toInt32) (fun x y => by simp only [iushr, ofI32]) (fun H locs cells slots ls rest x y k => lv_iushr hc.1 hc.2.1 hd rfl k)
theorem A_idiv (hd : decode cc pc = .ok (.idiv, 1)) : OkA l D X N y cc nL ret d pc (opD idiv (pc + 1)) := aN fun p e R s m args below meth c z0 l0 Q hc _ _ => ok_opD (g := fun x y => x / y) (fun x y => by simp only [idiv, ofI32]) (fun H locs cells slots ls rest x y hne k => lv_idiv hc.1 hc.2.1 hd hne k)
theorem A_irem (hd : decode cc pc = .ok (.irem, 1)) : OkA l D X N y cc nL ret d pc (opD irem (pc + 1)) := aN fun p e R s m args below meth c z0 l0 Q hc _ _ => ok_opD (g := fun x y => x - x / y * y) (fun x y => by simp only [irem, ofI32]) (fun H locs cells slots ls rest x y hne k => lv_irem hc.1 hc.2.1 hd hne k)
theorem A_ineg (hd : decode cc pc = .ok (.ineg, 1)) : OkA l D X N y cc nL ret d pc (unI ineg (pc + 1)) := aN fun p e R s m args below meth c z0 l0 Q hc _ _ => ok_unI (g := fun x => -x) (fun x => by simp only [ineg, ofI32]) (fun H locs cells slots ls rest x k => lv_ineg hc.1 hc.2.1 hd k)
theorem A_i2b (hd : decode cc pc = .ok (.i2b, 1)) : OkA l D X N y cc nL ret d pc (unI i2b (pc + 1)) := aN fun p e R s m args below meth c z0 l0 Q hc _ _ => ok_unI (g := fun x => x.toInt8.toInt32) (fun x => by simp only [i2b, ofI32]) (fun H locs cells slots ls rest x k => lv_i2b hc.1 hc.2.1 hd rfl k)
theorem A_i2c (hd : decode cc pc = .ok (.i2c, 1)) : OkA l D X N y cc nL ret d pc (unI i2c (pc + 1)) := aN fun p e R s m args below meth c z0 l0 Q hc _ _ => ok_unI (g := fun x => (x.toUInt32 % 65536).toInt32) (fun x => by simp only [i2c, ofI32]) (fun H locs cells slots ls rest x k => lv_i2c hc.1 hc.2.1 hd rfl k)
theorem A_ladd (hd : decode cc pc = .ok (.ladd, 1)) : OkA l D X N y cc nL ret d pc (opL ladd (pc + 1)) := aN fun p e R s m args below meth c z0 l0 Q hc _ _ => ok_opL (g := fun x y => x + y) (fun x y => by simp only [ladd, ofI64]) (fun H locs cells slots ls rest x y k => lv_ladd hc.1 hc.2.1 hd k)
theorem A_lsub (hd : decode cc pc = .ok (.lsub, 1)) : OkA l D X N y cc nL ret d pc (opL lsub (pc + 1)) := aN fun p e R s m args below meth c z0 l0 Q hc _ _ => ok_opL (g := fun x y => x - y) (fun x y => by simp only [lsub, ofI64]) (fun H locs cells slots ls rest x y k => lv_lsub hc.1 hc.2.1 hd k)
theorem A_lmul (hd : decode cc pc = .ok (.lmul, 1)) : OkA l D X N y cc nL ret d pc (opL lmul (pc + 1)) := aN fun p e R s m args below meth c z0 l0 Q hc _ _ => ok_opL (g := fun x y => x * y) (fun x y => by simp only [lmul, ofI64]) (fun H locs cells slots ls rest x y k => lv_lmul hc.1 hc.2.1 hd k)
theorem A_land (hd : decode cc pc = .ok (.land, 1)) : OkA l D X N y cc nL ret d pc (opL land (pc + 1)) := aN fun p e R s m args below meth c z0 l0 Q hc _ _ => ok_opL (g := fun x y => x &&& y) (fun x y => by simp only [land, ofI64]) (fun H locs cells slots ls rest x y k => lv_land hc.1 hc.2.1 hd k)
theorem A_lor (hd : decode cc pc = .ok (.lor, 1)) : OkA l D X N y cc nL ret d pc (opL lor (pc + 1)) := aN fun p e R s m args below meth c z0 l0 Q hc _ _ => ok_opL (g := fun x y => x ||| y) (fun x y => by simp only [lor, ofI64]) (fun H locs cells slots ls rest x y k => lv_lor hc.1 hc.2.1 hd k)
theorem A_lxor (hd : decode cc pc = .ok (.lxor, 1)) : OkA l D X N y cc nL ret d pc (opL lxor (pc + 1)) := aN fun p e R s m args below meth c z0 l0 Q hc _ _ => ok_opL (g := fun x y => x ^^^ y) (fun x y => by simp only [lxor, ofI64]) (fun H locs cells slots ls rest x y k => lv_lxor hc.1 hc.2.1 hd k)
theorem A_ldiv (hd : decode cc pc = .ok (.ldiv, 1)) : OkA l D X N y cc nL ret d pc (opLD ldiv (pc + 1)) := aN fun p e R s m args below meth c z0 l0 Q hc _ _ => ok_opLD (g := fun x y => x / y) (fun x y => by simp only [ldiv, ofI64]) (fun H locs cells slots ls rest x y hne k => lv_ldiv hc.1 hc.2.1 hd hne k)
theorem A_lshl (hd : decode cc pc = .ok (.lshl, 1)) : OkA l D X N y cc nL ret d pc (opS lshl (pc + 1)) := aN fun p e R s m args below meth c z0 l0 Q hc _ _ => ok_opS (g := fun x y => x <<< (y.toInt64 &&& 63)) (fun x y => by simp only [lshl, ofI32, ofI64]) (fun H locs cells slots ls rest x y k => lv_lshl hc.1 hc.2.1 hd rfl k)
theorem A_lushr (hd : decode cc pc = .ok (.lushr, 1)) : OkA l D X N y cc nL ret d pc (opS lushr (pc + 1)) := aN fun p e R s m args below meth c z0 l0 Q hc _ _ => ok_opS (g := fun x y => (x.toUInt64 >>> (y.toInt64.toUInt64 &&& Int64.toUInt64 63)).toInt64) (fun x y => by simp only [lushr, ofI32, ofI64]) (fun H locs cells slots ls rest x y k => lv_lushr hc.1 hc.2.1 hd rfl k)
theorem lcmp_g (x y : Int64) : lcmp x.toInt y.toInt = (lg_cmp x y).toInt := by
  unfold lcmp lg_cmp
  by_cases h1 : x < y
  · have h3 := Int64.lt_iff_toInt_lt.mp h1
    have h4 : ¬ y < x := fun z => by have := Int64.lt_iff_toInt_lt.mp z; omega
    have h5 : ¬ x = y := fun z => by rw [z] at h3; omega
    rw [if_pos h3, if_neg h4, if_neg h5]
    decide
  · have h3 : ¬ x.toInt < y.toInt := fun z => h1 (Int64.lt_iff_toInt_lt.mpr z)
    rw [if_neg h3]
    by_cases h2 : x = y
    · subst h2
      have h4 : ¬ x < x := fun z => by have := Int64.lt_iff_toInt_lt.mp z; omega
      rw [if_pos rfl, if_neg h4, if_pos rfl]
      decide
    · have h5 : ¬ x.toInt = y.toInt := fun z => h2 (Int64.toInt_inj.mp z)
      have h4 : y < x := Int64.lt_iff_toInt_lt.mpr (by omega)
      rw [if_neg h5, if_pos h4]
      decide
theorem A_lcmp (hd : decode cc pc = .ok (.lcmp, 1)) : OkA l D X N y cc nL ret d pc (cmpl (pc + 1)) := aN fun p e R s m args below meth c z0 l0 Q hc _ _ => ok_cmpl (g := lg_cmp) lcmp_g (fun H locs cells slots ls rest x y k => W.lcmp hc.1 hc.2.1 hd k)
theorem A_i2l (hd : decode cc pc = .ok (.i2l, 1)) : OkA l D X N y cc nL ret d pc (xi2l (pc + 1)) := aN fun p e R s m args below meth c z0 l0 Q hc _ _ => ok_xi2l (fun H locs cells slots ls rest x k => lv_i2l hc.1 hc.2.1 hd rfl k)
theorem A_l2i (hd : decode cc pc = .ok (.l2i, 1)) : OkA l D X N y cc nL ret d pc (xl2i (pc + 1)) := aN fun p e R s m args below meth c z0 l0 Q hc _ _ => ok_xl2i (fun H locs cells slots ls rest x k => lv_l2i hc.1 hc.2.1 hd rfl k)
theorem A_dup (hd : decode cc pc = .ok (.dup, 1)) : OkA l D X N y cc nL ret d pc (dup (pc + 1)) := aN fun p e R s m args below meth c z0 l0 Q hc _ _ => ok_dup (fun H locs cells slots ls rest va h k => lv_dup hc.1 hc.2.1 hd h k)
theorem A_pop (hd : decode cc pc = .ok (.pop, 1)) : OkA l D X N y cc nL ret d pc (pop (pc + 1)) := aN fun p e R s m args below meth c z0 l0 Q hc _ _ => ok_pop (fun H locs cells slots ls rest va h k => lv_pop hc.1 hc.2.1 hd h k)
theorem A_dup_x1 (hd : decode cc pc = .ok (.dup_x1, 1)) : OkA l D X N y cc nL ret d pc (dupx1 (pc + 1)) := aN fun p e R s m args below meth c z0 l0 Q hc _ _ => ok_dupx1 (fun H locs cells slots ls rest va vb h1 h2 k => lv_dup_x1 hc.1 hc.2.1 hd h1 h2 k)
theorem A_dup2 (hd : decode cc pc = .ok (.dup2, 1)) : OkA l D X N y cc nL ret d pc (dup2 (pc + 1)) := aN fun p e R s m args below meth c z0 l0 Q hc _ _ => ok_dup2 (fun H locs cells slots ls rest va h1 k => lv_dup2_2 hc.1 hc.2.1 hd h1 k) (fun H locs cells slots ls rest va vb h1 h2 k => lv_dup2_11 hc.1 hc.2.1 hd h1 h2 k)
theorem A_goto {off : Int} {t : Nat} (ht : (pc : Int) + off = (t : Int)) (hd : decode cc pc = .ok (.goto off, 3)) : OkA l D X N y cc nL ret d pc (goto t) := aN fun p e R s m args below meth c z0 l0 Q hc _ _ => ok_goto (fun H locs cells slots ls rest k => lv_goto hc.1 hc.2.1 hd ht k)
theorem A_if_eq {off : Int} {t : Nat} (ht : (pc : Int) + off = (t : Int)) (hd : decode cc pc = .ok (.ifCond .eq off, 3)) : OkA l D X N y cc nL ret d pc (ifeq t (pc + 3)) := aN fun p e R s m args below meth c z0 l0 Q hc _ _ => ok_ifeq (fun H locs cells slots ls rest x k1 k2 => lv_if_eq hc.1 hc.2.1 hd ht k1 k2)
theorem A_icmp_eq {off : Int} {t : Nat} (ht : (pc : Int) + off = (t : Int)) (hd : decode cc pc = .ok (.if_icmp .eq off, 3)) : OkA l D X N y cc nL ret d pc (iceq t (pc + 3)) := aN fun p e R s m args below meth c z0 l0 Q hc _ _ => ok_iceq (fun H locs cells slots ls rest x y k1 k2 => lv_icmp_eq hc.1 hc.2.1 hd ht k1 k2)
theorem A_if_ne {off : Int} {t : Nat} (ht : (pc : Int) + off = (t : Int)) (hd : decode cc pc = .ok (.ifCond .ne off, 3)) : OkA l D X N y cc nL ret d pc (ifne t (pc + 3)) := aN fun p e R s m args below meth c z0 l0 Q hc _ _ => ok_ifne (fun H locs cells slots ls rest x k1 k2 => lv_if_ne hc.1 hc.2.1 hd ht k1 (fun z => k2 fun w => w z))
theorem A_icmp_ne {off : Int} {t : Nat} (ht : (pc : Int) + off = (t : Int)) (hd : decode cc pc = .ok (.if_icmp .ne off, 3)) : OkA l D X N y cc nL ret d pc (icne t (pc + 3)) := aN fun p e R s m args below meth c z0 l0 Q hc _ _ => ok_icne (fun H locs cells slots ls rest x y k1 k2 => lv_icmp_ne hc.1 hc.2.1 hd ht k1 (fun z => k2 fun w => w z))
theorem A_if_lt {off : Int} {t : Nat} (ht : (pc : Int) + off = (t : Int)) (hd : decode cc pc = .ok (.ifCond .lt off, 3)) : OkA l D X N y cc nL ret d pc (iflt t (pc + 3)) := aN fun p e R s m args below meth c z0 l0 Q hc _ _ => ok_iflt (fun H locs cells slots ls rest x k1 k2 => lv_if_lt hc.1 hc.2.1 hd ht k1 k2)
theorem A_icmp_lt {off : Int} {t : Nat} (ht : (pc : Int) + off = (t : Int)) (hd : decode cc pc = .ok (.if_icmp .lt off, 3)) : OkA l D X N y cc nL ret d pc (iclt t (pc + 3)) := aN fun p e R s m args below meth c z0 l0 Q hc _ _ => ok_iclt (fun H locs cells slots ls rest x y k1 k2 => lv_icmp_lt hc.1 hc.2.1 hd ht k1 k2)
theorem A_if_ge {off : Int} {t : Nat} (ht : (pc : Int) + off = (t : Int)) (hd : decode cc pc = .ok (.ifCond .ge off, 3)) : OkA l D X N y cc nL ret d pc (ifge t (pc + 3)) := aN fun p e R s m args below meth c z0 l0 Q hc _ _ => ok_ifge (fun H locs cells slots ls rest x k1 k2 => lv_if_ge hc.1 hc.2.1 hd ht k1 k2)
theorem A_icmp_ge {off : Int} {t : Nat} (ht : (pc : Int) + off = (t : Int)) (hd : decode cc pc = .ok (.if_icmp .ge off, 3)) : OkA l D X N y cc nL ret d pc (icge t (pc + 3)) := aN fun p e R s m args below meth c z0 l0 Q hc _ _ => ok_icge (fun H locs cells slots ls rest x y k1 k2 => lv_icmp_ge hc.1 hc.2.1 hd ht k1 k2)
theorem A_if_gt {off : Int} {t : Nat} (ht : (pc : Int) + off = (t : Int)) (hd : decode cc pc = .ok (.ifCond .gt off, 3)) : OkA l D X N y cc nL ret d pc (ifgt t (pc + 3)) := aN fun p e R s m args below meth c z0 l0 Q hc _ _ => ok_ifgt (fun H locs cells slots ls rest x k1 k2 => lv_if_gt hc.1 hc.2.1 hd ht k1 k2)
theorem A_icmp_gt {off : Int} {t : Nat} (ht : (pc : Int) + off = (t : Int)) (hd : decode cc pc = .ok (.if_icmp .gt off, 3)) : OkA l D X N y cc nL ret d pc (icgt t (pc + 3)) := aN fun p e R s m args below meth c z0 l0 Q hc _ _ => ok_icgt (fun H locs cells slots ls rest x y k1 k2 => lv_icmp_gt hc.1 hc.2.1 hd ht k1 k2)
theorem A_if_le {off : Int} {t : Nat} (ht : (pc : Int) + off = (t : Int)) (hd : decode cc pc = .ok (.ifCond .le off, 3)) : OkA l D X N y cc nL ret d pc (ifle t (pc + 3)) := aN fun p e R s m args below meth c z0 l0 Q hc _ _ => ok_ifle (fun H locs cells slots ls rest x k1 k2 => lv_if_le hc.1 hc.2.1 hd ht k1 k2)
theorem A_icmp_le {off : Int} {t : Nat} (ht : (pc : Int) + off = (t : Int)) (hd : decode cc pc = .ok (.if_icmp .le off, 3)) : OkA l D X N y cc nL ret d pc (icle t (pc + 3)) := aN fun p e R s m args below meth c z0 l0 Q hc _ _ => ok_icle (fun H locs cells slots ls rest x y k1 k2 => lv_icmp_le hc.1 hc.2.1 hd ht k1 k2)
theorem A_acmp_eq {off : Int} {t : Nat} (ht : (pc : Int) + off = (t : Int)) (hd : decode cc pc = .ok (.if_acmp .eq off, 3)) : OkA l D X N y cc nL ret d pc (aceq t (pc + 3)) := aN fun p e R s m args below meth c z0 l0 Q hc _ _ => ok_aceq (fun H locs cells slots ls rest x y k1 k2 => lv_acmp_eq hc.1 hc.2.1 hd ht k1 k2)
theorem A_acmp_ne {off : Int} {t : Nat} (ht : (pc : Int) + off = (t : Int)) (hd : decode cc pc = .ok (.if_acmp .ne off, 3)) : OkA l D X N y cc nL ret d pc (acne t (pc + 3)) := aN fun p e R s m args below meth c z0 l0 Q hc _ _ => ok_acne (fun H locs cells slots ls rest x y k1 k2 => lv_acmp_ne hc.1 hc.2.1 hd ht k1 (fun z => k2 fun w => w z))
theorem A_ifnull {off : Int} {t : Nat} (ht : (pc : Int) + off = (t : Int)) (hd : decode cc pc = .ok (.ifnull off, 3)) : OkA l D X N y cc nL ret d pc (ifnull t (pc + 3)) := aN fun p e R s m args below meth c z0 l0 Q hc _ _ => ok_ifnull (fun H locs cells slots ls rest k => lv_ifnullN hc.1 hc.2.1 hd ht k) (fun H locs cells slots ls rest x k => lv_ifnull hc.1 hc.2.1 hd k)
theorem A_ifnonnull {off : Int} {t : Nat} (ht : (pc : Int) + off = (t : Int)) (hd : decode cc pc = .ok (.ifnonnull off, 3)) : OkA l D X N y cc nL ret d pc (ifnonnull t (pc + 3)) := aN fun p e R s m args below meth c z0 l0 Q hc _ _ => ok_ifnonnull (fun H locs cells slots ls rest k => lv_ifnonnullN hc.1 hc.2.1 hd k) (fun H locs cells slots ls rest x k => lv_ifnonnull hc.1 hc.2.1 hd ht k)
theorem A_iaload (hd : decode cc pc = .ok (.iaload, 1)) : OkA l D X N y cc nL ret d pc (ald [1] (pc + 1)) := aN fun p e R s m args below meth c z0 l0 Q hc _ _ => k_iaload hc.1 hc.2.1 hd
theorem A_baload (hd : decode cc pc = .ok (.baload, 1)) : OkA l D X N y cc nL ret d pc (ald [3, 4] (pc + 1)) := aN fun p e R s m args below meth c z0 l0 Q hc _ _ => k_baload hc.1 hc.2.1 hd
theorem A_laload (hd : decode cc pc = .ok (.laload, 1)) : OkA l D X N y cc nL ret d pc (aldL (pc + 1)) := aN fun p e R s m args below meth c z0 l0 Q hc _ _ => k_laload hc.1 hc.2.1 hd
theorem A_iastore (hd : decode cc pc = .ok (.iastore, 1)) : OkA l D X N y cc nL ret d pc (ast (pc + 1)) := aN fun p e R s m args below meth c z0 l0 Q hc _ _ => k_iastore hc.1 hc.2.1 hd
theorem A_lastore (hd : decode cc pc = .ok (.lastore, 1)) : OkA l D X N y cc nL ret d pc (astL (pc + 1)) := aN fun p e R s m args below meth c z0 l0 Q hc _ _ => k_lastore hc.1 hc.2.1 hd
theorem A_bastore (hd : decode cc pc = .ok (.bastore, 1)) : OkA l D X N y cc nL ret d pc (astB (pc + 1)) := aN fun p e R s m args below meth c z0 l0 Q hc _ _ => k_bastore hc.1 hc.2.1 hd
theorem A_arraylength (hd : decode cc pc = .ok (.arraylength, 1)) : OkA l D X N y cc nL ret d pc (alen (pc + 1)) := aN fun p e R s m args below meth c z0 l0 Q hc _ _ => k_alen hc.1 hc.2.1 hd
theorem A_aaload (hd : decode cc pc = .ok (.aaload, 1)) : OkA l D X N y cc nL ret d pc (aldR (pc + 1)) := aN fun p e R s m args below meth c z0 l0 Q hc _ _ => k_aaload hc.1 hc.2.1 hc.2.2.2.2.2.1 hd
theorem A_retI (hr : ret = some .int) (hd : decode cc pc = .ok (.ireturn, 1)) : OkA l D X N y cc nL ret d pc (retI) := aR fun p e R s m args below meth c z0 l0 hc => k_retI hc.1 hc.2.1 (hc.2.2.2.2.2.2.2.1.trans hr) hc.2.2.2.2.2.2.2.2.1 hd
theorem A_retZ (hr : ret = some .boolean) (hd : decode cc pc = .ok (.ireturn, 1)) : OkA l D X N y cc nL ret d pc (retZ) := aR fun p e R s m args below meth c z0 l0 hc => k_retZ hc.1 hc.2.1 (hc.2.2.2.2.2.2.2.1.trans hr) hc.2.2.2.2.2.2.2.2.1 hd
theorem A_retC (hr : ret = some .char) (hd : decode cc pc = .ok (.ireturn, 1)) : OkA l D X N y cc nL ret d pc (retC) := aR fun p e R s m args below meth c z0 l0 hc => k_retC hc.1 hc.2.1 (hc.2.2.2.2.2.2.2.1.trans hr) hc.2.2.2.2.2.2.2.2.1 hd
theorem A_retB (hr : ret = some .byte) (hd : decode cc pc = .ok (.ireturn, 1)) : OkA l D X N y cc nL ret d pc (retB) := aR fun p e R s m args below meth c z0 l0 hc => k_retB hc.1 hc.2.1 (hc.2.2.2.2.2.2.2.1.trans hr) hc.2.2.2.2.2.2.2.2.1 hd
theorem A_retL (hr : ret = some .long) (hd : decode cc pc = .ok (.lreturn, 1)) : OkA l D X N y cc nL ret d pc (retL) := aR fun p e R s m args below meth c z0 l0 hc => k_retL hc.1 hc.2.1 (hc.2.2.2.2.2.2.2.1.trans hr) hc.2.2.2.2.2.2.2.2.1 hd
theorem A_retV (hr : ret = none) (hd : decode cc pc = .ok (.return_, 1)) : OkA l D X N y cc nL ret d pc (retV) := aR fun p e R s m args below meth c z0 l0 hc => k_retV hc.1 hc.2.1 (hc.2.2.2.2.2.2.2.1.trans hr) hc.2.2.2.2.2.2.2.2.1 hd
theorem A_retR {rt' : FieldType} (hr : ret = some rt') (hrt : (∃ n, rt' = .object n) ∨ ∃ t, rt' = .array t) (hd : decode cc pc = .ok (.areturn, 1)) : OkA l D X N y cc nL ret d pc (retR) := aR fun p e R s m args below meth c z0 l0 hc => k_retR hc.1 hc.2.1 (hc.2.2.2.2.2.2.2.1.trans hr) hrt hc.2.2.2.2.2.2.2.2.1 hd
end OPS
