/-! READING EIGHT OR FOUR BYTES AT ONCE (Unsafe.getLong, Unsafe.getInt on a byte[]) -/
def ubN (x : Int32) : Nat := x.toUInt32.toNat % 256
def pkN (bs : List Nat) : Nat := (bs.zipIdx.map fun (b, k) => b * 2 ^ (8 * k)).sum
theorem ubN_eq (x : Int32) : (ubN x : Int) = x.toInt % 256 := by
  unfold ubN
  have h1 : x.toInt = x.toBitVec.toInt := rfl
  have h2 : x.toUInt32.toNat = x.toBitVec.toNat := rfl
  rw [h1, h2, BitVec.toInt_eq_toNat_cond]
  have h3 := x.toBitVec.isLt
  split <;> omega
theorem pk_shift : ∀ (bs : List Nat) (n : Nat), ((bs.zipIdx (n + 1)).map fun (b, k) => b * 2 ^ (8 * k)).sum = 256 * ((bs.zipIdx n).map fun (b, k) => b * 2 ^ (8 * k)).sum
  | [], _ => rfl
  | b :: bs, n => by
    have h := pk_shift bs (n + 1)
    have e : 2 ^ (8 * (n + 1)) = 256 * 2 ^ (8 * n) := by rw [Nat.mul_add, Nat.pow_add, Nat.mul_comm]
    simp only [List.zipIdx_cons, List.map_cons, List.sum_cons]
    rw [h, e, Nat.mul_add, Nat.mul_left_comm]
theorem pk_cons (b : Nat) (bs : List Nat) : pkN (b :: bs) = b + 256 * pkN bs := by
  unfold pkN
  rw [List.zipIdx_cons, List.map_cons, List.sum_cons, pk_shift]
  simp
theorem pk_leb : ∀ xs : List Int32, ((pkN (xs.map ubN) : Nat) : Int) = leb (xs.map Int32.toInt)
  | [] => rfl
  | b :: r => by
    have h := pk_leb r
    have e := ubN_eq b
    rw [List.map_cons, pk_cons, List.map_cons]
    show _ = b.toInt % 256 + 256 * leb (r.map Int32.toInt)
    rw [← h, ← e]
    omega
theorem u64_ofInt (n : Nat) : n.toUInt64.toInt64 = Int64.ofInt n := by
  apply Int64.toBitVec_inj.mp
  show BitVec.ofNat 64 n = BitVec.ofInt 64 n
  simp
theorem u32_ofInt (n : Nat) : n.toUInt32.toInt32 = Int32.ofInt n := by
  apply Int32.toBitVec_inj.mp
  show BitVec.ofNat 32 n = BitVec.ofInt 32 n
  simp
section UNS
variable {E : CtlPost} {e : Env} {d : Bool} {acts : List Action} {s : State}
theorem loc_bytes {want : FieldType} {a : Addr} {A : Cell} {k : Class} {comp : ClassId} {p : Nat} {off : Int64} {Q : UnsafeMem.Target → Jvm.Pre}
    (hA : s.heap[a]? = some A) (hvm : A.vm = .none) (hk : s.vm.classes[A.cls]? = some k) (hkind : k.kind = .array comp .byte) (hneg : ¬ off < 0) (hoff : off.toNatClampNeg = 16 + p)
    (hw : want = .long ∨ want = .int) (h : Q (UnsafeMem.Target.bytes a .byte p) d acts s) : Sem.wp (UnsafeMem.locate (.ref a) off want) Q E e d acts s := by
  rcases hw with rfl | rfl <;> simp [UnsafeMem.locate, hneg, hoff, hA, Cell.info, hvm, hk, hkind, UnsafeMem.arrayBase, UnsafeMem.scaleOf, UnsafeMem.isRefType] <;> exact h
theorem rd_byte {a : Addr} {A : Cell} {i : Nat} {x : Int32} {Q : Nat → Jvm.Pre} (hA : s.heap[a]? = some A) (hvm : A.vm = .none) (h : A.slots[i]? = some (.int x)) :
    Sem.wp (UnsafeMem.readByte a .byte i .plain) Q E e d acts s ↔ Q (ubN x) d (readActs ⟨a, i⟩ .plain (.int x) acts) s := by
  simp [UnsafeMem.readByte, UnsafeMem.scaleOf, UnsafeMem.bitsOf, hA, hvm, h, ubN, Nat.mod_one]
theorem get_long {a : Addr} {A : Cell} {k : Class} {comp : ClassId} {p : Nat} {off : Int64} {x0 x1 x2 x3 x4 x5 x6 x7 : Int32} {Q : Value → Jvm.Pre}
    (hA : s.heap[a]? = some A) (hvm : A.vm = .none) (hk : s.vm.classes[A.cls]? = some k) (hkind : k.kind = .array comp .byte) (hneg : ¬ off < 0) (hoff : off.toNatClampNeg = 16 + p)
    (h0 : A.slots[p + 0]? = some (.int x0)) (h1 : A.slots[p + 1]? = some (.int x1)) (h2 : A.slots[p + 2]? = some (.int x2)) (h3 : A.slots[p + 3]? = some (.int x3))
    (h4 : A.slots[p + 4]? = some (.int x4)) (h5 : A.slots[p + 5]? = some (.int x5)) (h6 : A.slots[p + 6]? = some (.int x6)) (h7 : A.slots[p + 7]? = some (.int x7))
    (hQ : ∀ d' acts', Q (.long (pkN [ubN x0, ubN x1, ubN x2, ubN x3, ubN x4, ubN x5, ubN x6, ubN x7]).toUInt64.toInt64) d' acts' s) : Sem.wp (UnsafeMem.get .long (.ref a) off .plain) Q E e d acts s := by
  have hr : List.range (UnsafeMem.scaleOf .long) = [0, 1, 2, 3, 4, 5, 6, 7] := rfl
  simp only [UnsafeMem.get, Sem.wp_bind']
  refine loc_bytes hA hvm hk hkind hneg hoff (Or.inl rfl) ?_
  simp only [Sem.wp_bind', hr, List.mapM, List.mapM.loop, rd_byte hA hvm h0, rd_byte hA hvm h1, rd_byte hA hvm h2, rd_byte hA hvm h3, rd_byte hA hvm h4, rd_byte hA hvm h5, rd_byte hA hvm h6, rd_byte hA hvm h7, Sem.wp_pure']
  exact hQ _ _
theorem get_int {a : Addr} {A : Cell} {k : Class} {comp : ClassId} {p : Nat} {off : Int64} {x0 x1 x2 x3 : Int32} {Q : Value → Jvm.Pre}
    (hA : s.heap[a]? = some A) (hvm : A.vm = .none) (hk : s.vm.classes[A.cls]? = some k) (hkind : k.kind = .array comp .byte) (hneg : ¬ off < 0) (hoff : off.toNatClampNeg = 16 + p)
    (h0 : A.slots[p + 0]? = some (.int x0)) (h1 : A.slots[p + 1]? = some (.int x1)) (h2 : A.slots[p + 2]? = some (.int x2)) (h3 : A.slots[p + 3]? = some (.int x3))
    (hQ : ∀ d' acts', Q (.int (pkN [ubN x0, ubN x1, ubN x2, ubN x3]).toUInt32.toInt32) d' acts' s) : Sem.wp (UnsafeMem.get .int (.ref a) off .plain) Q E e d acts s := by
  have hr : List.range (UnsafeMem.scaleOf .int) = [0, 1, 2, 3] := rfl
  simp only [UnsafeMem.get, Sem.wp_bind']
  refine loc_bytes hA hvm hk hkind hneg hoff (Or.inr rfl) ?_
  simp only [Sem.wp_bind', hr, List.mapM, List.mapM.loop, rd_byte hA hvm h0, rd_byte hA hvm h1, rd_byte hA hvm h2, rd_byte hA hvm h3, Sem.wp_pure']
  exact hQ _ _
end UNS
/-- an Unsafe, a byte[], an offset: the bytes that lie there -/
def unsP (n : Nat) (g : Nat × Nat × Int64 × List Int32) (a : Array Value) (U : State) : Prop := a = #[.ref g.1, .ref g.2.1, .long g.2.2.1] ∧ ∃ (A : Cell) (k : Class) (comp : ClassId) (q : Nat), U.heap[g.2.1]? = some A ∧ A.vm = .none ∧ U.vm.classes[A.cls]? = some k ∧ k.kind = .array comp .byte ∧ ¬ g.2.2.1 < 0 ∧ g.2.2.1.toNatClampNeg = 16 + q ∧ g.2.2.2.length = n ∧ ∀ j, j < n → A.slots[q + j]? = (g.2.2.2[j]?).map Value.int
def getLongN : MethodName := ⟨"jdk/internal/misc/Unsafe", "getLong", "(Ljava/lang/Object;J)J"⟩
theorem getLong_desc : parseMethodDescriptor getLongN.desc = some { parameters := [.object "java/lang/Object", .long], returnType := some .long } := by decide +kernel
theorem getLong_back {l : Launch} {R : Room} {p : Program} {e : Env} {below : List Frame} {s : State} {sargs : Array Value} {len W : Nat} (hnat : (Cond.native getLongN).before sargs s = true) (hinst : (Cond.instanceMethod getLongN).before sargs s = true) (hfr : 1 ≤ R.frames) (hlo : W + 17 ≤ R.locals) :
    Back l R p e below s sargs getLongN len W (fun A a => ∃ g : Nat × Nat × Int64 × List Int32, unsP 8 g a A.U) (fun A a v B => B = A ∧ ∀ g : Nat × Nat × Int64 × List Int32, unsP 8 g a A.U → v = some (.long (pkN (g.2.2.2.map ubN)).toUInt64.toInt64)) :=
  Back.of_nativeQ (P := unsP 8) (val := fun g : Nat × Nat × Int64 × List Int32 => some (.long (pkN (g.2.2.2.map ubN)).toUInt64.toInt64)) (words := 4) (getLong_row p) (nativeInstance hnat hinst getLong_desc) hfr (by rw [show nativeFrameWords getLongN.cls getLongN.name 4 = 6 from by decide +kernel]; omega) fun g U a m _ hst hps hP => by
    obtain ⟨u, arr, off, xs⟩ := g
    obtain ⟨rfl, A, k, comp, q, hA, hvm, hk, hkind, hneg, hoff, hlen, hints⟩ := hP
    dsimp only at hA hvm hk hkind hneg hoff hlen hints
    obtain ⟨x0, r0, rfl⟩ : ∃ x r, xs = x :: r := by cases xs with
      | nil => simp at hlen
      | cons y r => exact ⟨y, r, rfl⟩
    obtain ⟨x1, r1, rfl⟩ : ∃ x r, r0 = x :: r := by cases r0 with
      | nil => simp at hlen
      | cons y r => exact ⟨y, r, rfl⟩
    obtain ⟨x2, r2, rfl⟩ : ∃ x r, r1 = x :: r := by cases r1 with
      | nil => simp at hlen
      | cons y r => exact ⟨y, r, rfl⟩
    obtain ⟨x3, r3, rfl⟩ : ∃ x r, r2 = x :: r := by cases r2 with
      | nil => simp at hlen
      | cons y r => exact ⟨y, r, rfl⟩
    obtain ⟨x4, r4, rfl⟩ : ∃ x r, r3 = x :: r := by cases r3 with
      | nil => simp at hlen
      | cons y r => exact ⟨y, r, rfl⟩
    obtain ⟨x5, r5, rfl⟩ : ∃ x r, r4 = x :: r := by cases r4 with
      | nil => simp at hlen
      | cons y r => exact ⟨y, r, rfl⟩
    obtain ⟨x6, r6, rfl⟩ : ∃ x r, r5 = x :: r := by cases r5 with
      | nil => simp at hlen
      | cons y r => exact ⟨y, r, rfl⟩
    obtain ⟨x7, r7, rfl⟩ : ∃ x r, r6 = x :: r := by cases r6 with
      | nil => simp at hlen
      | cons y r => exact ⟨y, r, rfl⟩
    obtain rfl : r7 = [] := by cases r7 with
      | nil => rfl
      | cons y r => simp at hlen
    have hx : ∀ j, j < 8 → A.slots[q + j]? = (([x0, x1, x2, x3, x4, x5, x6, x7] : List Int32)[j]?).map Value.int := hints
    have h0 : A.slots[q + 0]? = some (.int x0) := hx 0 (by omega)
    have h1 : A.slots[q + 1]? = some (.int x1) := hx 1 (by omega)
    have h2 : A.slots[q + 2]? = some (.int x2) := hx 2 (by omega)
    have h3 : A.slots[q + 3]? = some (.int x3) := hx 3 (by omega)
    have h4 : A.slots[q + 4]? = some (.int x4) := hx 4 (by omega)
    have h5 : A.slots[q + 5]? = some (.int x5) := hx 5 (by omega)
    have h6 : A.slots[q + 6]? = some (.int x6) := hx 6 (by omega)
    have h7 : A.slots[q + 7]? = some (.int x7) := hx 7 (by omega)
    refine ⟨rfl, by simp [seenByNative, hst, hps, narrow], fun fs Q hq => ?_⟩
    show Sem.wp (do let v ← UnsafeMem.get .long (.ref arr) off .plain; mark "nat.jdk_internal_misc_Unsafe.get"; Pure.pure (some v)) Q _ e false [] (U.setFrames fs)
    simp only [Sem.wp_bind']
    refine get_long (s := U.setFrames fs) (A := A) (k := k) (comp := comp) (p := q) hA hvm hk hkind hneg hoff h0 h1 h2 h3 h4 h5 h6 h7 fun d' acts' => ?_
    simp
    exact hq _ _
def getIntN : MethodName := ⟨"jdk/internal/misc/Unsafe", "getInt", "(Ljava/lang/Object;J)I"⟩
theorem getInt_desc : parseMethodDescriptor getIntN.desc = some { parameters := [.object "java/lang/Object", .long], returnType := some .int } := by decide +kernel
theorem getInt_back {l : Launch} {R : Room} {p : Program} {e : Env} {below : List Frame} {s : State} {sargs : Array Value} {len W : Nat} (hnat : (Cond.native getIntN).before sargs s = true) (hinst : (Cond.instanceMethod getIntN).before sargs s = true) (hfr : 1 ≤ R.frames) (hlo : W + 17 ≤ R.locals) :
    Back l R p e below s sargs getIntN len W (fun A a => ∃ g : Nat × Nat × Int64 × List Int32, unsP 4 g a A.U) (fun A a v B => B = A ∧ ∀ g : Nat × Nat × Int64 × List Int32, unsP 4 g a A.U → v = some (.int (pkN (g.2.2.2.map ubN)).toUInt32.toInt32)) :=
  Back.of_nativeQ (P := unsP 4) (val := fun g : Nat × Nat × Int64 × List Int32 => some (.int (pkN (g.2.2.2.map ubN)).toUInt32.toInt32)) (words := 4) (getInt_row p) (nativeInstance hnat hinst getInt_desc) hfr (by rw [show nativeFrameWords getIntN.cls getIntN.name 4 = 6 from by decide +kernel]; omega) fun g U a m _ hst hps hP => by
    obtain ⟨u, arr, off, xs⟩ := g
    obtain ⟨rfl, A, k, comp, q, hA, hvm, hk, hkind, hneg, hoff, hlen, hints⟩ := hP
    dsimp only at hA hvm hk hkind hneg hoff hlen hints
    obtain ⟨x0, r0, rfl⟩ : ∃ x r, xs = x :: r := by cases xs with
      | nil => simp at hlen
      | cons y r => exact ⟨y, r, rfl⟩
    obtain ⟨x1, r1, rfl⟩ : ∃ x r, r0 = x :: r := by cases r0 with
      | nil => simp at hlen
      | cons y r => exact ⟨y, r, rfl⟩
    obtain ⟨x2, r2, rfl⟩ : ∃ x r, r1 = x :: r := by cases r1 with
      | nil => simp at hlen
      | cons y r => exact ⟨y, r, rfl⟩
    obtain ⟨x3, r3, rfl⟩ : ∃ x r, r2 = x :: r := by cases r2 with
      | nil => simp at hlen
      | cons y r => exact ⟨y, r, rfl⟩
    obtain rfl : r3 = [] := by cases r3 with
      | nil => rfl
      | cons y r => simp at hlen
    have hx : ∀ j, j < 4 → A.slots[q + j]? = (([x0, x1, x2, x3] : List Int32)[j]?).map Value.int := hints
    have h0 : A.slots[q + 0]? = some (.int x0) := hx 0 (by omega)
    have h1 : A.slots[q + 1]? = some (.int x1) := hx 1 (by omega)
    have h2 : A.slots[q + 2]? = some (.int x2) := hx 2 (by omega)
    have h3 : A.slots[q + 3]? = some (.int x3) := hx 3 (by omega)
    refine ⟨rfl, by simp [seenByNative, hst, hps, narrow], fun fs Q hq => ?_⟩
    show Sem.wp (do let v ← UnsafeMem.get .int (.ref arr) off .plain; mark "nat.jdk_internal_misc_Unsafe.get"; Pure.pure (some v)) Q _ e false [] (U.setFrames fs)
    simp only [Sem.wp_bind']
    refine get_int (s := U.setFrames fs) (A := A) (k := k) (comp := comp) (p := q) hA hvm hk hkind hneg hoff h0 h1 h2 h3 fun d' acts' => ?_
    simp
    exact hq _ _
theorem decl_nat {y : MethodName} {args : Array Value} {s : State} (hnat : (Cond.native y).before args s = true) (hinst : (Cond.instanceMethod y).before args s = true) : (Cond.declares y).before args s = true := by
  obtain ⟨m, meth, h1, h2, -, -, -, h3⟩ := Cond.native_spec hnat
  obtain ⟨m', meth', g1, g2, g3, -⟩ := Cond.instanceMethod_spec hinst
  cases h1.symm.trans g1
  cases h2.symm.trans g2
  simp [Cond.before, Cond.holds, Cond.value, h1, h2, g3, h3]
/-! the opcode rules -/
section UNR
variable {l : Launch} {D : GD} {X : State → Prop} {N : MI} {y : MethodName} {cc : ByteArray} {nL : Nat} {ret : Option FieldType} {d pc idx : Nat}
theorem bytes_at {cell : Cell} {xs : List Int} {n q : Nat} (g8 : ∀ (j : Nat) (y : Int), xs[j]? = some y → ∃ v, cell.slots[j]? = some v ∧ fits .byte v = true ∧ aV v = eV (3 % 200) y) (hl : q + n ≤ xs.length) : ∃ zs : List Int32, zs.map Int32.toInt = (xs.drop q).take n ∧ zs.length = n ∧ ∀ j, j < n → cell.slots[q + j]? = (zs[j]?).map Value.int := by
  have key : ∀ j, j < n → ∃ (i : Int32) (y : Int), xs[q + j]? = some y ∧ cell.slots[q + j]? = some (.int i) ∧ i.toInt = y := by
    intro j hj
    have hlt : q + j < xs.length := by omega
    obtain ⟨v, h1, -, h2⟩ := g8 (q + j) xs[q + j] (List.getElem?_eq_getElem hlt)
    obtain ⟨i, rfl, hi⟩ := aV_I (v := v) (y := xs[q + j]) h2
    exact ⟨i, _, List.getElem?_eq_getElem hlt, h1, hi⟩
  let f : Nat → Int32 := fun j => match cell.slots[q + j]? with
    | some (.int x) => x
    | _ => 0
  have hf : ∀ j, j < n → cell.slots[q + j]? = some (.int (f j)) ∧ xs[q + j]? = some (f j).toInt := by
    intro j hj
    obtain ⟨i, y, k1, k2, k3⟩ := key j hj
    have e : f j = i := by show (match cell.slots[q + j]? with | some (.int x) => x | _ => 0) = i; rw [k2]
    rw [e, k3]
    exact ⟨k2, k1⟩
  refine ⟨(List.range n).map f, ?_, by simp, fun j hj => ?_⟩
  · apply List.ext_getElem?
    intro j
    rw [List.map_map, List.getElem?_map, List.getElem?_take, List.getElem?_drop]
    by_cases hj : j < n
    · rw [List.getElem?_range hj, if_pos hj, (hf j hj).2]; rfl
    · rw [if_neg hj, List.getElem?_eq_none (by simpa using hj)]; rfl
  · rw [(hf j hj).1, List.getElem?_map, List.getElem?_range hj]; rfl
theorem uns_pos {i : Int64} {o : Int} (hi : i.toInt = o) (h : 16 ≤ o) : ¬ i < 0 := by
  intro hn
  have := Int64.lt_iff_toInt_lt.mp hn
  rw [hi] at this
  simp at this
  omega
theorem uns_off {i : Int64} {o : Int} (hi : i.toInt = o) (h : 16 ≤ o) : i.toNatClampNeg = 16 + (o - 16).toNat := by
  have : i.toNatClampNeg = i.toInt.toNat := rfl
  rw [this, hi]
  omega
theorem arr_kind {s : State} {cell : Cell} {ty : FieldType} (h : s.isArrayOf cell ty) : ∃ (k : Class) (comp : ClassId), s.vm.classes[cell.cls]? = some k ∧ k.kind = .array comp ty := by
  obtain ⟨-, k, h1, comp, h2⟩ := h
  exact ⟨k, comp, h1, h2⟩
theorem A_unsL {Nn : Nat} {T0 : u_T} (hc28 : D.cof 28 = some ("jdk/internal/misc/Unsafe", T0, Nn)) (h1 : Cond.methodLink y.cls idx getLongN ∈ lw_all) (h2 : Cond.selects "jdk/internal/misc/Unsafe" getLongN getLongN ∈ lw_all) (h3 : Cond.instanceMethod getLongN ∈ lw_all) (h4 : Cond.native getLongN ∈ lw_all) (hd : decode cc pc = .ok (.invokevirtual idx, 3)) : OkA l D X N y cc nL ret d pc (unsL (pc + 3)) := by
  refine aN fun p e R s m args below meth c z0 l0 Q hc hfr hlo => ?_
  refine OkN.same fun L st h o hf => ?_
  unfold unsL at hf
  split at hf
  · rename_i off a b r
    obtain ⟨u, xs, v, fs, f0, e1, e2, e3, e4, e5, e6, hf⟩ := hf
    subst e2
    refine ⟨_, _, _, hf.symm, fun H ls stc locs cells slots r1 r2 r3 kk => ?_⟩
    have r1 : hrel D s h H := r1
    obtain ⟨i, rc, rfl, hi, t1⟩ := st_L r3
    obtain ⟨rc, rfl, t2⟩ := st_R t1
    obtain ⟨rc, rfl, t5⟩ := st_R t2
    have hcat := Nat.le_trans (cats_le t5) (Nat.le_of_ble_eq_true f0)
    obtain ⟨-, cell, g1, ty, g2, g3, g4, g5, g6, g7, g8⟩ := r1.2.2.2.1 _ 3 xs e1 (by omega)
    obtain ⟨-, cb, b1, qq, b2, b3, b4, b5, b6⟩ := r1.2.2.2.2.2 _ v fs e3 (by omega)
    rw [e4] at b2 b3
    cases hc28.symm.trans b2
    cases (show some FieldType.byte = some ty from g2)
    obtain ⟨hvm, hcls⟩ := g5 (by omega)
    obtain ⟨hfc, kB, hkB⟩ := (hc.2.2.2.2.2.1.1 28 _ hc28).1
    have hts := hc.2.2.2.2.1
    obtain ⟨zs, hz1, hz2, hz3⟩ := bytes_at (n := 8) (q := (off - 16).toNat) g8 (by omega)
    obtain ⟨kA, comp, hkA, hkind⟩ := arr_kind g3
    intro T hT Y
    have hP : ∀ vm₁, s.WarmedH vm₁ → unsP 8 (b, a, i, zs) #[.ref b, .ref a, .long i] (T.setVm vm₁) := by
      intro vm₁ hW₁
      obtain ⟨kA', w1, w2⟩ := hW₁.alike.2.2 _ _ hkA
      exact ⟨rfl, cell, kA', comp, (off - 16).toNat, by show T.heap[a]? = _; rw [hT]; exact g1, hvm, w1, by rw [w2]; exact hkind, uns_pos hi e5, uns_off hi e5, hz2, hz3⟩
    obtain ⟨vv, vm₁, B, hW₁, Y', ⟨hB, hv⟩, st⟩ := Y.virtualBack hc.1 (C := "jdk/internal/misc/Unsafe") (y := getLongN) (z := getLongN) hc.2.2.2.1 (hts _ h1) (decl_nat (hts _ h4) (hts _ h3)) (notFace_of_selects (hts _ h2)) (hts _ h2) (hts _ h3) (by decide) (W := 40) (getLong_back (hts _ h4) (hts _ h3) (by omega) (by omega)) hfc ⟨cb, by rw [hT]; exact b1, b3, b5⟩ (g := F0 m pc ls (.long i :: .ref a :: .ref b :: rc)) rfl (by rw [hc.2.2.1]; exact r2.1) (Steps.refl _) (argsL := [.ref a, .long i]) (rest := rc) (fun sig hs => by rw [getLong_desc] at hs; cases hs; rfl) rfl (by show 2 * 0 + _ ≤ _; omega) (by rw [hc.2.1]; exact hd) (fun vm₁ hW₁ => ⟨(b, a, i, zs), hP vm₁ hW₁⟩)
    have hvv := hv (b, a, i, zs) (hP vm₁ hW₁)
    subst hvv
    subst hB
    obtain ⟨t, a1, b1⟩ := kk ls (.long (pkN (zs.map ubN)).toUInt64.toInt64 :: rc) r2 (by rw [List.map_cons, t5]; show vL _ :: r = _; rw [u64_ofInt, pk_leb, hz1]) (T.setVm vm₁) hT Y'
    exact ⟨t, st.trans a1, b1⟩
  · exact hf.elim
theorem A_unsI {Nn : Nat} {T0 : u_T} (hc28 : D.cof 28 = some ("jdk/internal/misc/Unsafe", T0, Nn)) (h1 : Cond.methodLink y.cls idx getIntN ∈ lw_all) (h2 : Cond.selects "jdk/internal/misc/Unsafe" getIntN getIntN ∈ lw_all) (h3 : Cond.instanceMethod getIntN ∈ lw_all) (h4 : Cond.native getIntN ∈ lw_all) (hd : decode cc pc = .ok (.invokevirtual idx, 3)) : OkA l D X N y cc nL ret d pc (unsI (pc + 3)) := by
  refine aN fun p e R s m args below meth c z0 l0 Q hc hfr hlo => ?_
  refine OkN.same fun L st h o hf => ?_
  unfold unsI at hf
  split at hf
  · rename_i off a b r
    obtain ⟨u, xs, v, fs, f0, e1, e2, e3, e4, e5, e6, hf⟩ := hf
    subst e2
    refine ⟨_, _, _, hf.symm, fun H ls stc locs cells slots r1 r2 r3 kk => ?_⟩
    have r1 : hrel D s h H := r1
    obtain ⟨i, rc, rfl, hi, t1⟩ := st_L r3
    obtain ⟨rc, rfl, t2⟩ := st_R t1
    obtain ⟨rc, rfl, t5⟩ := st_R t2
    have hcat := Nat.le_trans (cats_le t5) (Nat.le_of_ble_eq_true f0)
    obtain ⟨-, cell, g1, ty, g2, g3, g4, g5, g6, g7, g8⟩ := r1.2.2.2.1 _ 3 xs e1 (by omega)
    obtain ⟨-, cb, b1, qq, b2, b3, b4, b5, b6⟩ := r1.2.2.2.2.2 _ v fs e3 (by omega)
    rw [e4] at b2 b3
    cases hc28.symm.trans b2
    cases (show some FieldType.byte = some ty from g2)
    obtain ⟨hvm, hcls⟩ := g5 (by omega)
    obtain ⟨hfc, kB, hkB⟩ := (hc.2.2.2.2.2.1.1 28 _ hc28).1
    have hts := hc.2.2.2.2.1
    obtain ⟨zs, hz1, hz2, hz3⟩ := bytes_at (n := 4) (q := (off - 16).toNat) g8 (by omega)
    obtain ⟨kA, comp, hkA, hkind⟩ := arr_kind g3
    intro T hT Y
    have hP : ∀ vm₁, s.WarmedH vm₁ → unsP 4 (b, a, i, zs) #[.ref b, .ref a, .long i] (T.setVm vm₁) := by
      intro vm₁ hW₁
      obtain ⟨kA', w1, w2⟩ := hW₁.alike.2.2 _ _ hkA
      exact ⟨rfl, cell, kA', comp, (off - 16).toNat, by show T.heap[a]? = _; rw [hT]; exact g1, hvm, w1, by rw [w2]; exact hkind, uns_pos hi e5, uns_off hi e5, hz2, hz3⟩
    obtain ⟨vv, vm₁, B, hW₁, Y', ⟨hB, hv⟩, st⟩ := Y.virtualBack hc.1 (C := "jdk/internal/misc/Unsafe") (y := getIntN) (z := getIntN) hc.2.2.2.1 (hts _ h1) (decl_nat (hts _ h4) (hts _ h3)) (notFace_of_selects (hts _ h2)) (hts _ h2) (hts _ h3) (by decide) (W := 40) (getInt_back (hts _ h4) (hts _ h3) (by omega) (by omega)) hfc ⟨cb, by rw [hT]; exact b1, b3, b5⟩ (g := F0 m pc ls (.long i :: .ref a :: .ref b :: rc)) rfl (by rw [hc.2.2.1]; exact r2.1) (Steps.refl _) (argsL := [.ref a, .long i]) (rest := rc) (fun sig hs => by rw [getInt_desc] at hs; cases hs; rfl) rfl (by show 2 * 0 + _ ≤ _; omega) (by rw [hc.2.1]; exact hd) (fun vm₁ hW₁ => ⟨(b, a, i, zs), hP vm₁ hW₁⟩)
    have hvv := hv (b, a, i, zs) (hP vm₁ hW₁)
    subst hvv
    subst hB
    obtain ⟨t, a1, b1⟩ := kk ls (.int (pkN (zs.map ubN)).toUInt32.toInt32 :: rc) r2 (by rw [List.map_cons, t5]; show vI _ :: r = _; rw [u32_ofInt, pk_leb, hz1]) (T.setVm vm₁) hT Y'
    exact ⟨t, st.trans a1, b1⟩
  · exact hf.elim
end UNR
