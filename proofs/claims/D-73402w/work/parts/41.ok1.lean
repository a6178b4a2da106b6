/-! EACH INSTRUCTION OF THE ABSTRACT MACHINE IS ONE OF THE REAL ONE -/
theorem i32_eq (i j : Int32) : i = j ↔ i.toInt = j.toInt := Int32.toInt_inj.symm
section OK1
variable {p : Program} {l : Launch} {e : Env} {R : Room} {s : State} {m : MethodId} {args : Array Value} {below : List Frame} {meth : Method} {c : Code} {Q : State → Prop} {D : GD} {nL z0 l0 pc q : Nat} {cc : ByteArray}
/-- the real machine, wherever it stands for the abstract state t, comes to Q -/
def MW (p : Program) (l : Launch) (e : Env) (R : Room) (s : State) (m : MethodId) (args : Array Value) (below : List Frame) (meth : Method) (c : Code) (Q : State → Prop) (D : GD) (nL z0 l0 : Nat) (t : St) : Prop :=
  ∀ (H : Heap) (ls : Array Slot) (stc : List Value) (locs : List Loc), hrel D s t.2.2.2 H → lrel ls nL t.2.1 → stc.map aV = t.2.2.1 → (∀ q ∈ locs, D.b ≤ q.base) → W p l e R s m args below meth c H locs (t.2.2.2.sz - z0) (t.2.2.2.sl - l0) Q (F0 m t.1 ls stc)
def OkN (p : Program) (l : Launch) (e : Env) (R : Room) (s : State) (m : MethodId) (args : Array Value) (below : List Frame) (meth : Method) (c : Code) (Q : State → Prop) (D : GD) (nL z0 l0 pc : Nat) (f : Sem) : Prop :=
  ∀ (L : Ls) (st : List AV) (h : AH) (o : Out), WF h → z0 ≤ h.sz → l0 ≤ h.sl → f L st h (fun o' => o' = o) → ∃ (q : Nat) (L' : Ls) (st' : List AV) (h' : AH), o = nx q L' st' h' ∧ WF h' ∧ h.sz ≤ h'.sz ∧ h.sl ≤ h'.sl ∧ (h'.sz - z0 ≤ R.cells → h'.sl - l0 ≤ R.slots → MW p l e R s m args below meth c Q D nL z0 l0 (q, L', st', h') → MW p l e R s m args below meth c Q D nL z0 l0 (pc, L, st, h))
/-- the heap stays -/
theorem OkN.same {f : Sem} (k : ∀ (L : Ls) (st : List AV) (h : AH) (o : Out), f L st h (fun o' => o' = o) → ∃ (q : Nat) (L' : Ls) (st' : List AV), o = nx q L' st' h ∧ ∀ (H : Heap) (ls : Array Slot) (stc : List Value) (locs : List Loc) (cells slots : Nat), hrel D s h H → lrel ls nL L → stc.map aV = st → (∀ (ls' : Array Slot) (stc' : List Value), lrel ls' nL L' → stc'.map aV = st' → W p l e R s m args below meth c H locs cells slots Q (F0 m q ls' stc')) → W p l e R s m args below meth c H locs cells slots Q (F0 m pc ls stc)) : OkN p l e R s m args below meth c Q D nL z0 l0 pc f := by
  intro L st h o hw hz hl hf
  obtain ⟨q, L', st', rfl, k⟩ := k L st h o hf
  refine ⟨q, L', st', h, rfl, hw, Nat.le_refl _, Nat.le_refl _, fun _ _ k2 H ls stc locs h1 h2 h3 h4 => ?_⟩
  exact k H ls stc locs _ _ h1 h2 h3 fun ls' stc' a1 a2 => k2 H ls' stc' locs h1 a1 a2 h4

theorem ok_kI {n : Int} {v : Int32} (hn : v.toInt = n) (row : ∀ (H : Heap) (locs : List Loc) (cells slots : Nat) (ls : Array Slot) (rest : List Value), W p l e R s m args below meth c H locs cells slots Q (F0 m q ls (.int v :: rest)) → W p l e R s m args below meth c H locs cells slots Q (F0 m pc ls rest)) : OkN p l e R s m args below meth c Q D nL z0 l0 pc (kI n q) :=
  OkN.same fun L st h o hf => ⟨q, L, vI n :: st, hf.symm, fun H ls stc locs cells slots h1 h2 h3 k => row H locs cells slots ls stc (k _ _ h2 (by simp [aV, hn, h3]))⟩
theorem ok_kL {n : Int} {v : Int64} (hn : v.toInt = n) (row : ∀ (H : Heap) (locs : List Loc) (cells slots : Nat) (ls : Array Slot) (rest : List Value), W p l e R s m args below meth c H locs cells slots Q (F0 m q ls (.long v :: rest)) → W p l e R s m args below meth c H locs cells slots Q (F0 m pc ls rest)) : OkN p l e R s m args below meth c Q D nL z0 l0 pc (kL n q) :=
  OkN.same fun L st h o hf => ⟨q, L, vL n :: st, hf.symm, fun H ls stc locs cells slots h1 h2 h3 k => row H locs cells slots ls stc (k _ _ h2 (by simp [aV, hn, h3]))⟩
theorem ok_kN (row : ∀ (H : Heap) (locs : List Loc) (cells slots : Nat) (ls : Array Slot) (rest : List Value), W p l e R s m args below meth c H locs cells slots Q (F0 m q ls (.null :: rest)) → W p l e R s m args below meth c H locs cells slots Q (F0 m pc ls rest)) : OkN p l e R s m args below meth c Q D nL z0 l0 pc (kN q) :=
  OkN.same fun L st h o hf => ⟨q, L, vR none :: st, hf.symm, fun H ls stc locs cells slots h1 h2 h3 k => row H locs cells slots ls stc (k _ _ h2 (by simp [aV, h3]))⟩
theorem ok_goto (row : ∀ (H : Heap) (locs : List Loc) (cells slots : Nat) (ls : Array Slot) (rest : List Value), W p l e R s m args below meth c H locs cells slots Q (F0 m q ls rest) → W p l e R s m args below meth c H locs cells slots Q (F0 m pc ls rest)) : OkN p l e R s m args below meth c Q D nL z0 l0 pc (goto q) :=
  OkN.same fun L st h o hf => ⟨q, L, st, hf.symm, fun H ls stc locs cells slots h1 h2 h3 k => row H locs cells slots ls stc (k _ _ h2 h3)⟩
theorem ok_lodI {i : Nat} (row : ∀ (H : Heap) (locs : List Loc) (cells slots : Nat) (ls : Array Slot) (rest : List Value) (y : Int32), ls[i]? = some (.val (.int y)) → W p l e R s m args below meth c H locs cells slots Q (F0 m q ls (.int y :: rest)) → W p l e R s m args below meth c H locs cells slots Q (F0 m pc ls rest)) : OkN p l e R s m args below meth c Q D nL z0 l0 pc (lodI i q) := by
  refine OkN.same fun L st h o hf => ?_
  unfold lodI at hf
  split at hf
  · rename_i y hy
    refine ⟨_, _, _, hf.symm, fun H ls stc locs cells slots h1 h2 h3 k => ?_⟩
    obtain ⟨v, g1, g2⟩ := h2.2.2.2 _ _ hy
    obtain ⟨i', rfl, rfl⟩ := aV_I g2
    exact row H locs cells slots ls stc _ g1 (k _ _ h2 (by simp [aV, h3]))
  · exact hf.elim
theorem ok_lodL {i : Nat} (row : ∀ (H : Heap) (locs : List Loc) (cells slots : Nat) (ls : Array Slot) (rest : List Value) (y : Int64), ls[i]? = some (.val (.long y)) → W p l e R s m args below meth c H locs cells slots Q (F0 m q ls (.long y :: rest)) → W p l e R s m args below meth c H locs cells slots Q (F0 m pc ls rest)) : OkN p l e R s m args below meth c Q D nL z0 l0 pc (lodL i q) := by
  refine OkN.same fun L st h o hf => ?_
  unfold lodL at hf
  split at hf
  · rename_i y hy
    refine ⟨_, _, _, hf.symm, fun H ls stc locs cells slots h1 h2 h3 k => ?_⟩
    obtain ⟨v, g1, g2⟩ := h2.2.2.2 _ _ hy
    obtain ⟨i', rfl, rfl⟩ := aV_L g2
    exact row H locs cells slots ls stc _ g1 (k _ _ h2 (by simp [aV, h3]))
  · exact hf.elim
theorem ok_lodR {i : Nat} (row : ∀ (H : Heap) (locs : List Loc) (cells slots : Nat) (ls : Array Slot) (rest : List Value) (y : Option Nat), ls[i]? = some (.val (va_rf y)) → W p l e R s m args below meth c H locs cells slots Q (F0 m q ls (va_rf y :: rest)) → W p l e R s m args below meth c H locs cells slots Q (F0 m pc ls rest)) : OkN p l e R s m args below meth c Q D nL z0 l0 pc (lodR i q) := by
  refine OkN.same fun L st h o hf => ?_
  unfold lodR at hf
  split at hf
  · rename_i y hy
    refine ⟨_, _, _, hf.symm, fun H ls stc locs cells slots h1 h2 h3 k => ?_⟩
    obtain ⟨v, g1, g2⟩ := h2.2.2.2 _ _ hy
    rw [aV_R g2] at g1
    exact row H locs cells slots ls stc _ g1 (k _ _ h2 (by simp [aV_rf, h3]))
  · exact hf.elim
theorem lrel_st1 {ls : Array Slot} {L : Ls} {i : Nat} {v : Value} (h : lrel ls nL L) (hi : i < nL) (hc : v.category = 1) (hj : aV v ≠ .inr (.inr (.inr ()))) : ∃ ls', storeLocals ls i v = some ls' ∧ lrel ls' nL (lst1 L i (aV v)) := by
  obtain ⟨h1, h2, h3, h4⟩ := h
  obtain ⟨ls', a1, a2⟩ := lv_store1 (l := []) ⟨h1, h2, fun q hq => nomatch hq⟩ hi hc
  refine ⟨ls', a1, a2.1, a2.2.1, by rw [len_lst1]; exact h3, fun j w hj => ?_⟩
  rcases lg_lst1 _ _ _ _ _ hj with ⟨rfl, rfl⟩ | ⟨b1, b2, b3⟩
  · exact ⟨v, a2.2.2 (j, v) List.mem_cons_self, rfl⟩
  · obtain ⟨w', c1, c2⟩ := h4 j w b2
    obtain ⟨ls2, d1, d2⟩ := lv_store1 (l := [(j, w')]) ⟨h1, h2, fun q hq => by rw [List.mem_singleton.mp hq]; exact c1⟩ hi hc
    rw [a1] at d1
    cases d1
    refine ⟨w', d2.2.2 (j, w') (List.mem_cons_of_mem _ (List.mem_filter.mpr ⟨List.mem_singleton.mpr rfl, ?_⟩)), c2⟩
    have e1 : (j == i) = false := by simpa using b1
    by_cases c3 : j + 1 = i
    · have e3 : w'.category ≠ 2 := fun z => b3 ⟨c3, fun z2 => by
        rw [← c2] at z2
        have z3 := aV_cat z2
        omega⟩
      simp [e1, e3]
    · simp [e1, c3]
theorem lrel_st2 {ls : Array Slot} {L : Ls} {i : Nat} {y : Int64} (h : lrel ls nL L) (hi : i + 1 < nL) : ∃ ls', storeLocals ls i (.long y) = some ls' ∧ lrel ls' nL (lst2 L i (vL y.toInt)) := by
  obtain ⟨h1, h2, h3, h4⟩ := h
  obtain ⟨ls', a1, a2⟩ := lv_store2 (l := []) (v := .long y) ⟨h1, h2, fun q hq => nomatch hq⟩ hi rfl
  refine ⟨ls', a1, a2.1, a2.2.1, by rw [len_lst2]; exact h3, fun j w hj => ?_⟩
  rcases lg_lst2 _ _ _ _ _ hj with ⟨rfl, rfl⟩ | ⟨b1, b4, b2, b3⟩
  · exact ⟨_, a2.2.2 (j, .long y) List.mem_cons_self, rfl⟩
  · obtain ⟨w', c1, c2⟩ := h4 j w b2
    obtain ⟨ls2, d1, d2⟩ := lv_store2 (l := [(j, w')]) (v := .long y) ⟨h1, h2, fun q hq => by rw [List.mem_singleton.mp hq]; exact c1⟩ hi rfl
    rw [a1] at d1
    cases d1
    refine ⟨w', d2.2.2 (j, w') (List.mem_cons_of_mem _ (List.mem_filter.mpr ⟨List.mem_singleton.mpr rfl, ?_⟩)), c2⟩
    have e1 : (j == i) = false := by simpa using b1
    have e4 : (j == i + 1) = false := by simpa using b4
    by_cases c3 : j + 1 = i
    · have e3 : w'.category ≠ 2 := fun z => b3 ⟨c3, fun z2 => by
        rw [← c2] at z2
        have z3 := aV_cat z2
        omega⟩
      simp [e1, e4, e3]
    · simp [e1, e4, c3]
theorem ok_stoI {i : Nat} (hi : i < nL) (row : ∀ (H : Heap) (locs : List Loc) (cells slots : Nat) (ls : Array Slot) (rest : List Value) (ls2 : Array Slot) (y : Int32), storeLocals ls i (.int y) = some ls2 → W p l e R s m args below meth c H locs cells slots Q (F0 m q ls2 rest) → W p l e R s m args below meth c H locs cells slots Q (F0 m pc ls (.int y :: rest))) : OkN p l e R s m args below meth c Q D nL z0 l0 pc (stoI i q) := by
  refine OkN.same fun L st h o hf => ?_
  unfold stoI at hf
  split at hf
  · refine ⟨_, _, _, hf.symm, fun H ls stc locs cells slots h1 h2 h3 k => ?_⟩
    obtain ⟨i', rc, rfl, rfl, h5⟩ := st_I h3
    obtain ⟨ls', a1, a2⟩ := lrel_st1 (v := .int i') h2 hi rfl (by simp [aV])
    exact row H locs cells slots ls rc ls' _ a1 (k _ _ a2 h5)
  · exact hf.elim
theorem ok_stoL {i : Nat} (hi : i + 1 < nL) (row : ∀ (H : Heap) (locs : List Loc) (cells slots : Nat) (ls : Array Slot) (rest : List Value) (ls2 : Array Slot) (y : Int64), storeLocals ls i (.long y) = some ls2 → W p l e R s m args below meth c H locs cells slots Q (F0 m q ls2 rest) → W p l e R s m args below meth c H locs cells slots Q (F0 m pc ls (.long y :: rest))) : OkN p l e R s m args below meth c Q D nL z0 l0 pc (stoL i q) := by
  refine OkN.same fun L st h o hf => ?_
  unfold stoL at hf
  split at hf
  · refine ⟨_, _, _, hf.symm, fun H ls stc locs cells slots h1 h2 h3 k => ?_⟩
    obtain ⟨i', rc, rfl, rfl, h5⟩ := st_L h3
    obtain ⟨ls', a1, a2⟩ := lrel_st2 (y := i') h2 hi
    exact row H locs cells slots ls rc ls' _ a1 (k _ _ a2 h5)
  · exact hf.elim
theorem ok_stoR {i : Nat} (hi : i < nL) (row : ∀ (H : Heap) (locs : List Loc) (cells slots : Nat) (ls : Array Slot) (rest : List Value) (ls2 : Array Slot) (y : Option Nat), storeLocals ls i (va_rf y) = some ls2 → W p l e R s m args below meth c H locs cells slots Q (F0 m q ls2 rest) → W p l e R s m args below meth c H locs cells slots Q (F0 m pc ls (va_rf y :: rest))) : OkN p l e R s m args below meth c Q D nL z0 l0 pc (stoR i q) := by
  refine OkN.same fun L st h o hf => ?_
  unfold stoR at hf
  split at hf
  · rename_i y r
    refine ⟨_, _, _, hf.symm, fun H ls stc locs cells slots h1 h2 h3 k => ?_⟩
    obtain ⟨rc, rfl, h5⟩ := st_R h3
    obtain ⟨ls', a1, a2⟩ := lrel_st1 (v := va_rf y) h2 hi (by cases y <;> rfl) (by rw [aV_rf]; simp)
    rw [aV_rf] at a2
    exact row H locs cells slots ls rc ls' _ a1 (k _ _ a2 h5)
  · exact hf.elim
theorem ok_inc {i : Nat} {n : Int} (hi : i < nL) (row : ∀ (H : Heap) (locs : List Loc) (cells slots : Nat) (ls : Array Slot) (rest : List Value) (ls2 : Array Slot) (y : Int32), ls[i]? = some (.val (.int y)) → storeLocals ls i (.int (y + Int32.ofInt n)) = some ls2 → W p l e R s m args below meth c H locs cells slots Q (F0 m q ls2 rest) → W p l e R s m args below meth c H locs cells slots Q (F0 m pc ls rest)) : OkN p l e R s m args below meth c Q D nL z0 l0 pc (inc i n q) := by
  refine OkN.same fun L st h o hf => ?_
  unfold inc at hf
  split at hf
  · rename_i y hy
    refine ⟨_, _, _, hf.symm, fun H ls stc locs cells slots h1 h2 h3 k => ?_⟩
    obtain ⟨v, g1, g2⟩ := h2.2.2.2 _ _ hy
    obtain ⟨i', rfl, rfl⟩ := aV_I g2
    obtain ⟨ls', a1, a2⟩ := lrel_st1 (v := .int (i' + Int32.ofInt n)) h2 hi rfl (by simp [aV])
    refine row H locs cells slots ls stc ls' _ g1 a1 (k _ _ ?_ h3)
    have e : aV (.int (i' + Int32.ofInt n)) = vI (iadd i'.toInt n) := by simp [aV, iadd, ofI32]
    rw [← e]
    exact a2
  · exact hf.elim
theorem ok_opI {f : Int → Int → Int} {g : Int32 → Int32 → Int32} (hg : ∀ x y : Int32, f x.toInt y.toInt = (g x y).toInt) (row : ∀ (H : Heap) (locs : List Loc) (cells slots : Nat) (ls : Array Slot) (rest : List Value) (x y : Int32), W p l e R s m args below meth c H locs cells slots Q (F0 m q ls (.int (g x y) :: rest)) → W p l e R s m args below meth c H locs cells slots Q (F0 m pc ls (.int y :: .int x :: rest))) : OkN p l e R s m args below meth c Q D nL z0 l0 pc (opI f q) := by
  refine OkN.same fun L st h o hf => ?_
  unfold opI at hf
  split at hf
  · refine ⟨_, _, _, hf.symm, fun H ls stc locs cells slots h1 h2 h3 k => ?_⟩
    obtain ⟨i, rc, rfl, rfl, h5⟩ := st_I h3
    obtain ⟨j, rc, rfl, rfl, h6⟩ := st_I h5
    exact row H locs cells slots ls rc j i (k _ _ h2 (by simp [aV, hg, h6]))
  · exact hf.elim
theorem ok_opD {f : Int → Int → Int} {g : Int32 → Int32 → Int32} (hg : ∀ x y : Int32, f x.toInt y.toInt = (g x y).toInt) (row : ∀ (H : Heap) (locs : List Loc) (cells slots : Nat) (ls : Array Slot) (rest : List Value) (x y : Int32), ¬ y = 0 → W p l e R s m args below meth c H locs cells slots Q (F0 m q ls (.int (g x y) :: rest)) → W p l e R s m args below meth c H locs cells slots Q (F0 m pc ls (.int y :: .int x :: rest))) : OkN p l e R s m args below meth c Q D nL z0 l0 pc (opD f q) := by
  refine OkN.same fun L st h o hf => ?_
  unfold opD at hf
  split at hf
  · refine ⟨_, _, _, hf.2.symm, fun H ls stc locs cells slots h1 h2 h3 k => ?_⟩
    obtain ⟨i, rc, rfl, rfl, h5⟩ := st_I h3
    obtain ⟨j, rc, rfl, rfl, h6⟩ := st_I h5
    exact row H locs cells slots ls rc j i (fun z => hf.1 (by rw [z]; rfl)) (k _ _ h2 (by simp [aV, hg, h6]))
  · exact hf.elim
theorem ok_unI {f : Int → Int} {g : Int32 → Int32} (hg : ∀ x : Int32, f x.toInt = (g x).toInt) (row : ∀ (H : Heap) (locs : List Loc) (cells slots : Nat) (ls : Array Slot) (rest : List Value) (x : Int32), W p l e R s m args below meth c H locs cells slots Q (F0 m q ls (.int (g x) :: rest)) → W p l e R s m args below meth c H locs cells slots Q (F0 m pc ls (.int x :: rest))) : OkN p l e R s m args below meth c Q D nL z0 l0 pc (unI f q) := by
  refine OkN.same fun L st h o hf => ?_
  unfold unI at hf
  split at hf
  · refine ⟨_, _, _, hf.symm, fun H ls stc locs cells slots h1 h2 h3 k => ?_⟩
    obtain ⟨i, rc, rfl, rfl, h5⟩ := st_I h3
    exact row H locs cells slots ls rc i (k _ _ h2 (by simp [aV, hg, h5]))
  · exact hf.elim
theorem ok_opL {f : Int → Int → Int} {g : Int64 → Int64 → Int64} (hg : ∀ x y : Int64, f x.toInt y.toInt = (g x y).toInt) (row : ∀ (H : Heap) (locs : List Loc) (cells slots : Nat) (ls : Array Slot) (rest : List Value) (x y : Int64), W p l e R s m args below meth c H locs cells slots Q (F0 m q ls (.long (g x y) :: rest)) → W p l e R s m args below meth c H locs cells slots Q (F0 m pc ls (.long y :: .long x :: rest))) : OkN p l e R s m args below meth c Q D nL z0 l0 pc (opL f q) := by
  refine OkN.same fun L st h o hf => ?_
  unfold opL at hf
  split at hf
  · refine ⟨_, _, _, hf.symm, fun H ls stc locs cells slots h1 h2 h3 k => ?_⟩
    obtain ⟨i, rc, rfl, rfl, h5⟩ := st_L h3
    obtain ⟨j, rc, rfl, rfl, h6⟩ := st_L h5
    exact row H locs cells slots ls rc j i (k _ _ h2 (by simp [aV, hg, h6]))
  · exact hf.elim
theorem ok_opLD {f : Int → Int → Int} {g : Int64 → Int64 → Int64} (hg : ∀ x y : Int64, f x.toInt y.toInt = (g x y).toInt) (row : ∀ (H : Heap) (locs : List Loc) (cells slots : Nat) (ls : Array Slot) (rest : List Value) (x y : Int64), ¬ y = 0 → W p l e R s m args below meth c H locs cells slots Q (F0 m q ls (.long (g x y) :: rest)) → W p l e R s m args below meth c H locs cells slots Q (F0 m pc ls (.long y :: .long x :: rest))) : OkN p l e R s m args below meth c Q D nL z0 l0 pc (opLD f q) := by
  refine OkN.same fun L st h o hf => ?_
  unfold opLD at hf
  split at hf
  · refine ⟨_, _, _, hf.2.symm, fun H ls stc locs cells slots h1 h2 h3 k => ?_⟩
    obtain ⟨i, rc, rfl, rfl, h5⟩ := st_L h3
    obtain ⟨j, rc, rfl, rfl, h6⟩ := st_L h5
    exact row H locs cells slots ls rc j i (fun z => hf.1 (by rw [z]; rfl)) (k _ _ h2 (by simp [aV, hg, h6]))
  · exact hf.elim
theorem ok_opS {f : Int → Int → Int} {g : Int64 → Int32 → Int64} (hg : ∀ (x : Int64) (y : Int32), f x.toInt y.toInt = (g x y).toInt) (row : ∀ (H : Heap) (locs : List Loc) (cells slots : Nat) (ls : Array Slot) (rest : List Value) (x : Int64) (y : Int32), W p l e R s m args below meth c H locs cells slots Q (F0 m q ls (.long (g x y) :: rest)) → W p l e R s m args below meth c H locs cells slots Q (F0 m pc ls (.int y :: .long x :: rest))) : OkN p l e R s m args below meth c Q D nL z0 l0 pc (opS f q) := by
  refine OkN.same fun L st h o hf => ?_
  unfold opS at hf
  split at hf
  · refine ⟨_, _, _, hf.symm, fun H ls stc locs cells slots h1 h2 h3 k => ?_⟩
    obtain ⟨i, rc, rfl, rfl, h5⟩ := st_I h3
    obtain ⟨j, rc, rfl, rfl, h6⟩ := st_L h5
    exact row H locs cells slots ls rc j i (k _ _ h2 (by simp [aV, hg, h6]))
  · exact hf.elim
theorem ok_cmpl {g : Int64 → Int64 → Int32} (hg : ∀ x y : Int64, lcmp x.toInt y.toInt = (g x y).toInt) (row : ∀ (H : Heap) (locs : List Loc) (cells slots : Nat) (ls : Array Slot) (rest : List Value) (x y : Int64), W p l e R s m args below meth c H locs cells slots Q (F0 m q ls (.int (g x y) :: rest)) → W p l e R s m args below meth c H locs cells slots Q (F0 m pc ls (.long y :: .long x :: rest))) : OkN p l e R s m args below meth c Q D nL z0 l0 pc (cmpl q) := by
  refine OkN.same fun L st h o hf => ?_
  unfold cmpl at hf
  split at hf
  · refine ⟨_, _, _, hf.symm, fun H ls stc locs cells slots h1 h2 h3 k => ?_⟩
    obtain ⟨i, rc, rfl, rfl, h5⟩ := st_L h3
    obtain ⟨j, rc, rfl, rfl, h6⟩ := st_L h5
    exact row H locs cells slots ls rc j i (k _ _ h2 (by simp [aV, hg, h6]))
  · exact hf.elim
theorem ok_xi2l (row : ∀ (H : Heap) (locs : List Loc) (cells slots : Nat) (ls : Array Slot) (rest : List Value) (x : Int32), W p l e R s m args below meth c H locs cells slots Q (F0 m q ls (.long x.toInt64 :: rest)) → W p l e R s m args below meth c H locs cells slots Q (F0 m pc ls (.int x :: rest))) : OkN p l e R s m args below meth c Q D nL z0 l0 pc (xi2l q) := by
  refine OkN.same fun L st h o hf => ?_
  unfold xi2l at hf
  split at hf
  · refine ⟨_, _, _, hf.symm, fun H ls stc locs cells slots h1 h2 h3 k => ?_⟩
    obtain ⟨i, rc, rfl, rfl, h5⟩ := st_I h3
    exact row H locs cells slots ls rc i (k _ _ h2 (by simp [aV, h5]))
  · exact hf.elim
theorem ok_xl2i (row : ∀ (H : Heap) (locs : List Loc) (cells slots : Nat) (ls : Array Slot) (rest : List Value) (x : Int64), W p l e R s m args below meth c H locs cells slots Q (F0 m q ls (.int x.toInt32 :: rest)) → W p l e R s m args below meth c H locs cells slots Q (F0 m pc ls (.long x :: rest))) : OkN p l e R s m args below meth c Q D nL z0 l0 pc (xl2i q) := by
  refine OkN.same fun L st h o hf => ?_
  unfold xl2i at hf
  split at hf
  · refine ⟨_, _, _, hf.symm, fun H ls stc locs cells slots h1 h2 h3 k => ?_⟩
    obtain ⟨i, rc, rfl, rfl, h5⟩ := st_L h3
    exact row H locs cells slots ls rc i (k _ _ h2 (by simp [aV, l2i, ofI64, h5]))
  · exact hf.elim
theorem ok_ifeq {t : Nat} (row : ∀ (H : Heap) (locs : List Loc) (cells slots : Nat) (ls : Array Slot) (rest : List Value) (x : Int32), (x = 0 → W p l e R s m args below meth c H locs cells slots Q (F0 m t ls rest)) → (¬ (x = 0) → W p l e R s m args below meth c H locs cells slots Q (F0 m q ls rest)) → W p l e R s m args below meth c H locs cells slots Q (F0 m pc ls (.int x :: rest))) : OkN p l e R s m args below meth c Q D nL z0 l0 pc (ifeq t q) := by
  refine OkN.same fun L st h o hf => ?_
  unfold ifeq at hf
  split at hf
  · rename_i xx rr
    by_cases g : xx = 0
    · refine ⟨_, _, _, (hf.1 g).symm, fun H ls stc locs cells slots h1 h2 h3 k => ?_⟩
      obtain ⟨i, rc, rfl, rfl, h5⟩ := st_I h3
      exact row H locs cells slots ls rc i (fun _ => k _ _ h2 h5) (fun z => absurd (by first | (simp only [Int32.lt_iff_toInt_lt, Int32.le_iff_toInt_le, Int32.toInt_zero] at *; omega) | (have e := i32_eq i 0; simp only [Int32.toInt_zero] at *; first | exact e.mp (by assumption) | exact e.mpr (by assumption) | exact fun z => absurd (e.mp z) (by assumption) | exact fun z => absurd (e.mpr z) (by assumption) | grind)) z)
    · refine ⟨_, _, _, (hf.2 (by omega)).symm, fun H ls stc locs cells slots h1 h2 h3 k => ?_⟩
      obtain ⟨i, rc, rfl, rfl, h5⟩ := st_I h3
      exact row H locs cells slots ls rc i (fun z => absurd (by first | (simp only [Int32.lt_iff_toInt_lt, Int32.le_iff_toInt_le, Int32.toInt_zero] at *; omega) | (have e := i32_eq i 0; simp only [Int32.toInt_zero] at *; first | exact e.mp (by assumption) | exact e.mpr (by assumption) | exact fun z => absurd (e.mp z) (by assumption) | exact fun z => absurd (e.mpr z) (by assumption) | grind)) g) (fun _ => k _ _ h2 h5)
  · exact hf.elim
theorem ok_iceq {t : Nat} (row : ∀ (H : Heap) (locs : List Loc) (cells slots : Nat) (ls : Array Slot) (rest : List Value) (x y : Int32), (x = y → W p l e R s m args below meth c H locs cells slots Q (F0 m t ls rest)) → (¬ (x = y) → W p l e R s m args below meth c H locs cells slots Q (F0 m q ls rest)) → W p l e R s m args below meth c H locs cells slots Q (F0 m pc ls (.int y :: .int x :: rest))) : OkN p l e R s m args below meth c Q D nL z0 l0 pc (iceq t q) := by
  refine OkN.same fun L st h o hf => ?_
  unfold iceq at hf
  split at hf
  · rename_i yy xx rr
    by_cases g : xx = yy
    · refine ⟨_, _, _, (hf.1 g).symm, fun H ls stc locs cells slots h1 h2 h3 k => ?_⟩
      obtain ⟨j, rc, rfl, rfl, h5⟩ := st_I h3
      obtain ⟨i, rc, rfl, rfl, h6⟩ := st_I h5
      exact row H locs cells slots ls rc i j (fun _ => k _ _ h2 h6) (fun z => absurd (by first | (simp only [Int32.lt_iff_toInt_lt, Int32.le_iff_toInt_le, Int32.toInt_zero] at *; omega) | (have e := i32_eq i j; simp only [Int32.toInt_zero] at *; first | exact e.mp (by assumption) | exact e.mpr (by assumption) | exact fun z => absurd (e.mp z) (by assumption) | exact fun z => absurd (e.mpr z) (by assumption) | grind)) z)
    · refine ⟨_, _, _, (hf.2 (by omega)).symm, fun H ls stc locs cells slots h1 h2 h3 k => ?_⟩
      obtain ⟨j, rc, rfl, rfl, h5⟩ := st_I h3
      obtain ⟨i, rc, rfl, rfl, h6⟩ := st_I h5
      exact row H locs cells slots ls rc i j (fun z => absurd (by first | (simp only [Int32.lt_iff_toInt_lt, Int32.le_iff_toInt_le, Int32.toInt_zero] at *; omega) | (have e := i32_eq i j; simp only [Int32.toInt_zero] at *; first | exact e.mp (by assumption) | exact e.mpr (by assumption) | exact fun z => absurd (e.mp z) (by assumption) | exact fun z => absurd (e.mpr z) (by assumption) | grind)) g) (fun _ => k _ _ h2 h6)
  · exact hf.elim
theorem ok_ifne {t : Nat} (row : ∀ (H : Heap) (locs : List Loc) (cells slots : Nat) (ls : Array Slot) (rest : List Value) (x : Int32), (x ≠ 0 → W p l e R s m args below meth c H locs cells slots Q (F0 m t ls rest)) → (¬ (x ≠ 0) → W p l e R s m args below meth c H locs cells slots Q (F0 m q ls rest)) → W p l e R s m args below meth c H locs cells slots Q (F0 m pc ls (.int x :: rest))) : OkN p l e R s m args below meth c Q D nL z0 l0 pc (ifne t q) := by
  refine OkN.same fun L st h o hf => ?_
  unfold ifne at hf
  split at hf
  · rename_i xx rr
    by_cases g : xx ≠ 0
    · refine ⟨_, _, _, (hf.1 g).symm, fun H ls stc locs cells slots h1 h2 h3 k => ?_⟩
      obtain ⟨i, rc, rfl, rfl, h5⟩ := st_I h3
      exact row H locs cells slots ls rc i (fun _ => k _ _ h2 h5) (fun z => absurd (by first | (simp only [Int32.lt_iff_toInt_lt, Int32.le_iff_toInt_le, Int32.toInt_zero] at *; omega) | (have e := i32_eq i 0; simp only [Int32.toInt_zero] at *; first | exact e.mp (by assumption) | exact e.mpr (by assumption) | exact fun z => absurd (e.mp z) (by assumption) | exact fun z => absurd (e.mpr z) (by assumption) | grind)) z)
    · refine ⟨_, _, _, (hf.2 (by omega)).symm, fun H ls stc locs cells slots h1 h2 h3 k => ?_⟩
      obtain ⟨i, rc, rfl, rfl, h5⟩ := st_I h3
      exact row H locs cells slots ls rc i (fun z => absurd (by first | (simp only [Int32.lt_iff_toInt_lt, Int32.le_iff_toInt_le, Int32.toInt_zero] at *; omega) | (have e := i32_eq i 0; simp only [Int32.toInt_zero] at *; first | exact e.mp (by assumption) | exact e.mpr (by assumption) | exact fun z => absurd (e.mp z) (by assumption) | exact fun z => absurd (e.mpr z) (by assumption) | grind)) g) (fun _ => k _ _ h2 h5)
  · exact hf.elim
theorem ok_icne {t : Nat} (row : ∀ (H : Heap) (locs : List Loc) (cells slots : Nat) (ls : Array Slot) (rest : List Value) (x y : Int32), (x ≠ y → W p l e R s m args below meth c H locs cells slots Q (F0 m t ls rest)) → (¬ (x ≠ y) → W p l e R s m args below meth c H locs cells slots Q (F0 m q ls rest)) → W p l e R s m args below meth c H locs cells slots Q (F0 m pc ls (.int y :: .int x :: rest))) : OkN p l e R s m args below meth c Q D nL z0 l0 pc (icne t q) := by
  refine OkN.same fun L st h o hf => ?_
  unfold icne at hf
  split at hf
  · rename_i yy xx rr
    by_cases g : xx ≠ yy
    · refine ⟨_, _, _, (hf.1 g).symm, fun H ls stc locs cells slots h1 h2 h3 k => ?_⟩
      obtain ⟨j, rc, rfl, rfl, h5⟩ := st_I h3
      obtain ⟨i, rc, rfl, rfl, h6⟩ := st_I h5
      exact row H locs cells slots ls rc i j (fun _ => k _ _ h2 h6) (fun z => absurd (by first | (simp only [Int32.lt_iff_toInt_lt, Int32.le_iff_toInt_le, Int32.toInt_zero] at *; omega) | (have e := i32_eq i j; simp only [Int32.toInt_zero] at *; first | exact e.mp (by assumption) | exact e.mpr (by assumption) | exact fun z => absurd (e.mp z) (by assumption) | exact fun z => absurd (e.mpr z) (by assumption) | grind)) z)
    · refine ⟨_, _, _, (hf.2 (by omega)).symm, fun H ls stc locs cells slots h1 h2 h3 k => ?_⟩
      obtain ⟨j, rc, rfl, rfl, h5⟩ := st_I h3
      obtain ⟨i, rc, rfl, rfl, h6⟩ := st_I h5
      exact row H locs cells slots ls rc i j (fun z => absurd (by first | (simp only [Int32.lt_iff_toInt_lt, Int32.le_iff_toInt_le, Int32.toInt_zero] at *; omega) | (have e := i32_eq i j; simp only [Int32.toInt_zero] at *; first | exact e.mp (by assumption) | exact e.mpr (by assumption) | exact fun z => absurd (e.mp z) (by assumption) | exact fun z => absurd (e.mpr z) (by assumption) | grind)) g) (fun _ => k _ _ h2 h6)
  · exact hf.elim
theorem ok_iflt {t : Nat} (row : ∀ (H : Heap) (locs : List Loc) (cells slots : Nat) (ls : Array Slot) (rest : List Value) (x : Int32), (x < 0 → W p l e R s m args below meth c H locs cells slots Q (F0 m t ls rest)) → (¬ (x < 0) → W p l e R s m args below meth c H locs cells slots Q (F0 m q ls rest)) → W p l e R s m args below meth c H locs cells slots Q (F0 m pc ls (.int x :: rest))) : OkN p l e R s m args below meth c Q D nL z0 l0 pc (iflt t q) := by
  refine OkN.same fun L st h o hf => ?_
  unfold iflt at hf
  split at hf
  · rename_i xx rr
    by_cases g : xx < 0
    · refine ⟨_, _, _, (hf.1 g).symm, fun H ls stc locs cells slots h1 h2 h3 k => ?_⟩
      obtain ⟨i, rc, rfl, rfl, h5⟩ := st_I h3
      exact row H locs cells slots ls rc i (fun _ => k _ _ h2 h5) (fun z => absurd (by first | (simp only [Int32.lt_iff_toInt_lt, Int32.le_iff_toInt_le, Int32.toInt_zero] at *; omega) | (have e := i32_eq i 0; simp only [Int32.toInt_zero] at *; first | exact e.mp (by assumption) | exact e.mpr (by assumption) | exact fun z => absurd (e.mp z) (by assumption) | exact fun z => absurd (e.mpr z) (by assumption) | grind)) z)
    · refine ⟨_, _, _, (hf.2 (by omega)).symm, fun H ls stc locs cells slots h1 h2 h3 k => ?_⟩
      obtain ⟨i, rc, rfl, rfl, h5⟩ := st_I h3
      exact row H locs cells slots ls rc i (fun z => absurd (by first | (simp only [Int32.lt_iff_toInt_lt, Int32.le_iff_toInt_le, Int32.toInt_zero] at *; omega) | (have e := i32_eq i 0; simp only [Int32.toInt_zero] at *; first | exact e.mp (by assumption) | exact e.mpr (by assumption) | exact fun z => absurd (e.mp z) (by assumption) | exact fun z => absurd (e.mpr z) (by assumption) | grind)) g) (fun _ => k _ _ h2 h5)
  · exact hf.elim
theorem ok_iclt {t : Nat} (row : ∀ (H : Heap) (locs : List Loc) (cells slots : Nat) (ls : Array Slot) (rest : List Value) (x y : Int32), (x < y → W p l e R s m args below meth c H locs cells slots Q (F0 m t ls rest)) → (¬ (x < y) → W p l e R s m args below meth c H locs cells slots Q (F0 m q ls rest)) → W p l e R s m args below meth c H locs cells slots Q (F0 m pc ls (.int y :: .int x :: rest))) : OkN p l e R s m args below meth c Q D nL z0 l0 pc (iclt t q) := by
  refine OkN.same fun L st h o hf => ?_
  unfold iclt at hf
  split at hf
  · rename_i yy xx rr
    by_cases g : xx < yy
    · refine ⟨_, _, _, (hf.1 g).symm, fun H ls stc locs cells slots h1 h2 h3 k => ?_⟩
      obtain ⟨j, rc, rfl, rfl, h5⟩ := st_I h3
      obtain ⟨i, rc, rfl, rfl, h6⟩ := st_I h5
      exact row H locs cells slots ls rc i j (fun _ => k _ _ h2 h6) (fun z => absurd (by first | (simp only [Int32.lt_iff_toInt_lt, Int32.le_iff_toInt_le, Int32.toInt_zero] at *; omega) | (have e := i32_eq i j; simp only [Int32.toInt_zero] at *; first | exact e.mp (by assumption) | exact e.mpr (by assumption) | exact fun z => absurd (e.mp z) (by assumption) | exact fun z => absurd (e.mpr z) (by assumption) | grind)) z)
    · refine ⟨_, _, _, (hf.2 (by omega)).symm, fun H ls stc locs cells slots h1 h2 h3 k => ?_⟩
      obtain ⟨j, rc, rfl, rfl, h5⟩ := st_I h3
      obtain ⟨i, rc, rfl, rfl, h6⟩ := st_I h5
      exact row H locs cells slots ls rc i j (fun z => absurd (by first | (simp only [Int32.lt_iff_toInt_lt, Int32.le_iff_toInt_le, Int32.toInt_zero] at *; omega) | (have e := i32_eq i j; simp only [Int32.toInt_zero] at *; first | exact e.mp (by assumption) | exact e.mpr (by assumption) | exact fun z => absurd (e.mp z) (by assumption) | exact fun z => absurd (e.mpr z) (by assumption) | grind)) g) (fun _ => k _ _ h2 h6)
  · exact hf.elim
theorem ok_ifge {t : Nat} (row : ∀ (H : Heap) (locs : List Loc) (cells slots : Nat) (ls : Array Slot) (rest : List Value) (x : Int32), (0 ≤ x → W p l e R s m args below meth c H locs cells slots Q (F0 m t ls rest)) → (¬ (0 ≤ x) → W p l e R s m args below meth c H locs cells slots Q (F0 m q ls rest)) → W p l e R s m args below meth c H locs cells slots Q (F0 m pc ls (.int x :: rest))) : OkN p l e R s m args below meth c Q D nL z0 l0 pc (ifge t q) := by
  refine OkN.same fun L st h o hf => ?_
  unfold ifge at hf
  split at hf
  · rename_i xx rr
    by_cases g : 0 ≤ xx
    · refine ⟨_, _, _, (hf.1 g).symm, fun H ls stc locs cells slots h1 h2 h3 k => ?_⟩
      obtain ⟨i, rc, rfl, rfl, h5⟩ := st_I h3
      exact row H locs cells slots ls rc i (fun _ => k _ _ h2 h5) (fun z => absurd (by first | (simp only [Int32.lt_iff_toInt_lt, Int32.le_iff_toInt_le, Int32.toInt_zero] at *; omega) | (have e := i32_eq i 0; simp only [Int32.toInt_zero] at *; first | exact e.mp (by assumption) | exact e.mpr (by assumption) | exact fun z => absurd (e.mp z) (by assumption) | exact fun z => absurd (e.mpr z) (by assumption) | grind)) z)
    · refine ⟨_, _, _, (hf.2 (by omega)).symm, fun H ls stc locs cells slots h1 h2 h3 k => ?_⟩
      obtain ⟨i, rc, rfl, rfl, h5⟩ := st_I h3
      exact row H locs cells slots ls rc i (fun z => absurd (by first | (simp only [Int32.lt_iff_toInt_lt, Int32.le_iff_toInt_le, Int32.toInt_zero] at *; omega) | (have e := i32_eq i 0; simp only [Int32.toInt_zero] at *; first | exact e.mp (by assumption) | exact e.mpr (by assumption) | exact fun z => absurd (e.mp z) (by assumption) | exact fun z => absurd (e.mpr z) (by assumption) | grind)) g) (fun _ => k _ _ h2 h5)
  · exact hf.elim
theorem ok_icge {t : Nat} (row : ∀ (H : Heap) (locs : List Loc) (cells slots : Nat) (ls : Array Slot) (rest : List Value) (x y : Int32), (y ≤ x → W p l e R s m args below meth c H locs cells slots Q (F0 m t ls rest)) → (¬ (y ≤ x) → W p l e R s m args below meth c H locs cells slots Q (F0 m q ls rest)) → W p l e R s m args below meth c H locs cells slots Q (F0 m pc ls (.int y :: .int x :: rest))) : OkN p l e R s m args below meth c Q D nL z0 l0 pc (icge t q) := by
  refine OkN.same fun L st h o hf => ?_
  unfold icge at hf
  split at hf
  · rename_i yy xx rr
    by_cases g : yy ≤ xx
    · refine ⟨_, _, _, (hf.1 g).symm, fun H ls stc locs cells slots h1 h2 h3 k => ?_⟩
      obtain ⟨j, rc, rfl, rfl, h5⟩ := st_I h3
      obtain ⟨i, rc, rfl, rfl, h6⟩ := st_I h5
      exact row H locs cells slots ls rc i j (fun _ => k _ _ h2 h6) (fun z => absurd (by first | (simp only [Int32.lt_iff_toInt_lt, Int32.le_iff_toInt_le, Int32.toInt_zero] at *; omega) | (have e := i32_eq i j; simp only [Int32.toInt_zero] at *; first | exact e.mp (by assumption) | exact e.mpr (by assumption) | exact fun z => absurd (e.mp z) (by assumption) | exact fun z => absurd (e.mpr z) (by assumption) | grind)) z)
    · refine ⟨_, _, _, (hf.2 (by omega)).symm, fun H ls stc locs cells slots h1 h2 h3 k => ?_⟩
      obtain ⟨j, rc, rfl, rfl, h5⟩ := st_I h3
      obtain ⟨i, rc, rfl, rfl, h6⟩ := st_I h5
      exact row H locs cells slots ls rc i j (fun z => absurd (by first | (simp only [Int32.lt_iff_toInt_lt, Int32.le_iff_toInt_le, Int32.toInt_zero] at *; omega) | (have e := i32_eq i j; simp only [Int32.toInt_zero] at *; first | exact e.mp (by assumption) | exact e.mpr (by assumption) | exact fun z => absurd (e.mp z) (by assumption) | exact fun z => absurd (e.mpr z) (by assumption) | grind)) g) (fun _ => k _ _ h2 h6)
  · exact hf.elim
theorem ok_ifgt {t : Nat} (row : ∀ (H : Heap) (locs : List Loc) (cells slots : Nat) (ls : Array Slot) (rest : List Value) (x : Int32), (0 < x → W p l e R s m args below meth c H locs cells slots Q (F0 m t ls rest)) → (¬ (0 < x) → W p l e R s m args below meth c H locs cells slots Q (F0 m q ls rest)) → W p l e R s m args below meth c H locs cells slots Q (F0 m pc ls (.int x :: rest))) : OkN p l e R s m args below meth c Q D nL z0 l0 pc (ifgt t q) := by
  refine OkN.same fun L st h o hf => ?_
  unfold ifgt at hf
  split at hf
  · rename_i xx rr
    by_cases g : 0 < xx
    · refine ⟨_, _, _, (hf.1 g).symm, fun H ls stc locs cells slots h1 h2 h3 k => ?_⟩
      obtain ⟨i, rc, rfl, rfl, h5⟩ := st_I h3
      exact row H locs cells slots ls rc i (fun _ => k _ _ h2 h5) (fun z => absurd (by first | (simp only [Int32.lt_iff_toInt_lt, Int32.le_iff_toInt_le, Int32.toInt_zero] at *; omega) | (have e := i32_eq i 0; simp only [Int32.toInt_zero] at *; first | exact e.mp (by assumption) | exact e.mpr (by assumption) | exact fun z => absurd (e.mp z) (by assumption) | exact fun z => absurd (e.mpr z) (by assumption) | grind)) z)
    · refine ⟨_, _, _, (hf.2 (by omega)).symm, fun H ls stc locs cells slots h1 h2 h3 k => ?_⟩
      obtain ⟨i, rc, rfl, rfl, h5⟩ := st_I h3
      exact row H locs cells slots ls rc i (fun z => absurd (by first | (simp only [Int32.lt_iff_toInt_lt, Int32.le_iff_toInt_le, Int32.toInt_zero] at *; omega) | (have e := i32_eq i 0; simp only [Int32.toInt_zero] at *; first | exact e.mp (by assumption) | exact e.mpr (by assumption) | exact fun z => absurd (e.mp z) (by assumption) | exact fun z => absurd (e.mpr z) (by assumption) | grind)) g) (fun _ => k _ _ h2 h5)
  · exact hf.elim
theorem ok_icgt {t : Nat} (row : ∀ (H : Heap) (locs : List Loc) (cells slots : Nat) (ls : Array Slot) (rest : List Value) (x y : Int32), (y < x → W p l e R s m args below meth c H locs cells slots Q (F0 m t ls rest)) → (¬ (y < x) → W p l e R s m args below meth c H locs cells slots Q (F0 m q ls rest)) → W p l e R s m args below meth c H locs cells slots Q (F0 m pc ls (.int y :: .int x :: rest))) : OkN p l e R s m args below meth c Q D nL z0 l0 pc (icgt t q) := by
  refine OkN.same fun L st h o hf => ?_
  unfold icgt at hf
  split at hf
  · rename_i yy xx rr
    by_cases g : yy < xx
    · refine ⟨_, _, _, (hf.1 g).symm, fun H ls stc locs cells slots h1 h2 h3 k => ?_⟩
      obtain ⟨j, rc, rfl, rfl, h5⟩ := st_I h3
      obtain ⟨i, rc, rfl, rfl, h6⟩ := st_I h5
      exact row H locs cells slots ls rc i j (fun _ => k _ _ h2 h6) (fun z => absurd (by first | (simp only [Int32.lt_iff_toInt_lt, Int32.le_iff_toInt_le, Int32.toInt_zero] at *; omega) | (have e := i32_eq i j; simp only [Int32.toInt_zero] at *; first | exact e.mp (by assumption) | exact e.mpr (by assumption) | exact fun z => absurd (e.mp z) (by assumption) | exact fun z => absurd (e.mpr z) (by assumption) | grind)) z)
    · refine ⟨_, _, _, (hf.2 (by omega)).symm, fun H ls stc locs cells slots h1 h2 h3 k => ?_⟩
      obtain ⟨j, rc, rfl, rfl, h5⟩ := st_I h3
      obtain ⟨i, rc, rfl, rfl, h6⟩ := st_I h5
      exact row H locs cells slots ls rc i j (fun z => absurd (by first | (simp only [Int32.lt_iff_toInt_lt, Int32.le_iff_toInt_le, Int32.toInt_zero] at *; omega) | (have e := i32_eq i j; simp only [Int32.toInt_zero] at *; first | exact e.mp (by assumption) | exact e.mpr (by assumption) | exact fun z => absurd (e.mp z) (by assumption) | exact fun z => absurd (e.mpr z) (by assumption) | grind)) g) (fun _ => k _ _ h2 h6)
  · exact hf.elim
theorem ok_ifle {t : Nat} (row : ∀ (H : Heap) (locs : List Loc) (cells slots : Nat) (ls : Array Slot) (rest : List Value) (x : Int32), (x ≤ 0 → W p l e R s m args below meth c H locs cells slots Q (F0 m t ls rest)) → (¬ (x ≤ 0) → W p l e R s m args below meth c H locs cells slots Q (F0 m q ls rest)) → W p l e R s m args below meth c H locs cells slots Q (F0 m pc ls (.int x :: rest))) : OkN p l e R s m args below meth c Q D nL z0 l0 pc (ifle t q) := by
  refine OkN.same fun L st h o hf => ?_
  unfold ifle at hf
  split at hf
  · rename_i xx rr
    by_cases g : xx ≤ 0
    · refine ⟨_, _, _, (hf.1 g).symm, fun H ls stc locs cells slots h1 h2 h3 k => ?_⟩
      obtain ⟨i, rc, rfl, rfl, h5⟩ := st_I h3
      exact row H locs cells slots ls rc i (fun _ => k _ _ h2 h5) (fun z => absurd (by first | (simp only [Int32.lt_iff_toInt_lt, Int32.le_iff_toInt_le, Int32.toInt_zero] at *; omega) | (have e := i32_eq i 0; simp only [Int32.toInt_zero] at *; first | exact e.mp (by assumption) | exact e.mpr (by assumption) | exact fun z => absurd (e.mp z) (by assumption) | exact fun z => absurd (e.mpr z) (by assumption) | grind)) z)
    · refine ⟨_, _, _, (hf.2 (by omega)).symm, fun H ls stc locs cells slots h1 h2 h3 k => ?_⟩
      obtain ⟨i, rc, rfl, rfl, h5⟩ := st_I h3
      exact row H locs cells slots ls rc i (fun z => absurd (by first | (simp only [Int32.lt_iff_toInt_lt, Int32.le_iff_toInt_le, Int32.toInt_zero] at *; omega) | (have e := i32_eq i 0; simp only [Int32.toInt_zero] at *; first | exact e.mp (by assumption) | exact e.mpr (by assumption) | exact fun z => absurd (e.mp z) (by assumption) | exact fun z => absurd (e.mpr z) (by assumption) | grind)) g) (fun _ => k _ _ h2 h5)
  · exact hf.elim
theorem ok_icle {t : Nat} (row : ∀ (H : Heap) (locs : List Loc) (cells slots : Nat) (ls : Array Slot) (rest : List Value) (x y : Int32), (x ≤ y → W p l e R s m args below meth c H locs cells slots Q (F0 m t ls rest)) → (¬ (x ≤ y) → W p l e R s m args below meth c H locs cells slots Q (F0 m q ls rest)) → W p l e R s m args below meth c H locs cells slots Q (F0 m pc ls (.int y :: .int x :: rest))) : OkN p l e R s m args below meth c Q D nL z0 l0 pc (icle t q) := by
  refine OkN.same fun L st h o hf => ?_
  unfold icle at hf
  split at hf
  · rename_i yy xx rr
    by_cases g : xx ≤ yy
    · refine ⟨_, _, _, (hf.1 g).symm, fun H ls stc locs cells slots h1 h2 h3 k => ?_⟩
      obtain ⟨j, rc, rfl, rfl, h5⟩ := st_I h3
      obtain ⟨i, rc, rfl, rfl, h6⟩ := st_I h5
      exact row H locs cells slots ls rc i j (fun _ => k _ _ h2 h6) (fun z => absurd (by first | (simp only [Int32.lt_iff_toInt_lt, Int32.le_iff_toInt_le, Int32.toInt_zero] at *; omega) | (have e := i32_eq i j; simp only [Int32.toInt_zero] at *; first | exact e.mp (by assumption) | exact e.mpr (by assumption) | exact fun z => absurd (e.mp z) (by assumption) | exact fun z => absurd (e.mpr z) (by assumption) | grind)) z)
    · refine ⟨_, _, _, (hf.2 (by omega)).symm, fun H ls stc locs cells slots h1 h2 h3 k => ?_⟩
      obtain ⟨j, rc, rfl, rfl, h5⟩ := st_I h3
      obtain ⟨i, rc, rfl, rfl, h6⟩ := st_I h5
      exact row H locs cells slots ls rc i j (fun z => absurd (by first | (simp only [Int32.lt_iff_toInt_lt, Int32.le_iff_toInt_le, Int32.toInt_zero] at *; omega) | (have e := i32_eq i j; simp only [Int32.toInt_zero] at *; first | exact e.mp (by assumption) | exact e.mpr (by assumption) | exact fun z => absurd (e.mp z) (by assumption) | exact fun z => absurd (e.mpr z) (by assumption) | grind)) g) (fun _ => k _ _ h2 h6)
  · exact hf.elim
theorem ok_aceq {t : Nat} (row : ∀ (H : Heap) (locs : List Loc) (cells slots : Nat) (ls : Array Slot) (rest : List Value) (x y : Option Nat), (x = y → W p l e R s m args below meth c H locs cells slots Q (F0 m t ls rest)) → (¬ (x = y) → W p l e R s m args below meth c H locs cells slots Q (F0 m q ls rest)) → W p l e R s m args below meth c H locs cells slots Q (F0 m pc ls (va_rf y :: va_rf x :: rest))) : OkN p l e R s m args below meth c Q D nL z0 l0 pc (aceq t q) := by
  refine OkN.same fun L st h o hf => ?_
  unfold aceq at hf
  split at hf
  · rename_i yy xx rr
    by_cases g : xx = yy
    · refine ⟨_, _, _, (hf.1 g).symm, fun H ls stc locs cells slots h1 h2 h3 k => ?_⟩
      obtain ⟨rc, rfl, h5⟩ := st_R h3
      obtain ⟨rc, rfl, h6⟩ := st_R h5
      exact row H locs cells slots ls rc _ _ (fun _ => k _ _ h2 h6) (fun z => absurd g z)
    · refine ⟨_, _, _, (hf.2 (by first | exact g | exact Classical.not_not.mp g)).symm, fun H ls stc locs cells slots h1 h2 h3 k => ?_⟩
      obtain ⟨rc, rfl, h5⟩ := st_R h3
      obtain ⟨rc, rfl, h6⟩ := st_R h5
      exact row H locs cells slots ls rc _ _ (fun z => absurd z g) (fun _ => k _ _ h2 h6)
  · exact hf.elim
theorem ok_acne {t : Nat} (row : ∀ (H : Heap) (locs : List Loc) (cells slots : Nat) (ls : Array Slot) (rest : List Value) (x y : Option Nat), (x ≠ y → W p l e R s m args below meth c H locs cells slots Q (F0 m t ls rest)) → (¬ (x ≠ y) → W p l e R s m args below meth c H locs cells slots Q (F0 m q ls rest)) → W p l e R s m args below meth c H locs cells slots Q (F0 m pc ls (va_rf y :: va_rf x :: rest))) : OkN p l e R s m args below meth c Q D nL z0 l0 pc (acne t q) := by
  refine OkN.same fun L st h o hf => ?_
  unfold acne at hf
  split at hf
  · rename_i yy xx rr
    by_cases g : xx ≠ yy
    · refine ⟨_, _, _, (hf.1 g).symm, fun H ls stc locs cells slots h1 h2 h3 k => ?_⟩
      obtain ⟨rc, rfl, h5⟩ := st_R h3
      obtain ⟨rc, rfl, h6⟩ := st_R h5
      exact row H locs cells slots ls rc _ _ (fun _ => k _ _ h2 h6) (fun z => absurd g z)
    · refine ⟨_, _, _, (hf.2 (by first | exact g | exact Classical.not_not.mp g)).symm, fun H ls stc locs cells slots h1 h2 h3 k => ?_⟩
      obtain ⟨rc, rfl, h5⟩ := st_R h3
      obtain ⟨rc, rfl, h6⟩ := st_R h5
      exact row H locs cells slots ls rc _ _ (fun z => absurd z g) (fun _ => k _ _ h2 h6)
  · exact hf.elim
theorem ok_ifnull {t : Nat} (rowN : ∀ (H : Heap) (locs : List Loc) (cells slots : Nat) (ls : Array Slot) (rest : List Value), W p l e R s m args below meth c H locs cells slots Q (F0 m t ls rest) → W p l e R s m args below meth c H locs cells slots Q (F0 m pc ls (.null :: rest))) (row : ∀ (H : Heap) (locs : List Loc) (cells slots : Nat) (ls : Array Slot) (rest : List Value) (x : Nat), W p l e R s m args below meth c H locs cells slots Q (F0 m q ls rest) → W p l e R s m args below meth c H locs cells slots Q (F0 m pc ls (.ref x :: rest))) : OkN p l e R s m args below meth c Q D nL z0 l0 pc (ifnull t q) := by
  refine OkN.same fun L st h o hf => ?_
  unfold ifnull at hf
  split at hf
  · refine ⟨_, _, _, hf.symm, fun H ls stc locs cells slots h1 h2 h3 k => ?_⟩
    obtain ⟨rc, rfl, h5⟩ := st_R h3
    exact rowN H locs cells slots ls rc (k _ _ h2 h5)
  · refine ⟨_, _, _, hf.symm, fun H ls stc locs cells slots h1 h2 h3 k => ?_⟩
    obtain ⟨rc, rfl, h5⟩ := st_R h3
    exact row H locs cells slots ls rc _ (k _ _ h2 h5)
  · exact hf.elim
theorem ok_ifnonnull {t : Nat} (rowN : ∀ (H : Heap) (locs : List Loc) (cells slots : Nat) (ls : Array Slot) (rest : List Value), W p l e R s m args below meth c H locs cells slots Q (F0 m q ls rest) → W p l e R s m args below meth c H locs cells slots Q (F0 m pc ls (.null :: rest))) (row : ∀ (H : Heap) (locs : List Loc) (cells slots : Nat) (ls : Array Slot) (rest : List Value) (x : Nat), W p l e R s m args below meth c H locs cells slots Q (F0 m t ls rest) → W p l e R s m args below meth c H locs cells slots Q (F0 m pc ls (.ref x :: rest))) : OkN p l e R s m args below meth c Q D nL z0 l0 pc (ifnonnull t q) := by
  refine OkN.same fun L st h o hf => ?_
  unfold ifnonnull at hf
  split at hf
  · refine ⟨_, _, _, hf.symm, fun H ls stc locs cells slots h1 h2 h3 k => ?_⟩
    obtain ⟨rc, rfl, h5⟩ := st_R h3
    exact rowN H locs cells slots ls rc (k _ _ h2 h5)
  · refine ⟨_, _, _, hf.symm, fun H ls stc locs cells slots h1 h2 h3 k => ?_⟩
    obtain ⟨rc, rfl, h5⟩ := st_R h3
    exact row H locs cells slots ls rc _ (k _ _ h2 h5)
  · exact hf.elim
theorem ok_dup (row : ∀ (H : Heap) (locs : List Loc) (cells slots : Nat) (ls : Array Slot) (rest : List Value) (va : Value), va.category = 1 → W p l e R s m args below meth c H locs cells slots Q (F0 m q ls (va :: va :: rest)) → W p l e R s m args below meth c H locs cells slots Q (F0 m pc ls (va :: rest))) : OkN p l e R s m args below meth c Q D nL z0 l0 pc (dup q) := by
  refine OkN.same fun L st h o hf => ?_
  unfold dup at hf
  split at hf
  · cases g : Nat.beq (cat _) 1 with
    | false => rw [g] at hf; exact hf.elim
    | true =>
      rw [g] at hf
      refine ⟨_, _, _, (show _ = _ from hf).symm, fun H ls stc locs cells slots h1 h2 h3 k => ?_⟩
      obtain ⟨v, rc, rfl, rfl, h5⟩ := st_cons h3
      exact row H locs cells slots ls rc v (aV_cat (Nat.eq_of_beq_eq_true g)) (k _ _ h2 (by simp [h5]))
  · exact hf.elim
theorem ok_pop (row : ∀ (H : Heap) (locs : List Loc) (cells slots : Nat) (ls : Array Slot) (rest : List Value) (va : Value), va.category = 1 → W p l e R s m args below meth c H locs cells slots Q (F0 m q ls rest) → W p l e R s m args below meth c H locs cells slots Q (F0 m pc ls (va :: rest))) : OkN p l e R s m args below meth c Q D nL z0 l0 pc (pop q) := by
  refine OkN.same fun L st h o hf => ?_
  unfold pop at hf
  split at hf
  · cases g : Nat.beq (cat _) 1 with
    | false => rw [g] at hf; exact hf.elim
    | true =>
      rw [g] at hf
      refine ⟨_, _, _, (show _ = _ from hf).symm, fun H ls stc locs cells slots h1 h2 h3 k => ?_⟩
      obtain ⟨v, rc, rfl, rfl, h5⟩ := st_cons h3
      exact row H locs cells slots ls rc v (aV_cat (Nat.eq_of_beq_eq_true g)) (k _ _ h2 (by simp [h5]))
  · exact hf.elim
theorem ok_dupx1 (row : ∀ (H : Heap) (locs : List Loc) (cells slots : Nat) (ls : Array Slot) (rest : List Value) (va vb : Value), va.category = 1 → vb.category = 1 → W p l e R s m args below meth c H locs cells slots Q (F0 m q ls (va :: vb :: va :: rest)) → W p l e R s m args below meth c H locs cells slots Q (F0 m pc ls (va :: vb :: rest))) : OkN p l e R s m args below meth c Q D nL z0 l0 pc (dupx1 q) := by
  refine OkN.same fun L st h o hf => ?_
  unfold dupx1 at hf
  split at hf
  · cases g : Nat.beq (cat _) 1 && Nat.beq (cat _) 1 with
    | false => rw [g] at hf; exact hf.elim
    | true =>
      rw [g] at hf
      rw [Bool.and_eq_true] at g
      refine ⟨_, _, _, (show _ = _ from hf).symm, fun H ls stc locs cells slots h1 h2 h3 k => ?_⟩
      obtain ⟨v, rc, rfl, rfl, h5⟩ := st_cons h3
      obtain ⟨u, rc, rfl, rfl, h6⟩ := st_cons h5
      exact row H locs cells slots ls rc v u (aV_cat (Nat.eq_of_beq_eq_true g.1)) (aV_cat (Nat.eq_of_beq_eq_true g.2)) (k _ _ h2 (by simp [h6]))
  · exact hf.elim
theorem ok_dup2 (row2 : ∀ (H : Heap) (locs : List Loc) (cells slots : Nat) (ls : Array Slot) (rest : List Value) (va : Value), va.category = 2 → W p l e R s m args below meth c H locs cells slots Q (F0 m q ls (va :: va :: rest)) → W p l e R s m args below meth c H locs cells slots Q (F0 m pc ls (va :: rest))) (row : ∀ (H : Heap) (locs : List Loc) (cells slots : Nat) (ls : Array Slot) (rest : List Value) (va vb : Value), va.category = 1 → vb.category = 1 → W p l e R s m args below meth c H locs cells slots Q (F0 m q ls (va :: vb :: va :: vb :: rest)) → W p l e R s m args below meth c H locs cells slots Q (F0 m pc ls (va :: vb :: rest))) : OkN p l e R s m args below meth c Q D nL z0 l0 pc (dup2 q) := by
  refine OkN.same fun L st h o hf => ?_
  unfold dup2 at hf
  split at hf
  · cases g : Nat.beq (cat _) 2 with
    | true =>
      rw [g] at hf
      refine ⟨_, _, _, (show _ = _ from hf).symm, fun H ls stc locs cells slots h1 h2 h3 k => ?_⟩
      obtain ⟨v, rc, rfl, rfl, h5⟩ := st_cons h3
      exact row2 H locs cells slots ls rc v (aV_cat2 (Nat.eq_of_beq_eq_true g)) (k _ _ h2 (by simp [h5]))
    | false =>
      rw [g] at hf
      simp only [cond_false] at hf
      split at hf
      · cases g2 : Nat.beq (cat _) 1 && Nat.beq (cat _) 1 with
        | false => rw [g2] at hf; exact hf.elim
        | true =>
          rw [g2] at hf
          rw [Bool.and_eq_true] at g2
          refine ⟨_, _, _, (show _ = _ from hf).symm, fun H ls stc locs cells slots h1 h2 h3 k => ?_⟩
          obtain ⟨v, rc, rfl, rfl, h5⟩ := st_cons h3
          obtain ⟨u, rc, rfl, rfl, h6⟩ := st_cons h5
          exact row H locs cells slots ls rc v u (aV_cat (Nat.eq_of_beq_eq_true g2.1)) (aV_cat (Nat.eq_of_beq_eq_true g2.2)) (k _ _ h2 (by simp [h6]))
      · exact hf.elim
  · exact hf.elim
end OK1
