/-! RETURNS, AND THE WHOLE: what the abstract machine comes to, the real one does -/
section RET
variable {p : Program} {l : Launch} {e : Env} {R : Room} {s : State} {m : MethodId} {args : Array Value} {below : List Frame} {meth : Method} {c : Code} {D : GD} {nL z0 l0 pc : Nat} {cc : ByteArray}
def OkR (p : Program) (l : Launch) (e : Env) (R : Room) (s : State) (m : MethodId) (args : Array Value) (below : List Frame) (meth : Method) (c : Code) (D : GD) (nL z0 l0 pc : Nat) (f : Sem) : Prop :=
  ∀ (L : Ls) (st : List AV) (h : AH) (o : Out), WF h → f L st h (fun o' => o' = o) → ∃ v : Option AV, o = rt (.inl v) h ∧ MW p l e R s m args below meth c (MQ below (QcA D v h) args s (h.sz - z0) (h.sl - l0) (fun q => D.b ≤ q)) D nL z0 l0 (pc, L, st, h)
theorem qcA {h : AH} {H : Heap} {v : Option Value} {r : Option AV} (h1 : hrel D s h H) (hv : v.map aV = r) (t : State) (ht : t.heap = H) (hW : s.WarmedH t.vm) : QcA D r h args s (.returned v) t := ⟨⟨v, rfl, hv⟩, by rw [ht]; exact h1.moved hW.alike⟩
theorem k_retI (hx : p.tables.exec = Jvm.exec) (hb : c.code = cc) (hr : meth.sig.returnType = some .int) (hlocks : meth.locks = false) (hd : decode cc pc = .ok (.ireturn, 1)) : OkR p l e R s m args below meth c D nL z0 l0 pc retI := by
  intro L st h o hw hf
  unfold retI at hf
  split at hf
  · refine ⟨_, (show _ = _ from hf).symm, fun H ls stc locs h1 h2 h3 h4 => ?_⟩
    obtain ⟨v, rc, rfl, rfl, h5⟩ := st_I h3
    rw [st_nil h5]
    exact W.iret hx hb hr (qcA h1 rfl) h4 hd hlocks
  · exact hf.elim
theorem nar_of {ty : FieldType} {v : Int32} (h : okT ty (.int v)) : narrow ty (.int v) = .int v := h.1
theorem k_retZ (hx : p.tables.exec = Jvm.exec) (hb : c.code = cc) (hr : meth.sig.returnType = some .boolean) (hlocks : meth.locks = false) (hd : decode cc pc = .ok (.ireturn, 1)) : OkR p l e R s m args below meth c D nL z0 l0 pc retZ := by
  intro L st h o hw hf
  unfold retZ at hf
  split at hf
  · obtain ⟨e4, hf⟩ := hf
    refine ⟨_, (show _ = _ from hf).symm, fun H ls stc locs h1 h2 h3 h4 => ?_⟩
    obtain ⟨v, rc, rfl, hi, h5⟩ := st_I h3
    rw [st_nil h5]
    have hn : narrow .boolean (.int v) = .int v := by
      rcases e4 with e4 | e4
      · rw [e4] at hi
        rw [i32_of (j := 0) hi rfl]
        rfl
      · rw [e4] at hi
        rw [i32_of (j := 1) hi (by decide)]
        rfl
    exact W.zret hx hb hr hn (qcA h1 (by simp [aV, hi])) h4 hd hlocks
  · exact hf.elim
theorem k_retC (hx : p.tables.exec = Jvm.exec) (hb : c.code = cc) (hr : meth.sig.returnType = some .char) (hlocks : meth.locks = false) (hd : decode cc pc = .ok (.ireturn, 1)) : OkR p l e R s m args below meth c D nL z0 l0 pc retC := by
  intro L st h o hw hf
  unfold retC at hf
  split at hf
  · obtain ⟨e4, e5, hf⟩ := hf
    refine ⟨_, (show _ = _ from hf).symm, fun H ls stc locs h1 h2 h3 h4 => ?_⟩
    obtain ⟨v, rc, rfl, hi, h5⟩ := st_I h3
    rw [st_nil h5]
    have hn : narrow .char (.int v) = .int v := by
      have hv : v = nI v.toInt.toNat := Int32.toInt_inj.mp (by rw [nI_toInt (by omega)]; omega)
      rw [hv]
      exact (pk_charN (by omega)).1
    exact W.zret hx hb hr hn (qcA h1 (by simp [aV, hi])) h4 hd hlocks
  · exact hf.elim
theorem k_retB (hx : p.tables.exec = Jvm.exec) (hb : c.code = cc) (hr : meth.sig.returnType = some .byte) (hlocks : meth.locks = false) (hd : decode cc pc = .ok (.ireturn, 1)) : OkR p l e R s m args below meth c D nL z0 l0 pc retB := by
  intro L st h o hw hf
  unfold retB at hf
  split at hf
  · obtain ⟨e4, e5, hf⟩ := hf
    refine ⟨_, (show _ = _ from hf).symm, fun H ls stc locs h1 h2 h3 h4 => ?_⟩
    obtain ⟨v, rc, rfl, hi, h5⟩ := st_I h3
    rw [st_nil h5]
    have hn : narrow .byte (.int v) = .int v := by
      have hb : v.toInt8.toInt32 = v := by
        apply Int32.toInt_inj.mp
        rw [Int8.toInt_toInt32, Int32.toInt_toInt8, hi]
        exact Int.bmod_eq_of_le (by omega) (by omega)
      exact congrArg Value.int hb
    exact W.zret hx hb hr hn (qcA h1 (by simp [aV, hi])) h4 hd hlocks
  · exact hf.elim
theorem k_retL (hx : p.tables.exec = Jvm.exec) (hb : c.code = cc) (hr : meth.sig.returnType = some .long) (hlocks : meth.locks = false) (hd : decode cc pc = .ok (.lreturn, 1)) : OkR p l e R s m args below meth c D nL z0 l0 pc retL := by
  intro L st h o hw hf
  unfold retL at hf
  split at hf
  · refine ⟨_, (show _ = _ from hf).symm, fun H ls stc locs h1 h2 h3 h4 => ?_⟩
    obtain ⟨v, rc, rfl, rfl, h5⟩ := st_L h3
    rw [st_nil h5]
    exact W.lret hx hb hr (qcA h1 rfl) h4 hd hlocks
  · exact hf.elim
theorem k_retR {rt' : FieldType} (hx : p.tables.exec = Jvm.exec) (hb : c.code = cc) (hr : meth.sig.returnType = some rt') (hrt : (∃ n, rt' = .object n) ∨ ∃ t, rt' = .array t) (hlocks : meth.locks = false) (hd : decode cc pc = .ok (.areturn, 1)) : OkR p l e R s m args below meth c D nL z0 l0 pc retR := by
  intro L st h o hw hf
  unfold retR at hf
  split at hf
  · rename_i y
    refine ⟨_, (show _ = _ from hf).symm, fun H ls stc locs h1 h2 h3 h4 => ?_⟩
    obtain ⟨rc, rfl, h5⟩ := st_R h3
    rw [st_nil h5]
    exact W.aret hx hb hr hrt (by cases y <;> simp [va_rf]) (qcA h1 (by simp [aV_rf])) h4 hd hlocks
  · exact hf.elim
theorem k_retV (hx : p.tables.exec = Jvm.exec) (hb : c.code = cc) (hr : meth.sig.returnType = none) (hlocks : meth.locks = false) (hd : decode cc pc = .ok (.return_, 1)) : OkR p l e R s m args below meth c D nL z0 l0 pc retV := by
  intro L st h o hw hf
  unfold retV at hf
  split at hf
  · refine ⟨_, (show _ = _ from hf).symm, fun H ls stc locs h1 h2 h3 h4 => ?_⟩
    rw [st_nil h3]
    exact W.vret hx hb hr (qcA h1 rfl) h4 hd hlocks
  · exact hf.elim
/-- a throw that leaves the method -/
def OkT (p : Program) (l : Launch) (e : Env) (R : Room) (s : State) (m : MethodId) (args : Array Value) (below : List Frame) (meth : Method) (c : Code) (D : GD) (nL z0 l0 pc : Nat) (f : Sem) : Prop :=
  ∀ (L : Ls) (st : List AV) (h : AH) (o : Out), WF h → f L st h (fun o' => o' = o) → ∃ a : Nat, o = rt (.inr a) h ∧ MW p l e R s m args below meth c (ME below (QE D (.inr a) h (h.sz - z0) (h.sl - l0)) args s) D nL z0 l0 (pc, L, st, h)
theorem k_athrow (hx : p.tables.exec = Jvm.exec) (hb : c.code = cc) (hlocks : meth.locks = false) (hgo : s.vm.method? m = some meth → meth.code = some c → Goes6 s m args c D pc none) (hd : decode cc pc = .ok (.athrow, 1)) : OkT p l e R s m args below meth c D nL z0 l0 pc thr := by
  intro L st h o hw hf
  unfold thr at hf
  split at hf
  · rename_i a r
    refine ⟨a, (show _ = _ from hf).symm, fun H ls stc locs h1 h2 h3 h4 => ?_⟩
    have h1 : hrel D s h H := h1
    obtain ⟨rest, rfl, h5⟩ := st_R h3
    intro T hT Y
    have hdg' : decode c.code pc = .ok (.athrow, 1) := by rw [hb]; exact hd
    obtain ⟨st2, hrun, hend, hWm, hsm⟩ := Y.leaveThrown a (g := F0 m pc ls rest) rfl rfl rfl (hgo Y.method Y.code) hlocks
    refine ⟨T.setFrames (.throwing a :: below), ?_, .threw a, hrun, hend, rfl, ?_, locs, hWm, hsm, h4⟩
    · show Steps p.tables e below (T.setTop (F0 m pc ls (.ref a :: rest))) _
      jvm_step Y.here [Y.here.top, hx, hdg', athrow.wp_sem]
      exact st2
    · show hrel D _ h T.heap
      rw [hT]
      exact h1.moved hWm.alike
  · exact hf.elim
end RET
/-- a method's body as it is entered: what is known there -/
def Cx (D : GD) (X : State → Prop) (y : MethodName) (cc : ByteArray) (nL : Nat) (ret : Option FieldType) (p : Program) (s : State) (m : MethodId) (args : Array Value) (meth : Method) (c : Code) : Prop :=
  p.tables.exec = Jvm.exec ∧ c.code = cc ∧ c.maxLocals = nL ∧ s.vm.findClass y.cls = some m.cls ∧ (∀ w ∈ lw_all, w.before args s = true) ∧ KB D s ∧ X s ∧ meth.sig.returnType = ret ∧ meth.locks = false ∧ meth.name = y.name ∧ s.methodNamed? y = some m
/-- one instruction of a method: of one of three sorts, in every body -/
def OkA (l : Launch) (D : GD) (X : State → Prop) (N : MI) (y : MethodName) (cc : ByteArray) (nL : Nat) (ret : Option FieldType) (d pc : Nat) (f : Sem) : Prop :=
  ∀ (p : Program) (e : Env) (R : Room) (s : State) (m : MethodId) (args : Array Value) (below : List Frame) (meth : Method) (c : Code) (z0 l0 : Nat), Cx D X y cc nL ret p s m args meth c → d + 2 ≤ R.frames → 100 * (d + 2) ≤ R.locals →
    (∀ Q, OkN p l e R s m args below meth c Q D nL z0 l0 pc f) ∨ (∀ Q, OkC p l e R s m args below meth c Q D X N nL z0 l0 d pc f) ∨ OkR p l e R s m args below meth c D nL z0 l0 pc f ∨ OkT p l e R s m args below meth c D nL z0 l0 pc f ∨ OkX p l e R s m args below meth c D X N nL z0 l0 d pc f
/-- what is known of a method's table -/
def GoodT (l : Launch) (D : GD) (X : State → Prop) (N : MI) (P : Prg) (G : Nat → Prop) (z : Nat) : Prop :=
  (∀ pc, Wfp (P z pc)) ∧ P z 99999 = bad ∧ (∀ pc L st h z' as h' k, P z pc L st h (fun o' => o' = .inr (.inr (z', as, h', k))) → G z') ∧ ∀ d pc, OkA l D X N (N z).1 (N z).2.1 (N z).2.2.1 (N z).2.2.2 d pc (P z pc)
/-- all that is known of the methods -/
def Good (l : Launch) (D : GD) (X : State → Prop) (N : MI) (P : Prg) (mL : Nat → Nat) (G : Nat → Prop) : Prop :=
  ∀ z, G z → (N z).2.2.1 = mL z ∧ plainFor (N z).1 = true ∧ (Cond.code (N z).1 (N z).2.1 (N z).2.2.1 (N z).2.2.2 ∈ lw_all ∨ ∃ hs, Cond.codeWith (N z).1 (N z).2.1 (N z).2.2.1 (N z).2.2.2 hs ∈ lw_all) ∧ GoodT l D X N P G z
theorem entry_in : ∀ (vs : List Value) (n : Nat), aok n (vs.map aV) = true → (lg_sl vs).length ≤ n ∧ ∀ i v, lg (pad n (lay (vs.map aV))) i = some v → ∃ w, (lg_sl vs)[i]? = some (.val w) ∧ aV w = v
  | [], n, _ => ⟨Nat.zero_le _, fun i v h => by
    have : ∀ (n i : Nat), lg (pad n []) i = none := by
      intro n
      induction n with
      | zero => intro i; simp [pad, lg]
      | succ n ih => intro i; cases i with
        | zero => simp [pad, lg]
        | succ i => simp [pad, lg, ih]
    rw [show lay ([].map aV) = [] from rfl, this] at h
    cases h⟩
  | v :: vs, 0, h => by simp [aok] at h
  | v :: vs, n + 1, h => by
    have one : ∀ (a : AV), aV v = a → v.category = 1 → aok n (vs.map aV) = true → lay ((v :: vs).map aV) = some a :: lay (vs.map aV) → (lg_sl (v :: vs)).length ≤ n + 1 ∧ ∀ i u, lg (pad (n + 1) (lay ((v :: vs).map aV))) i = some u → ∃ w, (lg_sl (v :: vs))[i]? = some (.val w) ∧ aV w = u := by
      intro a ha hc hk hl
      obtain ⟨k1, k2⟩ := entry_in vs n hk
      have e : lg_sl (v :: vs) = .val v :: lg_sl vs := by simp [lg_sl, hc]
      rw [e, hl]
      refine ⟨by simpa using k1, fun i u hu => ?_⟩
      cases i with
      | zero =>
        simp only [pad, lg] at hu
        exact ⟨v, rfl, by rw [ha]; exact Option.some.inj hu⟩
      | succ i =>
        simp only [pad, lg] at hu
        obtain ⟨w, w1, w2⟩ := k2 i u hu
        exact ⟨w, by simpa using w1, w2⟩
    cases v with
    | int y => exact one _ rfl rfl h rfl
    | ref y => exact one _ rfl rfl h rfl
    | null => exact one _ rfl rfl h rfl
    | float y => simp [aok, aV] at h
    | double y => simp [aok, aV] at h
    | retAddr y => simp [aok, aV] at h
    | long y =>
      cases n with
      | zero => simp [aok, aV] at h
      | succ n =>
        have hk : aok n (vs.map aV) = true := h
        obtain ⟨k1, k2⟩ := entry_in vs n hk
        have e : lg_sl (.long y :: vs) = .val (.long y) :: .second :: lg_sl vs := by simp [lg_sl, Value.category]
        rw [e]
        refine ⟨by simpa using k1, fun i u hu => ?_⟩
        have hl : lay ((Value.long y :: vs).map aV) = some (vL y.toInt) :: none :: lay (vs.map aV) := rfl
        rw [hl] at hu
        cases i with
        | zero =>
          simp only [pad, lg] at hu
          exact ⟨_, rfl, Option.some.inj hu⟩
        | succ i => cases i with
          | zero => simp [pad, lg] at hu
          | succ i =>
            simp only [pad, lg] at hu
            obtain ⟨w, w1, w2⟩ := k2 i u hu
            exact ⟨w, by simpa using w1, w2⟩
theorem len_pad : ∀ (n : Nat) (L : Ls), (pad n L).length = n
  | 0, _ => rfl
  | n + 1, [] => by simp [pad, len_pad n]
  | n + 1, _ :: r => by simp [pad, len_pad n]
theorem entry_rel {vs : List Value} {n : Nat} (h : aok n (vs.map aV) = true) : lrel ((lg_sl vs ++ List.replicate (n - (lg_sl vs).length) Slot.unset).toArray) n (ent n (vs.map aV)) := by
  obtain ⟨h1, h2⟩ := entry_in vs n h
  have hl := lv_entry vs h1
  refine ⟨hl.1, hl.2.1, len_pad _ _, fun i v hv => ?_⟩
  obtain ⟨w, w1, w2⟩ := h2 i v hv
  refine ⟨w, ?_, w2⟩
  have hlt := (List.getElem?_eq_some_iff.mp w1).1
  rw [List.getElem?_toArray, List.getElem?_append_left hlt]
  exact w1
