/-! fields written, casts -/
def KJ (D : GD) : Prop := ∀ t q, D.cof t = some q → ∀ a b, a < q.2.2 → b < q.2.2 → a ≠ b → D.J t a ≠ D.J t b
theorem cokF.set {D : GD} {t k : Nat} {fs : List AV} {cell : Cell} {v : AV} {w : Value} (g : cokF D t fs cell) (hJ : KJ D) (hk : k < fs.length) (hw : aV w = v) : cokF D t (fs.set k v) (cell.setSlot (D.J (t % 200) k) w) := by
  obtain ⟨q, g2, g3, g4, g5, g6, g7, g8⟩ := g
  refine ⟨q, g2, g3, (fun z => g4 (fun y => z (by rw [y]; rfl))), g5, g6, by rw [List.length_set]; exact g7, fun j z hz => ?_⟩
  by_cases c : k = j
  · subst c
    rw [List.getElem?_set_self hk] at hz
    cases hz
    obtain ⟨w0, e1, -⟩ := g8 k _ (List.getElem?_eq_getElem hk)
    exact ⟨w, Cell.slots_setSlot_self w (Array.getElem?_eq_some_iff.mp e1).1, hw⟩
  · rw [List.getElem?_set_ne c] at hz
    have hj : j < fs.length := (List.getElem?_eq_some_iff.mp hz).1
    rw [slot_ne cell w (hJ _ q g2 k j (by rw [← g7]; exact hk) (by rw [← g7]; exact hj) c)]
    exact g8 j z hz
section OK4
variable {p : Program} {l : Launch} {e : Env} {R : Room} {s : State} {m : MethodId} {args : Array Value} {below : List Frame} {meth : Method} {c : Code} {Q : State → Prop} {D : GD} {nL z0 l0 pc q : Nat} {cc : ByteArray}
def RowP (p : Program) (l : Launch) (e : Env) (R : Room) (s : State) (m : MethodId) (args : Array Value) (below : List Frame) (meth : Method) (c : Code) (Q : State → Prop) (D : GD) (pc q : Nat) (ok : Value → Prop) (t k : Nat) : Prop :=
  (0 < t ∧ t < 200) ∧ ∀ (H : Heap) (locs : List Loc) (cells slots : Nat) (ls : Array Slot) (rest : List Value) (a : Nat) (cell : Cell) (v : Value), ok v → H[a]? = some cell → cell.cls = D.C t → cell.vm = .none → D.J t k < cell.slots.size →
    (∀ H' : Heap, H'[a]? = some (cell.setSlot (D.J t k) v) → H'.size = H.size → (∀ q, q ≠ a → H'[q]? = H[q]?) → W p l e R s m args below meth c H' (locs ++ [⟨a, D.J t k⟩]) cells slots Q (F0 m q ls rest)) → W p l e R s m args below meth c H locs cells slots Q (F0 m pc ls (v :: .ref a :: rest))
/-- a value put into a field: one for all kinds of value -/
theorem ok_put {kk : List (Nat × Nat)} {ok : Value → Prop} (hJ : KJ D) (rows : ∀ t k, lk kk t = some k → RowP p l e R s m args below meth c Q D pc q ok t k) {L : Ls} {st r : List AV} {h : AH} {a u k : Nat} {fs : List AV} {v : AV} (hw : WF h) (e0 : st = v :: vR (some a) :: r) (e1 : h.F a = (u, fs)) (e2 : lk kk u = some k) (e3 : k < fs.length) (hv : ∀ w, aV w = v → ok w)
    (kx : MW p l e R s m args below meth c Q D nL z0 l0 (q, L, r, h.setF a (fs.set k v))) : MW p l e R s m args below meth c Q D nL z0 l0 (pc, L, st, h) := by
  subst e0
  intro H ls stc locs h1 h2 h3 h4
  have h1 : hrel D s h H := h1
  obtain ⟨w, rc, rfl, hw1, h5⟩ := st_cons h3
  obtain ⟨rc, rfl, h6⟩ := st_R h5
  obtain ⟨⟨u1, u2⟩, row⟩ := rows u k e2
  obtain ⟨ga, cell, g1, g⟩ := h1.2.2.2.2.2 _ u fs e1 (by omega)
  obtain ⟨qq, g2, g3, g4, g5, g6, g7, g8⟩ := id g
  have hmod : u % 200 = u := Nat.mod_eq_of_lt u2
  obtain ⟨w0, w1, -⟩ := g8 k _ (List.getElem?_eq_getElem e3)
  rw [hmod] at w1 g3
  refine row H locs _ _ ls rc a cell w (hv w hw1) g1 g3 (g6 u2) (Array.getElem?_eq_some_iff.mp w1).1 fun H' c1 c2 c3 => ?_
  have gs := g.set (k := k) (v := v) (w := w) hJ e3 hw1
  rw [hmod] at gs
  exact kx H' ls rc _ (h1.setF hw e1 (by omega) u2 c1 c2 c3 gs) h2 h6 (locs1 h4 (ga u2))
def okT (ty : FieldType) (v : Value) : Prop := narrow ty v = v ∧ fits ty v = true
theorem okT_rf {ty : FieldType} (h : ty.isReference = true) (y : Option Nat) : okT ty (va_rf y) := by
  cases ty with
  | object C => cases y <;> exact ⟨rfl, rfl⟩
  | array C => cases y <;> exact ⟨rfl, rfl⟩
  | _ => cases h
theorem ok_putI {kk : List (Nat × Nat)} (hJ : KJ D) (rows : ∀ t k, lk kk t = some k → RowP p l e R s m args below meth c Q D pc q (okT .int) t k) : OkN p l e R s m args below meth c Q D nL z0 l0 pc (putI kk q) := by
  intro L st h o hw hz hl hf
  unfold putI at hf
  split at hf
  · obtain ⟨u, fs, k, e1, e2, e3, hf⟩ := hf
    exact ⟨_, _, _, _, hf.symm, hw.setF, Nat.le_refl _, Nat.le_refl _, fun _ _ kx => ok_put hJ rows hw rfl e1 e2 e3 (fun w z => by obtain ⟨i, rfl, -⟩ := aV_I z; exact ⟨rfl, rfl⟩) kx⟩
  · exact hf.elim
theorem ok_putL {kk : List (Nat × Nat)} (hJ : KJ D) (rows : ∀ t k, lk kk t = some k → RowP p l e R s m args below meth c Q D pc q (okT .long) t k) : OkN p l e R s m args below meth c Q D nL z0 l0 pc (putL kk q) := by
  intro L st h o hw hz hl hf
  unfold putL at hf
  split at hf
  · obtain ⟨u, fs, k, e1, e2, e3, hf⟩ := hf
    exact ⟨_, _, _, _, hf.symm, hw.setF, Nat.le_refl _, Nat.le_refl _, fun _ _ kx => ok_put hJ rows hw rfl e1 e2 e3 (fun w z => by obtain ⟨i, rfl, -⟩ := aV_L z; exact ⟨rfl, rfl⟩) kx⟩
  · exact hf.elim
theorem ok_putR {kk : List (Nat × Nat)} {ty : FieldType} (hty : ty.isReference = true) (hJ : KJ D) (rows : ∀ t k, lk kk t = some k → RowP p l e R s m args below meth c Q D pc q (okT ty) t k) : OkN p l e R s m args below meth c Q D nL z0 l0 pc (putR kk q) := by
  intro L st h o hw hz hl hf
  unfold putR at hf
  split at hf
  · obtain ⟨u, fs, k, e1, e2, e3, hf⟩ := hf
    exact ⟨_, _, _, _, hf.symm, hw.setF, Nat.le_refl _, Nat.le_refl _, fun _ _ kx => ok_put hJ rows hw rfl e1 e2 e3 (fun w z => by
      rw [aV_R z]
      exact okT_rf hty _) kx⟩
  · exact hf.elim
theorem i32_of {i : Int32} {n : Int} {j : Int32} (h : i.toInt = n) (hj : j.toInt = n) : i = j := Int32.toInt_inj.mp (h.trans hj.symm)
theorem ok_putZ {kk : List (Nat × Nat)} (hJ : KJ D) (rows : ∀ t k, lk kk t = some k → RowP p l e R s m args below meth c Q D pc q (okT .boolean) t k) : OkN p l e R s m args below meth c Q D nL z0 l0 pc (putZ kk q) := by
  intro L st h o hw hz hl hf
  unfold putZ at hf
  split at hf
  · obtain ⟨u, fs, k, e1, e2, e3, e4, hf⟩ := hf
    exact ⟨_, _, _, _, hf.symm, hw.setF, Nat.le_refl _, Nat.le_refl _, fun _ _ kx => ok_put hJ rows hw rfl e1 e2 e3 (fun w z => by
      obtain ⟨i, rfl, hi⟩ := aV_I z
      rcases e4 with e4 | e4
      · rw [e4] at hi
        rw [i32_of (j := 0) hi rfl]
        exact ⟨rfl, rfl⟩
      · rw [e4] at hi
        rw [i32_of (j := 1) hi (by decide)]
        exact ⟨rfl, rfl⟩) kx⟩
  · exact hf.elim
theorem ok_putB {kk : List (Nat × Nat)} (hJ : KJ D) (rows : ∀ t k, lk kk t = some k → RowP p l e R s m args below meth c Q D pc q (okT .byte) t k) : OkN p l e R s m args below meth c Q D nL z0 l0 pc (putB kk q) := by
  intro L st h o hw hz hl hf
  unfold putB at hf
  split at hf
  · obtain ⟨u, fs, k, e1, e2, e3, e4, e5, hf⟩ := hf
    exact ⟨_, _, _, _, hf.symm, hw.setF, Nat.le_refl _, Nat.le_refl _, fun _ _ kx => ok_put hJ rows hw rfl e1 e2 e3 (fun w z => by
      obtain ⟨i, rfl, hi⟩ := aV_I z
      have hb : i.toInt8.toInt32 = i := by
        apply Int32.toInt_inj.mp
        rw [Int8.toInt_toInt32, Int32.toInt_toInt8, hi]
        exact Int.bmod_eq_of_le (by omega) (by omega)
      have hp := pk_fb i
      rw [hb] at hp
      exact ⟨congrArg Value.int hb, hp⟩) kx⟩
  · exact hf.elim
theorem g_put (hx : p.tables.exec = Jvm.exec) (hb : c.code = cc) (hK : KB D s) (hts : ∀ w ∈ lw_all, w.before args s = true) {own ref C : String} {T : u_T} {N index t k : Nat} {ty : FieldType} (hown : s.vm.findClass own = some m.cls) (hin : ∀ w ∈ u_ws C T N, w ∈ lw_all) (ht : 0 < t ∧ t < 200) (hc : D.cof t = some (C, T, N)) (hk : k < N) (hlink : (Cond.fieldLink own index ref (T k).2.1 (T k).2.2.1).before args s = true) (hsame : ∀ x, s.fieldFound? (T k).1 (T k).2.1 (T k).2.2.1 = some x → s.fieldFound? ref (T k).2.1 (T k).2.2.1 = some x) (hfin : (T k).2.2.2 = false) (hd0 : parseFieldDescriptor (T k).2.2.1 = some ty) (hd : decode cc pc = .ok (.putfield index, 3)) : RowP p l e R s m args below meth c Q D pc (pc + 3) (okT ty) t k := by
  refine ⟨ht, fun H locs cells slots ls rest a cell v ok h1 h2 h3 h4 kk => ?_⟩
  obtain ⟨hS, hfc, kC, hkC, hkind⟩ := hK.kn hc (by omega)
  obtain ⟨cf, kf, fi, f, hi, hsl⟩ := hS k hk
  have hlay := hts _ (hin _ (u_in_lay hk))
  unfold u_lay at hlay
  rw [if_neg (by rw [hfin]; decide)] at hlay
  have hst := (u_facts hfc hkC (u_lays hts hin hk) hi).1
  have h6 := u_store hfc hkC hkind hlay hi hd0 ok.1 ok.2
  refine W.putK hx hb (f := f) ⟨hown, hlink, ⟨_, _, _, hsame _ hi⟩, hst⟩ (by rw [h2]; exact h6) h1 h3 (by rw [hsl]; exact h4) rfl rfl hd fun H' e1 e2 e3 => ?_
  rw [hsl] at e1 ⊢
  exact kk H' e1 e2 e3
theorem g_putN (hx : p.tables.exec = Jvm.exec) (hb : c.code = cc) (hK : KB D s) (hts : ∀ w ∈ lw_all, w.before args s = true) {own ref C host : String} {T : u_T} {N index t k : Nat} {ty : FieldType} (hown : s.vm.findClass own = some m.cls) (hin : ∀ w ∈ u_ws C T N, w ∈ lw_all) (ht : 0 < t ∧ t < 200) (hc : D.cof t = some (C, T, N)) (hk : k < N) (hlink : (Cond.fieldLinkNest own index ref (T k).2.1 (T k).2.2.1 host).before args s = true) (hsame : ∀ x, s.fieldFound? (T k).1 (T k).2.1 (T k).2.2.1 = some x → s.fieldFound? ref (T k).2.1 (T k).2.2.1 = some x) (hfin : (T k).2.2.2 = false) (hd0 : parseFieldDescriptor (T k).2.2.1 = some ty) (hd : decode cc pc = .ok (.putfield index, 3)) : RowP p l e R s m args below meth c Q D pc (pc + 3) (okT ty) t k := by
  refine ⟨ht, fun H locs cells slots ls rest a cell v ok h1 h2 h3 h4 kk => ?_⟩
  obtain ⟨hS, hfc, kC, hkC, hkind⟩ := hK.kn hc (by omega)
  obtain ⟨cf, kf, fi, f, hi, hsl⟩ := hS k hk
  have hlay := hts _ (hin _ (u_in_lay hk))
  unfold u_lay at hlay
  rw [if_neg (by rw [hfin]; decide)] at hlay
  have hst := (u_facts hfc hkC (u_lays hts hin hk) hi).1
  have h6 := u_store hfc hkC hkind hlay hi hd0 ok.1 ok.2
  refine va_WputK hx hb (f := f) hown hlink (hsame _ hi) hst (by rw [h2]; exact h6) h1 h3 (by rw [hsl]; exact h4) rfl rfl hd fun H' e1 e2 e3 => ?_
  rw [hsl] at e1 ⊢
  exact kk H' e1 e2 e3
theorem g_putF (hx : p.tables.exec = Jvm.exec) (hb : c.code = cc) (hK : KB D s) (hts : ∀ w ∈ lw_all, w.before args s = true) {own ref C : String} {T : u_T} {N index t k : Nat} {ty : FieldType} (hown : s.vm.findClass own = some m.cls) (hin : ∀ w ∈ u_ws C T N, w ∈ lw_all) (ht : 0 < t ∧ t < 200) (hc : D.cof t = some (C, T, N)) (hk : k < N) (hlink : (Cond.fieldLink own index ref (T k).2.1 (T k).2.2.1).before args s = true) (hsame : ∀ x, s.fieldFound? (T k).1 (T k).2.1 (T k).2.2.1 = some x → s.fieldFound? ref (T k).2.1 (T k).2.2.1 = some x) (hfin : (T k).2.2.2 = true) (hin2 : meth.name = "<init>") (hdecl : (T k).1 = own) (hd0 : parseFieldDescriptor (T k).2.2.1 = some ty) (hd : decode cc pc = .ok (.putfield index, 3)) : RowP p l e R s m args below meth c Q D pc (pc + 3) (okT ty) t k := by
  refine ⟨ht, fun H locs cells slots ls rest a cell v ok h1 h2 h3 h4 kk => ?_⟩
  obtain ⟨hS, hfc, kC, hkC, hkind⟩ := hK.kn hc (by omega)
  obtain ⟨cf, kf, fi, f, hi, hsl⟩ := hS k hk
  have hlay := hts _ (hin _ (u_in_lay hk))
  unfold u_lay at hlay
  rw [if_pos hfin] at hlay
  have hst := (u_facts hfc hkC (u_lays hts hin hk) hi).1
  have hcf : m.cls = cf := by
    obtain ⟨_, _, c', _, _, _, -, -, hf', -, -, -, hown2, -⟩ := Cond.laysFinal_spec hlay
    have e1 : c' = cf := by have := hi.symm.trans hf'; simp at this; exact this.1.symm
    rw [hdecl] at hown2
    rw [← e1]; exact Option.some.inj (hown.symm.trans hown2)
  have h6 := u_fits hfc hkC hkind (Or.inr hlay) hi hd0 ok.1 ok.2
  refine W.putFinK hx hb hown hlink (hsame _ hi) hst hcf hin2 (by rw [h2]; exact h6) h1 h3 (by rw [hsl]; exact h4) rfl rfl hd fun H' e1 e2 e3 => ?_
  rw [hsl] at e1 ⊢
  exact kk H' e1 e2 e3
theorem ok_chk {ks : List (Nat × Nat)} (hlt : ∀ k, ks.elem k = true → k.2 < 200) (rowN : ∀ (H : Heap) (locs : List Loc) (cells slots : Nat) (ls : Array Slot) (rest : List Value), W p l e R s m args below meth c H locs cells slots Q (F0 m q ls (.null :: rest)) → W p l e R s m args below meth c H locs cells slots Q (F0 m pc ls (.null :: rest)))
    (row : ∀ k, ks.elem k = true → ∀ (H : Heap) (locs : List Loc) (cells slots : Nat) (ls : Array Slot) (rest : List Value) (a : Nat) (cell : Cell), H[a]? = some cell → cell.vm.isStatics = false → cell.cls = kid D k → W p l e R s m args below meth c H locs cells slots Q (F0 m q ls (.ref a :: rest)) → W p l e R s m args below meth c H locs cells slots Q (F0 m pc ls (.ref a :: rest))) : OkN p l e R s m args below meth c Q D nL z0 l0 pc (chk ks q) := by
  refine OkN.same fun L st h o hf => ?_
  unfold chk at hf
  split at hf
  · rename_i y r
    refine ⟨_, _, _, hf.2.symm, fun H ls stc locs cells slots h1 h2 h3 k => ?_⟩
    obtain ⟨rc, rfl, h6⟩ := st_R h3
    cases y with
    | none => exact rowN H locs cells slots ls rc (k _ _ h2 (by simp [aV, h6]))
    | some b =>
      obtain ⟨kk, q1, q2, q3⟩ := hf.1 b rfl
      obtain ⟨cv, w1, w2, w3⟩ := kcell h1 q3 q2 (hlt kk q1)
      exact row kk q1 H locs cells slots ls rc b cv w1 (by cases z : cv.vm <;> first | rfl | exact absurd z (w2 _)) w3 (k _ _ h2 (by simp [aV, h6]))
  · exact hf.elim
theorem k_oini (hx : p.tables.exec = Jvm.exec) (hb : c.code = cc) (hml : c.maxLocals = nL) {own : String} {idx : Nat} (hown : s.vm.findClass own = some m.cls) (hlink : (Cond.methodLink own idx Lib.objectInit).before args s = true) (hinst : (Cond.instanceMethod Lib.objectInit).before args s = true) (hcode : (Cond.code Lib.objectInit ⟨#[0xb1]⟩ 1 none).before args s = true) (hfr : 1 ≤ R.frames) (hlo : 12 + 30 ≤ R.locals) (hd : decode cc pc = .ok (.invokespecial idx, 3)) : OkN p l e R s m args below meth c Q D nL z0 l0 pc (oini (pc + 3)) := by
  refine OkN.same fun L st h o hf => ?_
  unfold oini at hf
  split at hf
  · cases g : Nat.ble (cats _) 30 with
    | false => rw [g] at hf; exact hf.elim
    | true =>
      rw [g] at hf
      refine ⟨_, _, _, (show _ = _ from hf).symm, fun H ls stc locs cells slots h1 h2 h3 k => ?_⟩
      obtain ⟨rc, rfl, h6⟩ := st_R h3
      refine W.objInit hx hb hown hlink hinst hcode rfl (by rw [hml]; exact h2.1) rfl hd hfr ?_ (k _ _ h2 h6)
      have hc : (rc.map fun v => v.category).sum ≤ 30 := Nat.le_trans (cats_le h6) (Nat.le_of_ble_eq_true g)
      show 2 * 0 + (rc.map fun v => v.category).sum + 12 ≤ R.locals
      omega
  · exact hf.elim
end OK4
