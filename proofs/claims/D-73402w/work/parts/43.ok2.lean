section OK2
variable {p : Program} {l : Launch} {e : Env} {R : Room} {s : State} {m : MethodId} {args : Array Value} {below : List Frame} {meth : Method} {c : Code} {Q : State → Prop} {D : GD} {nL z0 l0 pc q : Nat} {cc : ByteArray}
theorem len_i32 {n : Nat} (h : n < 2 ^ 31) : (Nat.toInt32 n).toInt = n := nI_toInt h
theorem ok_ald {ts : List Nat} (h0 : ts.elem 0 = false) (h2t : ts.elem 2 = false) (row : ∀ (H : Heap) (locs : List Loc) (cells slots : Nat) (ls : Array Slot) (rest : List Value) (a : Nat) (cell : Cell) (j : Int32) (v : Value) (t : Nat) (ty : FieldType), ts.elem t = true → iof t = some ty → H[a]? = some cell → s.isArrayOf cell ty → cell.vm ≠ .unknown → ¬ (j < 0 ∨ cell.slots.size ≤ j.toNatClampNeg) → cell.slots[j.toNatClampNeg]? = some v → W p l e R s m args below meth c H locs cells slots Q (F0 m q ls (v :: rest)) → W p l e R s m args below meth c H locs cells slots Q (F0 m pc ls (.int j :: .ref a :: rest))) : OkN p l e R s m args below meth c Q D nL z0 l0 pc (ald ts q) := by
  refine OkN.same fun L st h o hf => ?_
  unfold ald at hf
  split at hf
  · obtain ⟨u, xs, y, e1, e2, e3, e4, hf⟩ := hf
    refine ⟨_, _, _, hf.symm, fun H ls stc locs cells slots h1 h2 h3 k => ?_⟩
    obtain ⟨j, rc, rfl, rfl, h5⟩ := st_I h3
    obtain ⟨rc, rfl, h6⟩ := st_R h5
    have hu : u ≠ 0 := fun z => by rw [z] at e2; exact absurd (e2.symm.trans h0) (by decide)
    have hu2 : u % 200 ≠ 2 := fun z => by rw [z] at e2; exact absurd (e2.symm.trans h2t) (by decide)
    obtain ⟨-, cell, g1, ty, g2, g3, g4, g5, g6, g7, g8⟩ := h1.2.2.2.1 _ u xs e1 hu
    obtain ⟨v, v1, v2, v3⟩ := g8 _ _ e4
    have hlt := (List.getElem?_eq_some_iff.mp e4).1
    exact row H locs cells slots ls rc _ cell j v (u % 200) ty e2 g2 g1 g3 g4 (idx_in e3 (by rw [g6]; omega)) v1 (k _ _ h2 (by simp [v3, eV, hu2, h6]))
  · exact hf.elim
theorem k_iaload (hx : p.tables.exec = Jvm.exec) (hb : c.code = cc) (hd : decode cc pc = .ok (.iaload, 1)) : OkN p l e R s m args below meth c Q D nL z0 l0 pc (ald [1] (pc + 1)) := by
  refine ok_ald rfl rfl fun H locs cells slots ls rest a cell j v t ty h1 h2 h3 h4 h5 h6 h7 k => ?_
  have ht : t = 1 := by simpa using h1
  subst ht
  cases h2
  exact W.iald hx hb h3 h4 h5 h6 h7 rfl rfl hd k
theorem k_baload (hx : p.tables.exec = Jvm.exec) (hb : c.code = cc) (hd : decode cc pc = .ok (.baload, 1)) : OkN p l e R s m args below meth c Q D nL z0 l0 pc (ald [3, 4] (pc + 1)) := by
  refine ok_ald rfl rfl fun H locs cells slots ls rest a cell j v t ty h1 h2 h3 h4 h5 h6 h7 k => ?_
  have ht : t = 3 ∨ t = 4 := by simpa using h1
  rcases ht with rfl | rfl
  · cases h2
    exact W.bald hx hb h3 h4 h5 h6 h7 rfl rfl hd k
  · cases h2
    exact W.zald hx hb h3 h4 h5 h6 h7 rfl rfl hd k
theorem k_laload (hx : p.tables.exec = Jvm.exec) (hb : c.code = cc) (hd : decode cc pc = .ok (.laload, 1)) : OkN p l e R s m args below meth c Q D nL z0 l0 pc (aldL (pc + 1)) := by
  refine OkN.same fun L st h o hf => ?_
  unfold aldL at hf
  split at hf
  · obtain ⟨u, xs, y, e1, e2, e3, e4, hf⟩ := hf
    refine ⟨_, _, _, hf.symm, fun H ls stc locs cells slots h1 h2 h3 k => ?_⟩
    obtain ⟨j, rc, rfl, rfl, h5⟩ := st_I h3
    obtain ⟨rc, rfl, h6⟩ := st_R h5
    obtain ⟨-, cell, g1, ty, g2, g3, g4, g5, g6, g7, g8⟩ := h1.2.2.2.1 _ u xs e1 (by omega)
    obtain ⟨v, v1, v2, v3⟩ := g8 _ _ e4
    have hlt := (List.getElem?_eq_some_iff.mp e4).1
    rw [e2] at g2
    cases g2
    exact W.lald hx hb g1 g3 g4 (idx_in e3 (by rw [g6]; omega)) v1 rfl rfl hd (k _ _ h2 (by simp [v3, eV, e2, h6]))
  · exact hf.elim
theorem k_aaload (hx : p.tables.exec = Jvm.exec) (hb : c.code = cc) (hK : KB D s) (hd : decode cc pc = .ok (.aaload, 1)) : OkN p l e R s m args below meth c Q D nL z0 l0 pc (aldR (pc + 1)) := by
  refine OkN.same fun L st h o hf => ?_
  unfold aldR at hf
  split at hf
  · obtain ⟨u, xs, y, e1, e2, e3, e4, hf⟩ := hf
    refine ⟨_, _, _, hf.symm, fun H ls stc locs cells slots h1 h2 h3 k => ?_⟩
    obtain ⟨j, rc, rfl, rfl, h5⟩ := st_I h3
    obtain ⟨rc, rfl, h6⟩ := st_R h5
    obtain ⟨-, cell, g1, ty, g2, g3, g4, g5, g9, g6, g7, g8⟩ := h1.2.2.2.2.1 _ u xs e1 e2
    have v1 := g8 _ _ e4
    have hlt := (List.getElem?_eq_some_iff.mp e4).1
    exact W.aald hx hb g1 g3 (hK.2.2 _ _ g2).1 g4 (idx_in e3 (by rw [g6]; omega)) v1 rfl rfl hd (k _ _ h2 (by simp [aV_rf, h6]))
  · exact hf.elim
theorem k_alen (hx : p.tables.exec = Jvm.exec) (hb : c.code = cc) (hd : decode cc pc = .ok (.arraylength, 1)) : OkN p l e R s m args below meth c Q D nL z0 l0 pc (alen (pc + 1)) := by
  refine OkN.same fun L st h o hf => ?_
  unfold alen at hf
  split at hf
  · obtain ⟨n, hn, hf⟩ := hf
    refine ⟨_, _, _, hf.symm, fun H ls stc locs cells slots h1 h2 h3 k => ?_⟩
    obtain ⟨rc, rfl, h6⟩ := st_R h3
    rcases hn with ⟨u, xs, e1, e2, rfl⟩ | ⟨u, xs, e1, e2, rfl⟩
    · obtain ⟨-, cell, g1, ty, g2, g3, g4, g5, g6, g7, g8⟩ := h1.2.2.2.1 _ u xs e1 e2
      exact W.alen hx hb g1 g3 (n := Nat.toInt32 xs.length) (by rw [g6]) rfl rfl hd (k _ _ h2 (by simp [aV, len_i32 g7, h6]))
    · obtain ⟨-, cell, g1, ty, g2, g3, g4, g5, g9, g6, g7, g8⟩ := h1.2.2.2.2.1 _ u xs e1 e2
      exact W.alen hx hb g1 g3 (n := Nat.toInt32 xs.length) (by rw [g6]) rfl rfl hd (k _ _ h2 (by simp [aV, len_i32 g7, h6]))
  · exact hf.elim
theorem locs1 {locs : List Loc} {b : Nat} {x : Loc} (h : ∀ q ∈ locs, b ≤ q.base) (hx : b ≤ x.base) : ∀ q ∈ locs ++ [x], b ≤ q.base := by
  intro q hq
  rcases List.mem_append.mp hq with z | z
  · exact h q z
  · rw [List.mem_singleton.mp z]; exact hx
theorem k_iastore (hx : p.tables.exec = Jvm.exec) (hb : c.code = cc) (hd : decode cc pc = .ok (.iastore, 1)) : OkN p l e R s m args below meth c Q D nL z0 l0 pc (ast (pc + 1)) := by
  intro L st h o hw hz hl hf
  unfold ast at hf
  split at hf
  · obtain ⟨xs, e1, e2, e3, hf⟩ := hf
    refine ⟨_, _, _, _, hf.symm, hw.setI, Nat.le_refl _, Nat.le_refl _, fun _ _ k H ls stc locs h1 h2 h3 h4 => ?_⟩
    obtain ⟨v, rc, rfl, rfl, h5⟩ := st_I h3
    obtain ⟨j, rc, rfl, rfl, h6⟩ := st_I h5
    obtain ⟨rc, rfl, h7⟩ := st_R h6
    obtain ⟨ga, cell, g1, g⟩ := h1.2.2.2.1 _ 1 xs e1 (by decide)
    obtain ⟨ty, g2, g3, g4, g5, g6, g7, g8⟩ := id g
    cases g2
    exact W.iast hx hb g1 g3 g4 (idx_in e2 (by rw [g6]; omega)) rfl rfl hd fun H' c1 c2 c3 => k H' ls rc _ (h1.setI hw e1 (by decide) (by decide) c1 c2 c3 (g.set rfl rfl rfl)) h2 h7 (locs1 h4 (ga (by decide)))
  · exact hf.elim
theorem k_lastore (hx : p.tables.exec = Jvm.exec) (hb : c.code = cc) (hd : decode cc pc = .ok (.lastore, 1)) : OkN p l e R s m args below meth c Q D nL z0 l0 pc (astL (pc + 1)) := by
  intro L st h o hw hz hl hf
  unfold astL at hf
  split at hf
  · obtain ⟨xs, e1, e2, e3, hf⟩ := hf
    refine ⟨_, _, _, _, hf.symm, hw.setI, Nat.le_refl _, Nat.le_refl _, fun _ _ k H ls stc locs h1 h2 h3 h4 => ?_⟩
    obtain ⟨v, rc, rfl, rfl, h5⟩ := st_L h3
    obtain ⟨j, rc, rfl, rfl, h6⟩ := st_I h5
    obtain ⟨rc, rfl, h7⟩ := st_R h6
    obtain ⟨ga, cell, g1, g⟩ := h1.2.2.2.1 _ 2 xs e1 (by decide)
    obtain ⟨ty, g2, g3, g4, g5, g6, g7, g8⟩ := id g
    cases g2
    exact W.last hx hb g1 g3 g4 (idx_in e2 (by rw [g6]; omega)) rfl rfl hd fun H' c1 c2 c3 => k H' ls rc _ (h1.setI hw e1 (by decide) (by decide) c1 c2 c3 (g.set rfl rfl rfl)) h2 h7 (locs1 h4 (ga (by decide)))
  · exact hf.elim
theorem k_bastore (hx : p.tables.exec = Jvm.exec) (hb : c.code = cc) (hd : decode cc pc = .ok (.bastore, 1)) : OkN p l e R s m args below meth c Q D nL z0 l0 pc (astB (pc + 1)) := by
  intro L st h o hw hz hl hf
  unfold astB at hf
  split at hf
  · obtain ⟨u, xs, e1, e2, e3, ⟨rfl, hf⟩ | ⟨rfl, hf⟩⟩ := hf
    · refine ⟨_, _, _, _, hf.symm, hw.setI, Nat.le_refl _, Nat.le_refl _, fun _ _ k H ls stc locs h1 h2 h3 h4 => ?_⟩
      obtain ⟨v, rc, rfl, rfl, h5⟩ := st_I h3
      obtain ⟨j, rc, rfl, rfl, h6⟩ := st_I h5
      obtain ⟨rc, rfl, h7⟩ := st_R h6
      obtain ⟨ga, cell, g1, g⟩ := h1.2.2.2.1 _ 3 xs e1 (by decide)
      obtain ⟨ty, g2, g3, g4, g5, g6, g7, g8⟩ := id g
      cases g2
      exact W.bast hx hb g1 g3 g4 (idx_in e2 (by rw [g6]; omega)) rfl rfl hd fun H' c1 c2 c3 => k H' ls rc _ (h1.setI hw e1 (by decide) (by decide) c1 c2 c3 (g.set rfl (by simp [narrow_byte, aV, eV, i2b, ofI32]) (pk_fb v))) h2 h7 (locs1 h4 (ga (by decide)))
    · refine ⟨_, _, _, _, hf.symm, hw.setI, Nat.le_refl _, Nat.le_refl _, fun _ _ k H ls stc locs h1 h2 h3 h4 => ?_⟩
      obtain ⟨v, rc, rfl, rfl, h5⟩ := st_I h3
      obtain ⟨j, rc, rfl, rfl, h6⟩ := st_I h5
      obtain ⟨rc, rfl, h7⟩ := st_R h6
      obtain ⟨ga, cell, g1, g⟩ := h1.2.2.2.1 _ 4 xs e1 (by decide)
      obtain ⟨ty, g2, g3, g4, g5, g6, g7, g8⟩ := id g
      cases g2
      exact W.zast hx hb g1 g3 g4 (idx_in e2 (by rw [g6]; omega)) rfl rfl hd fun H' c1 c2 c3 => k H' ls rc _ (h1.setI hw e1 (by decide) (by decide) c1 c2 c3 (g.set rfl (by simp [narrow, aV, eV, bit1, ofI32]) (fits_narrow_boolean v))) h2 h7 (locs1 h4 (ga (by decide)))
  · exact hf.elim
/-- the cell of a reference of some kind -/
theorem kcell {h : AH} {H : Heap} {b : Nat} {k : Nat × Nat} (h1 : hrel D s h H) (hk : knd h b k) (h0 : k.2 ≠ 0) (hlt : k.2 < 200) : ∃ cv, H[b]? = some cv ∧ (∀ q, cv.vm ≠ .statics q) ∧ cv.cls = kid D k := by
  obtain ⟨k1, k2⟩ := k
  unfold knd at hk
  match k1, hk with
  | 0, hk =>
    obtain ⟨-, cell, g1, q, g2, g3, g4, g5, g6⟩ := h1.2.2.2.2.2 b _ _ rfl (fun z => by rw [z] at hk; exact h0 hk.symm)
    exact ⟨cell, g1, (fun q z => absurd (by rw [z] at g5; exact g5) (by simp [VmData.isStatics])), (by rw [g3]; exact congrArg D.C hk)⟩
  | 1, hk =>
    have hk : (h.I b).1 = k2 := hk
    obtain ⟨-, cell, g1, ty, g2, g3, g4, g5, g6⟩ := h1.2.2.2.1 b _ _ rfl (fun z => by rw [z] at hk; exact h0 hk.symm)
    exact ⟨cell, g1, g3.1, by rw [(g5 (by rw [hk]; exact hlt)).2, hk]; rfl⟩
  | n + 2, hk =>
    obtain ⟨-, cell, g1, ty, g2, g3, g4, g5, g6, g7⟩ := h1.2.2.2.2.1 b _ _ rfl (fun z => by rw [z] at hk; exact h0 hk.symm)
    exact ⟨cell, g1, g3.1, by rw [g6]; exact congrArg D.B hk⟩
theorem k_aastore (hx : p.tables.exec = Jvm.exec) (hb : c.code = cc) (hK : KB D s) (hE : ∀ u k, (D.E u).elem k = true → k.2 < 200) (ho : ∀ u ty, D.rof u = some ty → [2, 3, 7].elem u = false → ∃ C, ty = .object C) (hd : decode cc pc = .ok (.aastore, 1)) : OkN p l e R s m args below meth c Q D nL z0 l0 pc (astR D.E (pc + 1)) := by
  intro L st h o hw hz hl hf
  unfold astR at hf
  split at hf
  · rename_i y i a r
    obtain ⟨u, xs, e1, e2, e3, e4, e5, e6, e7, hf⟩ := hf
    refine ⟨_, _, _, _, hf.symm, hw.setR, Nat.le_refl _, Nat.le_refl _, fun _ _ k H ls stc locs h1 h2 h3 h4 => ?_⟩
    obtain ⟨rc, rfl, h5⟩ := st_R h3
    obtain ⟨j, rc, rfl, rfl, h6⟩ := st_I h5
    obtain ⟨rc, rfl, h7⟩ := st_R h6
    obtain ⟨ga, cell, g1, g⟩ := h1.2.2.2.2.1 _ u xs e1 (by omega)
    obtain ⟨ty, g2, g3, g4, g5, g9, g6, g7, g8⟩ := id g
    have hu : u % 200 = u := Nat.mod_eq_of_lt e3
    rw [hu] at g2 g9
    have hin := idx_in (n := cell.slots.size) e4 (by rw [g6]; omega)
    cases y with
    | none =>
      obtain ⟨C, rfl⟩ := ho u ty g2 (e7 rfl)
      exact va_WaastN hx hb g1 g3 g4 hin rfl rfl hd fun H' c1 c2 c3 => k H' ls rc _ (h1.setR hw e1 (by omega) e3 c1 c2 c3 (g.set (y := none))) h2 h7 (locs1 h4 (ga e3))
    | some b =>
      obtain ⟨kk, q1, q2, q3⟩ := e6 b rfl
      obtain ⟨cv, w1, w2, w3⟩ := kcell h1 q3 q2 (hE u kk q1)
      obtain ⟨r1, -, kA, comp, kcomp, r2, r3, r4, r5⟩ := hK.2.2 u ty g2
      obtain ⟨r6, kv, r7⟩ := r5 kk q1 q2
      exact W.aast hx hb g1 g3.1 g4 (by rw [g9]; exact r2) r3 r1 r4 ⟨fun z => hin (Or.inl z), Nat.not_le.mp fun z => hin (Or.inr z)⟩ w1 w2 (by rw [w3]; exact r7) (by rw [w3]; exact r6) rfl rfl hd fun H' c1 c2 c3 => k H' ls rc _ (h1.setR hw e1 (by omega) e3 c1 c2 c3 (g.set (y := some b))) h2 h7 (locs1 h4 (ga e3))
  · exact hf.elim
end OK2
