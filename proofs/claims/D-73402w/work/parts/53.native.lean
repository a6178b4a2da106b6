/-! texts and classes as constants; clones and copies -/
section NAT
variable {l : Launch} {D : GD} {X : State → Prop} {N : MI} {y : MethodName} {cc : ByteArray} {nL : Nat} {ret : Option FieldType} {d pc idx : Nat}
theorem A_ldcS {k : Nat} {tx : String} (hZ : ∀ U, X U → ∃ a, D.S k = some a ∧ vk_R y.cls idx tx a U) (hd : decode cc pc = .ok (.ldc idx, 2)) : OkA l D X N y cc nL ret d pc (gst k (pc + 2)) :=
  aN fun p e R s m args below meth c z0 l0 Q h _ _ => OkN.same fun L st hh o hf => ⟨pc + 2, L, vR (hh.S k) :: st, hf.symm, fun H ls stc locs cells slots h1 h2 h3 kx => by
    obtain ⟨a, e1, e2⟩ := hZ s h.2.2.2.2.2.2.1
    have h1 : hrel D s hh H := h1
    exact va_ldcS h.1 h.2.1 h.2.2.2.1 e2 hd (kx _ _ h2 (by rw [List.map_cons, h3, h1.2.2.1, e1]; rfl))⟩
theorem A_ldcM {k : Nat} {C : String} (hl : Cond.classLink y.cls idx C ∈ lw_all) (hZ : ∀ U, X U → ∃ a, D.S k = some a ∧ va_Mi C a U) (hd : decode cc pc = .ok (.ldc idx, 2)) : OkA l D X N y cc nL ret d pc (gst k (pc + 2)) :=
  aN fun p e R s m args below meth c z0 l0 Q h _ _ => OkN.same fun L st hh o hf => ⟨pc + 2, L, vR (hh.S k) :: st, hf.symm, fun H ls stc locs cells slots h1 h2 h3 kx => by
    obtain ⟨a, e1, e2⟩ := hZ s h.2.2.2.2.2.2.1
    have h1 : hrel D s hh H := h1
    exact va_ldcM h.1 h.2.1 h.2.2.2.1 (h.2.2.2.2.1 _ hl) e2 hd (kx _ _ h2 (by rw [List.map_cons, h3, h1.2.2.1, e1]; rfl))⟩
/-! runs of stores into a cell -/
theorem stp_facts (at_ : Nat) : ∀ (xs : List Value) (i : Nat) (cl : Cell), (cl.storePairs at_ (xs.zipIdx i)).cls = cl.cls ∧ (cl.storePairs at_ (xs.zipIdx i)).vm = cl.vm ∧ (cl.storePairs at_ (xs.zipIdx i)).slots.size = cl.slots.size ∧ ∀ k : Nat, k < cl.slots.size → (cl.storePairs at_ (xs.zipIdx i)).slots[k]? = if at_ + i ≤ k ∧ k < at_ + i + xs.length then xs[k - (at_ + i)]? else cl.slots[k]?
  | [], i, cl => ⟨rfl, rfl, rfl, fun k _ => by rw [if_neg (by simp only [List.length_nil]; omega)]; rfl⟩
  | v :: xs, i, cl => by
    rw [List.zipIdx_cons]
    obtain ⟨a, b, c, f⟩ := stp_facts at_ xs (i + 1) (cl.setSlot (at_ + i) v)
    have hsz : (cl.setSlot (at_ + i) v).slots.size = cl.slots.size := k2_slotsz _ _ _
    refine ⟨a, b, c.trans hsz, fun k hk => ?_⟩
    have f' := f k (by rw [hsz]; exact hk)
    refine f'.trans ?_
    by_cases h0 : k = at_ + i
    · subst h0
      rw [if_neg (by omega), if_pos (by simp only [List.length_cons]; omega), Cell.slots_setSlot_self v hk]
      simp
    · by_cases h : at_ + (i + 1) ≤ k ∧ k < at_ + (i + 1) + xs.length
      · rw [if_pos h, if_pos (by simp only [List.length_cons]; omega)]
        have e : k - (at_ + i) = (k - (at_ + (i + 1))) + 1 := by omega
        rw [e, List.getElem?_cons_succ]
      · rw [if_neg h, if_neg (by simp only [List.length_cons]; omega), slot_ne cl v (fun z => h0 z.symm)]
theorem copied_facts (cs cd : Cell) (sp dp n : Int32) : (copied cs cd sp dp n).cls = cd.cls ∧ (copied cs cd sp dp n).vm = cd.vm ∧ (copied cs cd sp dp n).slots.size = cd.slots.size ∧ ∀ k : Nat, k < cd.slots.size → (copied cs cd sp dp n).slots[k]? = if dp.toNatClampNeg ≤ k ∧ k < dp.toNatClampNeg + n.toNatClampNeg then some (cs.slots.getD (sp.toNatClampNeg + (k - dp.toNatClampNeg)) .null) else cd.slots[k]? := by
  obtain ⟨a, b, c, f⟩ := stp_facts dp.toNatClampNeg (cs.stretch sp.toNatClampNeg n.toNatClampNeg) 0 cd
  refine ⟨a, b, c, fun k hk => (f k hk).trans ?_⟩
  have hl : (cs.stretch sp.toNatClampNeg n.toNatClampNeg).length = n.toNatClampNeg := by simp [Cell.stretch]
  rw [hl, Nat.add_zero]
  by_cases h : dp.toNatClampNeg ≤ k ∧ k < dp.toNatClampNeg + n.toNatClampNeg
  · rw [if_pos h, if_pos h]
    unfold Cell.stretch
    rw [List.getElem?_map, List.getElem?_range (by omega)]
    rfl
  · rw [if_neg h, if_neg h]
theorem cpy_len {α : Type} {xs ys : List α} {sp dp n : Nat} (h1 : sp + n ≤ xs.length) (h2 : dp + n ≤ ys.length) : (cpy xs ys sp dp n).length = ys.length := by
  unfold cpy
  simp only [List.length_append, List.length_take, List.length_drop]
  omega
theorem cpy_get {α : Type} {xs ys : List α} {sp dp n : Nat} (h1 : sp + n ≤ xs.length) (h2 : dp + n ≤ ys.length) (k : Nat) : (cpy xs ys sp dp n)[k]? = if dp ≤ k ∧ k < dp + n then xs[sp + (k - dp)]? else ys[k]? := by
  unfold cpy
  by_cases c1 : k < dp
  · rw [if_neg (by omega), List.getElem?_append_left (by simp only [List.length_take]; omega), List.getElem?_take, if_pos c1]
  · have hl : (List.take dp ys).length = dp := by simp only [List.length_take]; omega
    rw [List.getElem?_append_right (by omega), hl]
    by_cases c2 : k < dp + n
    · rw [if_pos (by omega), List.getElem?_append_left (by simp only [List.length_take, List.length_drop]; omega), List.getElem?_take, if_pos (by omega), List.getElem?_drop]
    · have hl2 : (List.take n (List.drop sp xs)).length = n := by simp only [List.length_take, List.length_drop]; omega
      rw [if_neg (by omega), List.getElem?_append_right (by omega), hl2, List.getElem?_drop]
      congr 1
      omega
theorem nn32 {z : Int32} (h : 0 ≤ z.toInt) : z.toInt = (z.toNatClampNeg : Int) := by
  show z.toInt = ((z.toInt.toNat : Nat) : Int)
  omega
theorem cp_locs {b dst at_ : Nat} {locs : List Loc} {vs : List (Value × Nat)} (h : ∀ q ∈ locs, b ≤ q.base) (hd : b ≤ dst) : ∀ q ∈ locs ++ vs.map (fun q => (⟨dst, at_ + q.2⟩ : Loc)), b ≤ q.base := by
  intro q hq
  rcases List.mem_append.mp hq with z | z
  · exact h q z
  · obtain ⟨w, -, rfl⟩ := List.mem_map.mp z
    exact hd
theorem A_acopy (h1 : Cond.methodLink y.cls idx arraycopyName ∈ lw_all) (h2 : Cond.native arraycopyName ∈ lw_all) (h3 : Cond.static arraycopyName ∈ lw_all) (h4 : Cond.initialized "java/lang/System" ∈ lw_all) (hE : ∀ u k, (D.E u).elem k = true → k.2 < 200) (hd : decode cc pc = .ok (.invokestatic idx, 3)) : OkA l D X N y cc nL ret d pc (acopy D.E (pc + 3)) := by
  refine aN fun p e R s m args below meth c z0 l0 Q hc hfr hlo => ?_
  intro L st h o hw hz hl hf
  unfold acopy at hf
  split at hf
  · rename_i n dp dd sp ss r
    obtain ⟨f0, f1, f2, f3, ⟨u, xs, v, ys, e1, e2, e3, e4, e5, e6, hf⟩ | ⟨u, xs, v, ys, e1, e2, e3, e4, e5, e6, e7, hf⟩⟩ := hf
    · refine ⟨_, _, _, _, hf.symm, hw.setI, Nat.le_refl _, Nat.le_refl _, fun _ _ k H ls stc locs r1 r2 r3 r4 => ?_⟩
      have r1 : hrel D s h H := r1
      obtain ⟨n, rc, rfl, rfl, t1⟩ := st_I r3
      obtain ⟨dp, rc, rfl, rfl, t2⟩ := st_I t1
      obtain ⟨rc, rfl, t3⟩ := st_R t2
      obtain ⟨sp, rc, rfl, rfl, t4⟩ := st_I t3
      obtain ⟨rc, rfl, t5⟩ := st_R t4
      have hv : v < 200 := by rw [← e4]; exact Nat.mod_lt _ (by decide)
      have hvm : v % 200 = v := Nat.mod_eq_of_lt hv
      obtain ⟨-, cs, s1, ty, s2, s3, s4, s5, s6, s7, s8⟩ := r1.2.2.2.1 _ u xs e1 (fun z => by rw [z] at e4; exact e3 e4.symm)
      obtain ⟨ga, cd, d1, g⟩ := r1.2.2.2.1 _ v ys e2 e3
      obtain ⟨ty', d2, d3, d4, d5, d6, d7, d8⟩ := id g
      rw [hvm] at d2
      rw [e4] at s2
      cases s2.symm.trans d2
      obtain ⟨sst, kS, hkS, cmS, hkkS⟩ := s3
      obtain ⟨dst, kD, hkD, cmD, hkkD⟩ := d3
      have hn := nn32 f1
      have hsp := nn32 f2
      have hdp := nn32 f3
      have hget : ∀ i, i < n.toNatClampNeg → ∃ w, cs.slots[sp.toNatClampNeg + i]? = some w ∧ fits ty w = true ∧ ∃ q, xs[sp.toNatClampNeg + i]? = some q ∧ aV w = eV v q := by
        intro i hi
        have hlt : sp.toNatClampNeg + i < xs.length := by omega
        obtain ⟨w, w1, w2, w3⟩ := s8 _ _ (List.getElem?_eq_getElem hlt)
        rw [e4] at w3
        exact ⟨w, w1, w2, _, List.getElem?_eq_getElem hlt, w3⟩
      have href : refKind ty = false := by rcases iof_lt d2 with ⟨-, rfl⟩ | ⟨-, rfl⟩ | ⟨-, rfl⟩ | ⟨-, rfl⟩ <;> rfl
      intro T hT Y
      obtain ⟨vm', Y', step⟩ := Y.arraycopy hc.1 hc.2.2.2.1 (hc.2.2.2.2.1 _ h1) (hc.2.2.2.2.1 _ h2) (hc.2.2.2.2.1 _ h3) (hc.2.2.2.2.1 _ h4) (src := ss) (dst := dd) (cs := cs) (cd := cd) (srcPos := sp) (destPos := dp) (n := n) (by rw [hT]; exact s1) (by rw [hT]; exact d1) sst dst s4 d4 hkS hkD hkkS hkkD (by simp [href]) (not_neg f2) (not_neg f3) (not_neg f1) (by omega) (by omega)
        (fun vm₁ _ i hi => by
          obtain ⟨w, w1, w2, q, w3, w4⟩ := hget i hi
          have e0 : cs.slots.getD (sp.toNatClampNeg + i) .null = w := by rw [Array.getD_eq_getD_getElem?, w1]; rfl
          rw [e0]
          refine ⟨w2, ?_⟩
          rcases iof_lt d2 with ⟨-, rfl⟩ | ⟨-, rfl⟩ | ⟨-, rfl⟩ | ⟨-, rfl⟩ <;> cases w <;> first | exact trivial | (cases w2))
        (g := F0 m pc ls (.int n :: .int dp :: .ref dd :: .int sp :: .ref ss :: rc)) rfl (by rw [hc.2.2.1]; exact r2.1) (rest := rc) rfl (by rw [hc.2.1]; exact hd) (by omega) (by
          have hcat := Nat.le_trans (cats_le t5) (Nat.le_of_ble_eq_true f0)
          have hnw : nativeFrameWords "java/lang/System" "arraycopy" 5 ≤ 40 := by decide
          show 2 * 0 + _ + _ ≤ _
          omega)
      obtain ⟨c1, c2, c3, c4⟩ := copied_facts cs cd sp dp n
      have hl : dd < H.size := (Array.getElem?_eq_some_iff.mp d1).1
      have hheap : ((T.setVm vm').setCell dd (copied cs cd sp dp n)).heap = H.setIfInBounds dd (copied cs cd sp dp n) := by rw [← hT]; rfl
      have hcok : cokI D s v (cpy xs ys sp.toInt.toNat dp.toInt.toNat n.toInt.toNat) (copied cs cd sp dp n) := by
        refine ⟨ty, by rw [hvm]; exact d2, ⟨fun k z => dst k (by rw [← c2]; exact z), kD, by rw [c1]; exact hkD, cmD, hkkD⟩, by rw [c2]; exact d4, fun z => by rw [c1, c2]; exact d5 z, by rw [c3, d6, cpy_len (by omega) (by omega)], by rw [cpy_len (by omega) (by omega)]; exact d7, fun j z hj => ?_⟩
        have hjl := (List.getElem?_eq_some_iff.mp hj).1
        rw [cpy_len (by omega) (by omega)] at hjl
        rw [cpy_get (by omega) (by omega)] at hj
        rw [c4 j (by rw [d6]; exact hjl)]
        have en : n.toInt.toNat = n.toNatClampNeg := rfl
        have ed : dp.toInt.toNat = dp.toNatClampNeg := rfl
        have es : sp.toInt.toNat = sp.toNatClampNeg := rfl
        rw [en, ed, es] at hj
        by_cases hin : dp.toNatClampNeg ≤ j ∧ j < dp.toNatClampNeg + n.toNatClampNeg
        · rw [if_pos hin] at hj ⊢
          obtain ⟨w, w1, w2, q, w3, w4⟩ := hget (j - dp.toNatClampNeg) (by omega)
          rw [w3] at hj
          cases hj
          exact ⟨w, by rw [Array.getD_eq_getD_getElem?, w1]; rfl, w2, by rw [hvm]; exact w4⟩
        · rw [if_neg hin] at hj ⊢
          exact d8 j z hj
      obtain ⟨t, a1, b1⟩ := k (H.setIfInBounds dd (copied cs cd sp dp n)) ls rc _ (r1.setI hw e2 e3 hv (by simp [Array.getElem?_setIfInBounds, hl]) (by simp) (fun q hq => by simp [Array.getElem?_setIfInBounds, Ne.symm hq]) hcok) r2 t5 (cp_locs r4 (ga hv)) _ hheap Y'
      exact ⟨t, step t a1, b1⟩
    · refine ⟨_, _, _, _, hf.symm, hw.setR, Nat.le_refl _, Nat.le_refl _, fun _ _ k H ls stc locs r1 r2 r3 r4 => ?_⟩
      have r1 : hrel D s h H := r1
      obtain ⟨n, rc, rfl, rfl, t1⟩ := st_I r3
      obtain ⟨dp, rc, rfl, rfl, t2⟩ := st_I t1
      obtain ⟨rc, rfl, t3⟩ := st_R t2
      obtain ⟨sp, rc, rfl, rfl, t4⟩ := st_I t3
      obtain ⟨rc, rfl, t5⟩ := st_R t4
      have hv : v < 200 := by rw [← e4]; exact Nat.mod_lt _ (by decide)
      have hvm : v % 200 = v := Nat.mod_eq_of_lt hv
      obtain ⟨-, cs, s1, ty, s2, s3, s4, s5, s9, s6, s7, s8⟩ := r1.2.2.2.2.1 _ u xs e1 (fun z => by rw [z] at e4; exact e3 e4.symm)
      obtain ⟨ga, cd, d1, g⟩ := r1.2.2.2.2.1 _ v ys e2 e3
      obtain ⟨ty', d2, d3, d4, d5, d9, d6, d7, d8⟩ := id g
      rw [hvm] at d2 d9
      rw [e4] at s2
      cases s2.symm.trans d2
      obtain ⟨sst, kS, hkS, cmS, hkkS⟩ := s3
      obtain ⟨dst, kD, hkD, cmD, hkkD⟩ := d3
      have hn := nn32 f1
      have hsp := nn32 f2
      have hdp := nn32 f3
      obtain ⟨q1, -, kA, comp, kcomp, q2, q3, q4, q5⟩ := hc.2.2.2.2.2.1.2.2 v ty d2
      rw [d9] at hkD
      cases hkD.symm.trans q2
      cases hkkD.symm.trans q3
      intro T hT Y
      obtain ⟨vm', Y', step⟩ := Y.arraycopy hc.1 hc.2.2.2.1 (hc.2.2.2.2.1 _ h1) (hc.2.2.2.2.1 _ h2) (hc.2.2.2.2.1 _ h3) (hc.2.2.2.2.1 _ h4) (src := ss) (dst := dd) (cs := cs) (cd := cd) (srcPos := sp) (destPos := dp) (n := n) (by rw [hT]; exact s1) (by rw [hT]; exact d1) sst dst s4 d4 hkS (by rw [d9]; exact hkD) hkkS hkkD (by cases ty <;> first | rfl | (cases q1)) (not_neg f2) (not_neg f3) (not_neg f1) (by omega) (by omega)
        (fun vm₁ hal i hi => by
          have hlt : sp.toNatClampNeg + i < xs.length := by omega
          have w1 := s8 _ _ (List.getElem?_eq_getElem hlt)
          have e0 : cs.slots.getD (sp.toNatClampNeg + i) .null = va_rf xs[sp.toNatClampNeg + i] := by rw [Array.getD_eq_getD_getElem?, w1]; rfl
          rw [e0]
          have hmem : xs[sp.toNatClampNeg + i] ∈ (xs.drop sp.toInt.toNat).take n.toInt.toNat := by
            refine List.mem_of_getElem? (i := i) ?_
            rw [List.getElem?_take, if_pos (show i < n.toInt.toNat from hi), List.getElem?_drop]
            exact List.getElem?_eq_getElem hlt
          have hk := e7 _ hmem
          cases hy : xs[sp.toNatClampNeg + i] with
          | none => exact ⟨(okT_rf q1 none).2, trivial⟩
          | some b =>
            rw [hy] at hk
            obtain ⟨kk, k1, k2, k3⟩ := hk b rfl
            obtain ⟨cv, w1, w2, w3⟩ := kcell r1 k3 k2 (hE v kk k1)
            obtain ⟨r6, kv, r7⟩ := q5 kk k1 k2
            obtain ⟨kv', r8, -⟩ := hal.2.2 _ _ r7
            obtain ⟨kc', r9, -⟩ := hal.2.2 _ _ q4
            refine ⟨(okT_rf q1 (some b)).2, cv, (show T.heap[b]? = some cv by rw [hT]; exact w1), w2, ⟨kv', by rw [w3]; exact r8⟩, ⟨kc', r9⟩, ?_⟩
            show vm₁.assignable _ _ = true
            rw [hal.assignable, w3]
            exact r6)
        (g := F0 m pc ls (.int n :: .int dp :: .ref dd :: .int sp :: .ref ss :: rc)) rfl (by rw [hc.2.2.1]; exact r2.1) (rest := rc) rfl (by rw [hc.2.1]; exact hd) (by omega) (by
          have hcat := Nat.le_trans (cats_le t5) (Nat.le_of_ble_eq_true f0)
          have hnw : nativeFrameWords "java/lang/System" "arraycopy" 5 ≤ 40 := by decide
          show 2 * 0 + _ + _ ≤ _
          omega)
      obtain ⟨c1, c2, c3, c4⟩ := copied_facts cs cd sp dp n
      have hl : dd < H.size := (Array.getElem?_eq_some_iff.mp d1).1
      have hheap : ((T.setVm vm').setCell dd (copied cs cd sp dp n)).heap = H.setIfInBounds dd (copied cs cd sp dp n) := by rw [← hT]; rfl
      have hcok : cokR D s v (cpy xs ys sp.toInt.toNat dp.toInt.toNat n.toInt.toNat) (copied cs cd sp dp n) := by
        refine ⟨ty, by rw [hvm]; exact d2, ⟨fun k z => dst k (by rw [← c2]; exact z), _, by rw [c1, d9]; exact hkD, _, hkkD⟩, by rw [c2]; exact d4, fun z => by rw [c2]; exact d5 z, by rw [c1, d9, hvm], by rw [c3, d6, cpy_len (by omega) (by omega)], by rw [cpy_len (by omega) (by omega)]; exact d7, fun j z hj => ?_⟩
        have hjl := (List.getElem?_eq_some_iff.mp hj).1
        rw [cpy_len (by omega) (by omega)] at hjl
        rw [cpy_get (by omega) (by omega)] at hj
        rw [c4 j (by rw [d6]; exact hjl)]
        have en : n.toInt.toNat = n.toNatClampNeg := rfl
        have ed : dp.toInt.toNat = dp.toNatClampNeg := rfl
        have es : sp.toInt.toNat = sp.toNatClampNeg := rfl
        rw [en, ed, es] at hj
        by_cases hin : dp.toNatClampNeg ≤ j ∧ j < dp.toNatClampNeg + n.toNatClampNeg
        · rw [if_pos hin] at hj ⊢
          rw [Array.getD_eq_getD_getElem?, s8 _ _ hj]
          rfl
        · rw [if_neg hin] at hj ⊢
          exact d8 j z hj
      obtain ⟨t, a1, b1⟩ := k (H.setIfInBounds dd (copied cs cd sp dp n)) ls rc _ (r1.setR hw e2 e3 hv (by simp [Array.getElem?_setIfInBounds, hl]) (by simp) (fun q hq => by simp [Array.getElem?_setIfInBounds, Ne.symm hq]) hcok) r2 t5 (cp_locs r4 (ga hv)) _ hheap Y'
      exact ⟨t, step t a1, b1⟩
  · exact hf.elim
theorem A_aclone {ad : String} {ti tr : Nat} (hti : ti ≠ 0 → ∃ ty, iof ti = some ty ∧ ad = "[" ++ ty.toString) (htr : tr ≠ 0 → ∃ ty, D.rof tr = some ty ∧ ad = "[" ++ ty.toString) (h1 : Cond.methodLink y.cls idx ⟨ad, "clone", "()Ljava/lang/Object;"⟩ ∈ lw_all) (h2 : Cond.sameMethod ad "java/lang/Object" "clone" "()Ljava/lang/Object;" ∈ lw_all) (h3 : Cond.native ⟨"java/lang/Object", "clone", "()Ljava/lang/Object;"⟩ ∈ lw_all) (h4 : Cond.instanceMethod ⟨"java/lang/Object", "clone", "()Ljava/lang/Object;"⟩ ∈ lw_all) (h5 : Cond.selects ad ⟨ad, "clone", "()Ljava/lang/Object;"⟩ ⟨"java/lang/Object", "clone", "()Ljava/lang/Object;"⟩ ∈ lw_all) (h6 : ∀ U, X U → va_Nw (.castable ad "java/lang/Cloneable") U) (hd : decode cc pc = .ok (.invokevirtual idx, 3)) : OkA l D X N y cc nL ret d pc (aclone ti tr (pc + 3)) := by
  refine aN fun p e R s m args below meth c z0 l0 Q hc hfr hlo => ?_
  have core : ∀ (H : Heap) (ls : Array Slot) (rc : List Value) (locs : List Loc) (cells slots a : Nat) (cell : Cell) (ty : FieldType), H[a]? = some cell → s.isArrayOf cell ty → cell.vm ≠ .unknown → s.vm.findClass ad = some cell.cls → (∀ (i : Nat) v, cell.slots[i]? = some v → fits ty v = true) → ls.size = nL → (rc.map fun v => v.category).sum ≤ 30 → cells + 1 ≤ R.cells → slots + cell.slots.size ≤ R.slots → W p l e R s m args below meth c (H.push { cls := cell.cls, slots := cell.slots, vm := .none }) locs (cells + 1) (slots + cell.slots.size) Q (F0 m (pc + 3) ls (.ref H.size :: rc)) → W p l e R s m args below meth c H locs cells slots Q (F0 m pc ls (.ref a :: rc)) := by
    intro H ls rc locs cells slots a cell ty g1 g2 g3 g4 g5 g6 g7 g8 g9 kk
    obtain ⟨c0, t0', f1, f2, f3⟩ := Cond.castable_spec (va_Nw.use (A := args) rfl (h6 s hc.2.2.2.2.2.2.1))
    cases g4.symm.trans f1
    intro T hT Y
    obtain ⟨-, kA, hkA, comp, hkind⟩ := State.isArrayOf_alike Y.warmed.alike g2
    obtain ⟨gst, kS, hkS, compS, hkindS⟩ := id g2
    obtain ⟨vm', Y', st⟩ := Y.cloneArray hc.1 hc.2.2.2.1 (hc.2.2.2.2.1 _ h1) (hc.2.2.2.2.1 _ h2) (hc.2.2.2.2.1 _ h3) (hc.2.2.2.2.1 _ h4) (hc.2.2.2.2.1 _ h5) (a := a) (cell := cell) (by rw [hT]; exact g1) gst g3 g4 f2 f3
      (fun i v hv => by
        have hk' : T.vm.classes[cell.cls]? = some kA := hkA
        simpa [State.fitsSlot, State.slotType?, hk', hkind] using g5 i v hv)
      (g := F0 m pc ls (.ref a :: rc)) rfl (by rw [hc.2.2.1]; exact g6) rfl (by rw [hc.2.1]; exact hd) (by omega) (by show 2 * 0 + _ + 14 ≤ _; omega) g8 g9 (hloader := Vm.clonesLoader_of_array hkS hkindS)
    obtain ⟨t, a1, b1⟩ := kk ((T.setVm vm').pushCell { cls := cell.cls, slots := cell.slots }) (by rw [← hT]; rfl) Y'
    exact ⟨t, st t (by rw [hT]; exact a1), b1⟩
  intro L st h o hw hz hl hf
  unfold aclone at hf
  split at hf
  · rename_i a r
    obtain ⟨f0, ⟨xs, e1, e2, hf⟩ | ⟨u, xs, e1, e2, e3, hf⟩⟩ := hf
    · refine ⟨_, _, _, _, hf.symm, hw.newI, Nat.le_succ _, Nat.le_add_right _ _, fun q1 q2 k H ls stc locs r1 r2 r3 r4 => ?_⟩
      have r1 : hrel D s h H := r1
      have q1 : h.sz + 1 - z0 ≤ R.cells := q1
      have q2 : h.sl + xs.length - l0 ≤ R.slots := q2
      obtain ⟨rc, rfl, t5⟩ := st_R r3
      obtain ⟨-, cell, g1, ty, g2, g3, g4, g5, g6, g7, g8⟩ := r1.2.2.2.1 _ ti xs e2 e1
      obtain ⟨ty', j1, j2⟩ := hti e1
      have hlt : ti < 200 := by rcases iof_lt j1 with ⟨z, -⟩ | ⟨z, -⟩ | ⟨z, -⟩ | ⟨z, -⟩ <;> omega
      have hmod : ti % 200 = ti := Nat.mod_eq_of_lt hlt
      rw [hmod] at g2
      cases g2.symm.trans j1
      have hfc : s.vm.findClass ad = some cell.cls := by rw [j2, (g5 hlt).2]; exact (hc.2.2.2.2.2.1.2.1 ti _ j1).2
      refine core H ls rc locs _ _ a cell ty g1 g3 g4 hfc (fun i v hv => ?_) r2.1 (Nat.le_trans (cats_le t5) (Nat.le_of_ble_eq_true f0)) (by show h.sz - z0 + 1 ≤ _; omega) (by show h.sl - l0 + _ ≤ _; omega) ?_
      · have hi : i < xs.length := by rw [← g6]; exact (Array.getElem?_eq_some_iff.mp hv).1
        obtain ⟨w, w1, w2, -⟩ := g8 i _ (List.getElem?_eq_getElem hi)
        cases hv.symm.trans w1
        exact w2
      · have hk := k (H.push { cls := cell.cls, slots := cell.slots, vm := .none }) ls (.ref H.size :: rc) locs (r1.newI (push_facts r1.1 _).1 (push_facts r1.1 _).2.1 (push_facts r1.1 _).2.2 ⟨ty, by rw [hmod]; exact j1, ⟨(fun k z => by cases z), g3.2⟩, (fun z => by cases z), (fun _ => ⟨rfl, (g5 hlt).2⟩), g6, g7, g8⟩) r2 (by simp [aV, r1.1, t5]) r4
        have hg : (h.newI ti xs).sz - z0 = h.sz - z0 + 1 := by show h.sz + 1 - z0 = _; omega
        have hg2 : (h.newI ti xs).sl - l0 = h.sl - l0 + cell.slots.size := by show h.sl + _ - l0 = _; rw [g6]; omega
        rw [hg, hg2] at hk
        exact hk
    · refine ⟨_, _, _, _, hf.symm, hw.newR, Nat.le_succ _, Nat.le_add_right _ _, fun q1 q2 k H ls stc locs r1 r2 r3 r4 => ?_⟩
      have r1 : hrel D s h H := r1
      have q1 : h.sz + 1 - z0 ≤ R.cells := q1
      have q2 : h.sl + xs.length - l0 ≤ R.slots := q2
      obtain ⟨rc, rfl, t5⟩ := st_R r3
      obtain ⟨-, cell, g1, ty, g2, g3, g4, g5, g9, g6, g7, g8⟩ := r1.2.2.2.2.1 _ u xs e2 (fun z => by rw [z] at e3; exact e1 e3.symm)
      obtain ⟨ty', j1, j2⟩ := htr e1
      have hlt : tr < 200 := by rw [← e3]; exact Nat.mod_lt _ (by decide)
      have hmod : tr % 200 = tr := Nat.mod_eq_of_lt hlt
      rw [e3] at g2 g9
      cases g2.symm.trans j1
      have hKr := hc.2.2.2.2.2.1.2.2 tr _ j1
      have hfc : s.vm.findClass ad = some cell.cls := by rw [j2, g9]; exact hKr.2.1
      refine core H ls rc locs _ _ a cell ty g1 g3 g4 hfc (fun i v hv => ?_) r2.1 (Nat.le_trans (cats_le t5) (Nat.le_of_ble_eq_true f0)) (by show h.sz - z0 + 1 ≤ _; omega) (by show h.sl - l0 + _ ≤ _; omega) ?_
      · have hi : i < xs.length := by rw [← g6]; exact (Array.getElem?_eq_some_iff.mp hv).1
        have w1 := g8 i _ (List.getElem?_eq_getElem hi)
        cases hv.symm.trans w1
        exact (okT_rf hKr.1 _).2
      · have hk := k (H.push { cls := cell.cls, slots := cell.slots, vm := .none }) ls (.ref H.size :: rc) locs (r1.newR (push_facts r1.1 _).1 (push_facts r1.1 _).2.1 (push_facts r1.1 _).2.2 ⟨ty, by rw [hmod]; exact j1, ⟨(fun k z => by cases z), g3.2⟩, (fun z => by cases z), (fun _ => rfl), by rw [hmod]; exact g9, g6, g7, g8⟩) r2 (by simp [aV, r1.1, t5]) r4
        have hg : (h.newR tr xs).sz - z0 = h.sz - z0 + 1 := by show h.sz + 1 - z0 = _; omega
        have hg2 : (h.newR tr xs).sl - l0 = h.sl - l0 + cell.slots.size := by show h.sl + _ - l0 = _; rw [g6]; omega
        rw [hg, hg2] at hk
        exact hk
  · exact hf.elim
theorem A_getc {k : Nat} (hr6 : D.rof 6 = some (.object "java/lang/Object")) (h1 : Cond.methodLink y.cls idx ⟨"java/lang/Object", "getClass", "()Ljava/lang/Class;"⟩ ∈ lw_all) (h2 : ∀ U, X U → va_Nw (.declares ⟨"java/lang/Object", "getClass", "()Ljava/lang/Class;"⟩) U) (h3 : Cond.selects "[Ljava/lang/Object;" ⟨"java/lang/Object", "getClass", "()Ljava/lang/Class;"⟩ ⟨"java/lang/Object", "getClass", "()Ljava/lang/Class;"⟩ ∈ lw_all) (h4 : Cond.instanceMethod ⟨"java/lang/Object", "getClass", "()Ljava/lang/Class;"⟩ ∈ lw_all) (h5 : Cond.native ⟨"java/lang/Object", "getClass", "()Ljava/lang/Class;"⟩ ∈ lw_all) (hZ : ∀ U, X U → ∃ a, D.S k = some a ∧ va_Mi "[Ljava/lang/Object;" a U) (hd : decode cc pc = .ok (.invokevirtual idx, 3)) : OkA l D X N y cc nL ret d pc (getc k (pc + 3)) := by
  refine aN fun p e R s m args below meth c z0 l0 Q hc hfr hlo => ?_
  refine OkN.same fun L st h o hf => ?_
  unfold getc at hf
  split at hf
  · obtain ⟨u, xs, f0, e1, e2, hf⟩ := hf
    refine ⟨_, _, _, hf.symm, fun H ls stc locs cells slots r1 r2 r3 kk => ?_⟩
    have r1 : hrel D s h H := r1
    obtain ⟨rc, rfl, t5⟩ := st_R r3
    obtain ⟨-, cell, g1, ty, g2, g3, g4, g5, g9, g6⟩ := r1.2.2.2.2.1 _ u xs e1 (by omega)
    obtain ⟨a, b1, b2⟩ := hZ s hc.2.2.2.2.2.2.1
    rw [e2] at g9
    have hcat := Nat.le_trans (cats_le t5) (Nat.le_of_ble_eq_true f0)
    exact va_getC (C := "[Ljava/lang/Object;") hc.1 hc.2.1 (by rw [hc.2.2.1]; exact r2.1.symm) hc.2.2.2.1 (hc.2.2.2.2.1 _ h1) (va_Nw.use rfl (h2 s hc.2.2.2.2.2.2.1)) (hc.2.2.2.2.1 _ h3) (hc.2.2.2.2.1 _ h4) (hc.2.2.2.2.1 _ h5) b2 ⟨cell, g1, (by cases z : cell.vm <;> first | rfl | exact absurd z (g3.1 _)), by rw [g9]; exact (hc.2.2.2.2.2.1.2.2 6 _ hr6).2.1⟩ (by omega) (by omega) hd (kk _ _ r2 (by rw [List.map_cons, t5, r1.2.2.1, b1]; rfl))
  · exact hf.elim
theorem newIs_facts (t k : Nat) : ∀ (n : Nat) (h : AH), (newIs t k n h).sz = h.sz + n ∧ (newIs t k n h).sl = h.sl + n * k ∧ (newIs t k n h).R = h.R ∧ (newIs t k n h).F = h.F ∧ (newIs t k n h).S = h.S ∧ ∀ a, (newIs t k n h).I a = if h.sz ≤ a ∧ a < h.sz + n then (t, List.replicate k (0 : Int)) else h.I a
  | 0, h => ⟨rfl, by simp [newIs], rfl, rfl, rfl, fun a => by rw [if_neg (by omega)]; rfl⟩
  | n + 1, h => by
    obtain ⟨a, b, c, d, e, f⟩ := newIs_facts t k n (h.newI t (List.replicate k (0 : Int)))
    have a : (newIs t k (n + 1) h).sz = h.sz + 1 + n := a
    have b : (newIs t k (n + 1) h).sl = h.sl + (List.replicate k (0 : Int)).length + n * k := b
    rw [List.length_replicate] at b
    refine ⟨by omega, by rw [b, Nat.succ_mul]; omega, c, d, e, fun x => ?_⟩
    have f' : (newIs t k (n + 1) h).I x = if h.sz + 1 ≤ x ∧ x < h.sz + 1 + n then (t, List.replicate k (0 : Int)) else va_up h.I h.sz (t, List.replicate k (0 : Int)) x := f x
    rw [f']
    by_cases c1 : x = h.sz
    · subst c1
      rw [if_neg (by omega), if_pos (by omega), up_self]
    · rw [up_ne _ _ c1]
      by_cases c2 : h.sz + 1 ≤ x ∧ x < h.sz + 1 + n
      · rw [if_pos c2, if_pos (by omega)]
      · rw [if_neg c2, if_neg (by omega)]
theorem newRs_facts (t k : Nat) : ∀ (n : Nat) (h : AH), (newRs t k n h).sz = h.sz + n ∧ (newRs t k n h).sl = h.sl + n * k ∧ (newRs t k n h).I = h.I ∧ (newRs t k n h).F = h.F ∧ (newRs t k n h).S = h.S ∧ ∀ a, (newRs t k n h).R a = if h.sz ≤ a ∧ a < h.sz + n then (t, List.replicate k (none : Option Nat)) else h.R a
  | 0, h => ⟨rfl, by simp [newRs], rfl, rfl, rfl, fun a => by rw [if_neg (by omega)]; rfl⟩
  | n + 1, h => by
    obtain ⟨a, b, c, d, e, f⟩ := newRs_facts t k n (h.newR t (List.replicate k (none : Option Nat)))
    have a : (newRs t k (n + 1) h).sz = h.sz + 1 + n := a
    have b : (newRs t k (n + 1) h).sl = h.sl + (List.replicate k (none : Option Nat)).length + n * k := b
    rw [List.length_replicate] at b
    refine ⟨by omega, by rw [b, Nat.succ_mul]; omega, c, d, e, fun x => ?_⟩
    have f' : (newRs t k (n + 1) h).R x = if h.sz + 1 ≤ x ∧ x < h.sz + 1 + n then (t, List.replicate k (none : Option Nat)) else va_up h.R h.sz (t, List.replicate k (none : Option Nat)) x := f x
    rw [f']
    by_cases c1 : x = h.sz
    · subst c1
      rw [if_neg (by omega), if_pos (by omega), up_self]
    · rw [up_ne _ _ c1]
      by_cases c2 : h.sz + 1 ≤ x ∧ x < h.sz + 1 + n
      · rw [if_pos c2, if_pos (by omega)]
      · rw [if_neg c2, if_neg (by omega)]
theorem outer_get (c : ClassId) (M h0 : Nat) : ∀ i, i ≤ M → ∀ j, j < M → (Jvm.Free.Multi.outerC c M h0 i).slots[j]? = some (if j < i then .ref (h0 + 1 + j) else .null)
  | 0, _, j, hj => by
    rw [if_neg (by omega)]
    show (Array.replicate M Value.null)[j]? = _
    rw [Array.getElem?_replicate, if_pos hj]
  | i + 1, hi, j, hj => by
    have hsz := (Jvm.Free.Multi.outerC_facts c M h0 i).2.2
    show ((Jvm.Free.Multi.outerC c M h0 i).setSlot i (.ref (h0 + 1 + i))).slots[j]? = _
    by_cases c1 : j = i
    · subst c1
      rw [Cell.slots_setSlot_self _ (by rw [hsz]; exact hj), if_pos (by omega)]
    · rw [slot_ne _ _ (fun z => c1 z.symm), outer_get c M h0 i (by omega) j hj]
      by_cases c2 : j < i
      · rw [if_pos c2, if_pos (by omega)]
      · rw [if_neg c2, if_neg (by omega)]
theorem multi_row {p : Program} {e : Env} {R : Room} {s : State} {m : MethodId} {args : Array Value} {below : List Frame} {meth : Method} {c : Code} {Q : State → Prop} {H : Heap} {locs : List Loc} {cells slots : Nat} {ls : Array Slot} {rest : List Value} {ty : FieldType} {n k : Int32} (h : Cx D X y cc nL ret p s m args meth c) (hl : Cond.classLink y.cls idx ("[" ++ (FieldType.array ty).toString) ∈ lw_all) (ho : (Cond.arrayOver (.array ty)).before args s = true) (hac : (Cond.arrayClass ty).before args s = true) (hd : decode cc pc = .ok (.multianewarray idx 2, 4)) (hn : 0 ≤ n.toInt) (hn2 : n.toInt ≤ 1000) (hk : 0 ≤ k.toInt) (hk2 : k.toInt ≤ 1000) (hb2 : componentBytes ty ≤ 8) (hdf : fits ty (defaultValue ty) = true) (hdd : (defaultValue ty).isDefault = true) (hcells : cells + (1 + n.toNatClampNeg) ≤ R.cells) (hslots : slots + (n.toNatClampNeg + n.toNatClampNeg * k.toNatClampNeg) ≤ R.slots)
    (kk : ∀ (cA comp : ClassId) (H' : Heap), s.vm.findClass ("[" ++ (FieldType.array ty).toString) = some cA → s.vm.findClass (FieldType.array ty).toString = some comp → s.isArrayOf (Jvm.Free.Multi.outerC cA n.toNatClampNeg H.size n.toNatClampNeg) (.array ty) → (∀ M dv, s.isArrayOf (Jvm.Free.Multi.innerC comp M dv) ty) → H'.size = H.size + 1 + n.toNatClampNeg → H'[H.size]? = some (Jvm.Free.Multi.outerC cA n.toNatClampNeg H.size n.toNatClampNeg) → (∀ a, a < H.size → H'[a]? = H[a]?) → (∀ j, j < n.toNatClampNeg → H'[H.size + 1 + j]? = some (Jvm.Free.Multi.innerC comp k.toNatClampNeg (defaultValue ty))) → W p l e R s m args below meth c H' locs (cells + 1 + n.toNatClampNeg) (slots + n.toNatClampNeg + n.toNatClampNeg * k.toNatClampNeg) Q (F0 m (pc + 4) ls (.ref H.size :: rest))) : W p l e R s m args below meth c H locs cells slots Q (F0 m pc ls (.int k :: .int n :: rest)) := by
  have e1 : n.toNatClampNeg = n.toInt.toNat := rfl
  have e2 : k.toNatClampNeg = k.toInt.toNat := rfl
  intro T hT Y
  obtain ⟨vm₁, cA, comp, hW, hfA, hfC, hO, hI, Y1, st⟩ := Y.multianewarray2F h.1 h.2.2.2.1 (h.2.2.2.2.1 _ hl) ho hac (g := F0 m pc ls (.int k :: .int n :: rest)) rfl (by rw [h.2.1]; exact hd) rfl (not_neg hn) (not_neg hk) (by omega) (Nat.le_trans (Nat.mul_le_mul_left _ hb2) (by omega)) (by omega) hdf hdd hcells hslots
  subst hT
  obtain ⟨f1, f2, f3, f4⟩ := Jvm.Free.Multi.fill_facts (T.setVm vm₁) cA comp n.toNatClampNeg k.toNatClampNeg (defaultValue ty) n.toNatClampNeg
  obtain ⟨t, a1, b1⟩ := kk cA comp _ hfA hfC (hO _ _ _).1 (fun M dv => (hI M dv).1) f1 f2 (fun a ha => Jvm.Free.Multi.fill_old (T.setVm vm₁) cA comp _ _ _ ha _) (fun j hj => Jvm.Free.Multi.fill_inner (T.setVm vm₁) cA comp _ _ _ _ j hj) _ rfl Y1
  exact ⟨t, st t a1, b1⟩
theorem A_mulI {t u : Nat} {ty : FieldType} (ht : t < 200) (ht0 : t ≠ 0) (hu : iof u = some ty) (htr : D.rof t = some (.array ty)) (hstr : (FieldType.array ty).toString = "[" ++ ty.toString) (hl : Cond.classLink y.cls idx ("[" ++ (FieldType.array ty).toString) ∈ lw_all) (ho : ∀ U, X U → ∀ A, (Cond.arrayOver (.array ty)).before A U = true) (hac : Cond.arrayClass ty ∈ lw_all) (hd : decode cc pc = .ok (.multianewarray idx 2, 4)) : OkA l D X N y cc nL ret d pc (mulI t u (pc + 4)) := by
  refine aN fun p e R s m args below meth c z0 l0 Q hc hfr hlo => ?_
  intro L st h o hw hz hll hf
  unfold mulI at hf
  split at hf
  · rename_i kk nn r
    obtain ⟨f1, f2, f3, f4, hf⟩ := hf
    have hw1 := hw.newR (t := t) (xs := (List.range nn.toNat).map fun i => some (h.sz + 1 + i))
    have hwf := WF.newIs (t := u) (k := kk.toNat) nn.toNat hw1
    obtain ⟨n1, n2, n3, n4, n5, n6⟩ := newIs_facts u kk.toNat nn.toNat (h.newR t ((List.range nn.toNat).map fun i => some (h.sz + 1 + i)))
    have hsz1 : (h.newR t ((List.range nn.toNat).map fun i => some (h.sz + 1 + i))).sz = h.sz + 1 := rfl
    have hsl1 : (h.newR t ((List.range nn.toNat).map fun i => some (h.sz + 1 + i))).sl = h.sl + nn.toNat := by show h.sl + _ = _; rw [List.length_map, List.length_range]
    rw [hsz1] at n1 n6
    rw [hsl1] at n2
    refine ⟨_, _, _, _, hf.symm, hwf.1, by omega, by omega, fun q1 q2 k H ls stc locs r1 r2 r3 r4 => ?_⟩
    have r1 : hrel D s h H := r1
    obtain ⟨ki, rc, rfl, rfl, t1⟩ := st_I r3
    obtain ⟨ni, rc, rfl, rfl, t2⟩ := st_I t1
    have ek : ki.toNatClampNeg = ki.toInt.toNat := rfl
    have en : ni.toNatClampNeg = ni.toInt.toNat := rfl
    have hty := iof_lt hu
    have hult : u < 200 := by rcases hty with ⟨z, -⟩ | ⟨z, -⟩ | ⟨z, -⟩ | ⟨z, -⟩ <;> omega
    have hcb : componentBytes ty ≤ 8 := by rcases hty with ⟨-, rfl⟩ | ⟨-, rfl⟩ | ⟨-, rfl⟩ | ⟨-, rfl⟩ <;> decide
    have hdf : fits ty (defaultValue ty) = true := by rcases hty with ⟨-, rfl⟩ | ⟨-, rfl⟩ | ⟨-, rfl⟩ | ⟨-, rfl⟩ <;> rfl
    have hdd : (defaultValue ty).isDefault = true := by rcases hty with ⟨-, rfl⟩ | ⟨-, rfl⟩ | ⟨-, rfl⟩ | ⟨-, rfl⟩ <;> rfl
    have hdv : aV (defaultValue ty) = eV u 0 := by rcases hty with ⟨rfl, rfl⟩ | ⟨rfl, rfl⟩ | ⟨rfl, rfl⟩ | ⟨rfl, rfl⟩ <;> rfl
    refine multi_row hc hl (ho s hc.2.2.2.2.2.2.1 _) (hc.2.2.2.2.1 _ hac) hd f1 f2 f3 f4 hcb hdf hdd (by show h.sz - z0 + _ ≤ _; rw [en]; omega) (by show h.sl - l0 + _ ≤ _; rw [en, ek]; omega) fun cA comp H' g1 g2 g3 g4 g5 g6 g7 g8 => ?_
    obtain ⟨-, k2, -⟩ := hc.2.2.2.2.2.1.2.2 t _ htr
    cases g1.symm.trans k2
    rw [hstr] at g2
    cases g2.symm.trans (hc.2.2.2.2.2.1.2.1 u _ hu).2
    have hH := r1.1
    have kl := r1.lt
    have hrl : hrel D s (newIs u ki.toInt.toNat ni.toInt.toNat (h.newR t ((List.range ni.toInt.toNat).map fun i => some (h.sz + 1 + i)))) H' := by
      obtain ⟨k1, k2, k3, k4, k5, k6⟩ := r1
      have kb : D.b ≤ h.sz := k2.1
      refine ⟨by rw [g5, n1, hH, en], ⟨by rw [n1]; omega, fun x hx => (g7 x (by omega)).trans (k2.2 x hx)⟩, n5.trans k3, fun b v xs hb hv => ?_, fun b v xs hb hv => ?_, fun b v xs hb hv => ?_⟩
      · rw [n6 b] at hb
        by_cases c1 : h.sz + 1 ≤ b ∧ b < h.sz + 1 + ni.toInt.toNat
        · rw [if_pos c1] at hb
          cases hb
          have hcell := g8 (b - (h.sz + 1)) (by omega)
          rw [hH, show h.sz + 1 + (b - (h.sz + 1)) = b by omega] at hcell
          refine ⟨fun _ => by omega, _, hcell, ty, by rw [Nat.mod_eq_of_lt hult]; exact hu, g4 _ _, (fun z => by cases z), (fun _ => ⟨rfl, rfl⟩), ?_, by rw [List.length_replicate]; omega, fun j z hj => ?_⟩
          · show (Array.replicate _ _).size = _
            rw [Array.size_replicate, List.length_replicate, ek]
          · obtain ⟨j1, rfl⟩ := rep_get hj
            refine ⟨defaultValue ty, ?_, hdf, by rw [Nat.mod_eq_of_lt hult]; exact hdv⟩
            show (Array.replicate ki.toNatClampNeg _)[j]? = _
            rw [Array.getElem?_replicate, if_pos (show j < ki.toNatClampNeg from j1)]
        · rw [if_neg c1] at hb
          have hb : h.I b = (v, xs) := hb
          rw [g7 b (by have := kl.1 b v xs hb hv; omega)]
          exact k4 b v xs hb hv
      · rw [n3] at hb
        have hb : va_up h.R h.sz (t, (List.range ni.toInt.toNat).map fun i => some (h.sz + 1 + i)) b = (v, xs) := hb
        by_cases c1 : b = h.sz
        · subst c1
          rw [up_self] at hb
          cases hb
          rw [hH] at g6 g3
          obtain ⟨o1, o2, o3⟩ := Jvm.Free.Multi.outerC_facts (D.B t) ni.toNatClampNeg h.sz ni.toNatClampNeg
          refine ⟨fun _ => k2.1, _, g6, .array ty, by rw [Nat.mod_eq_of_lt ht]; exact htr, g3, (fun z => by rw [o2] at z; cases z), (fun _ => o2), by rw [o1, Nat.mod_eq_of_lt ht], by rw [o3, List.length_map, List.length_range, en], by rw [List.length_map, List.length_range]; omega, fun j z hj => ?_⟩
          have hjl : j < ni.toInt.toNat := by have := (List.getElem?_eq_some_iff.mp hj).1; rwa [List.length_map, List.length_range] at this
          rw [List.getElem?_map, List.getElem?_range hjl] at hj
          cases hj
          rw [outer_get _ _ _ _ (Nat.le_refl _) j (show j < ni.toNatClampNeg from hjl), if_pos (show j < ni.toNatClampNeg from hjl)]
          rfl
        · rw [up_ne _ _ c1] at hb
          rw [g7 b (by have := kl.2.1 b v xs hb hv; omega)]
          exact k5 b v xs hb hv
      · rw [n4] at hb
        have hb : h.F b = (v, xs) := hb
        rw [g7 b (by have := kl.2.2 b v xs hb hv; omega)]
        exact k6 b v xs hb hv
    have hk := k H' ls (.ref H.size :: rc) locs hrl r2 (by simp [aV, hH, t2]) r4
    have hg : (newIs u ki.toInt.toNat ni.toInt.toNat (h.newR t ((List.range ni.toInt.toNat).map fun i => some (h.sz + 1 + i)))).sz - z0 = h.sz - z0 + 1 + ni.toNatClampNeg := by rw [n1, en]; omega
    have hg2 : (newIs u ki.toInt.toNat ni.toInt.toNat (h.newR t ((List.range ni.toInt.toNat).map fun i => some (h.sz + 1 + i)))).sl - l0 = h.sl - l0 + ni.toNatClampNeg + ni.toNatClampNeg * ki.toNatClampNeg := by rw [n2, en, ek]; omega
    rw [hg, hg2] at hk
    exact hk
  · exact hf.elim
theorem A_mulR {t u : Nat} {ty : FieldType} (ht : t < 200) (ht0 : t ≠ 0) (hu : D.rof u = some ty) (hu2 : u < 200) (hut : u ≠ t) (htr : D.rof t = some (.array ty)) (hstr : (FieldType.array ty).toString = "[" ++ ty.toString) (hl : Cond.classLink y.cls idx ("[" ++ (FieldType.array ty).toString) ∈ lw_all) (ho : ∀ U, X U → ∀ A, (Cond.arrayOver (.array ty)).before A U = true) (hac : ∀ U, KB D U → ∀ A, (Cond.arrayClass ty).before A U = true) (hd : decode cc pc = .ok (.multianewarray idx 2, 4)) : OkA l D X N y cc nL ret d pc (mulR t u (pc + 4)) := by
  refine aN fun p e R s m args below meth c z0 l0 Q hc hfr hlo => ?_
  intro L st h o hw hz hll hf
  unfold mulR at hf
  split at hf
  · rename_i kk nn r
    obtain ⟨f1, f2, f3, f4, hf⟩ := hf
    have hw1 := hw.newR (t := t) (xs := (List.range nn.toNat).map fun i => some (h.sz + 1 + i))
    have hwf := WF.newRs (t := u) (k := kk.toNat) nn.toNat hw1
    obtain ⟨n1, n2, n3, n4, n5, n6⟩ := newRs_facts u kk.toNat nn.toNat (h.newR t ((List.range nn.toNat).map fun i => some (h.sz + 1 + i)))
    have hsz1 : (h.newR t ((List.range nn.toNat).map fun i => some (h.sz + 1 + i))).sz = h.sz + 1 := rfl
    have hsl1 : (h.newR t ((List.range nn.toNat).map fun i => some (h.sz + 1 + i))).sl = h.sl + nn.toNat := by show h.sl + _ = _; rw [List.length_map, List.length_range]
    rw [hsz1] at n1 n6
    rw [hsl1] at n2
    refine ⟨_, _, _, _, hf.symm, hwf.1, by omega, by omega, fun q1 q2 k H ls stc locs r1 r2 r3 r4 => ?_⟩
    have r1 : hrel D s h H := r1
    obtain ⟨ki, rc, rfl, rfl, t1⟩ := st_I r3
    obtain ⟨ni, rc, rfl, rfl, t2⟩ := st_I t1
    have ek : ki.toNatClampNeg = ki.toInt.toNat := rfl
    have en : ni.toNatClampNeg = ni.toInt.toNat := rfl
    have hult : u < 200 := hu2
    have hre := (hc.2.2.2.2.2.1.2.2 u _ hu).1
    have hcb : componentBytes ty ≤ 8 := by cases ty <;> first | exact Nat.le_of_ble_eq_true rfl | (cases hre)
    have hdf : fits ty (defaultValue ty) = true := by cases ty <;> first | rfl | (cases hre)
    have hdd : (defaultValue ty).isDefault = true := by cases ty <;> first | rfl | (cases hre)
    have hdv : defaultValue ty = .null := by cases ty <;> first | rfl | (cases hre)
    refine multi_row hc hl (ho s hc.2.2.2.2.2.2.1 _) (hac s hc.2.2.2.2.2.1 _) hd f1 f2 f3 f4 hcb hdf hdd (by show h.sz - z0 + _ ≤ _; rw [en]; omega) (by show h.sl - l0 + _ ≤ _; rw [en, ek]; omega) fun cA comp H' g1 g2 g3 g4 g5 g6 g7 g8 => ?_
    obtain ⟨-, k2, -⟩ := hc.2.2.2.2.2.1.2.2 t _ htr
    cases g1.symm.trans k2
    rw [hstr] at g2
    cases g2.symm.trans (hc.2.2.2.2.2.1.2.2 u _ hu).2.1
    have hH := r1.1
    have kl := r1.lt
    have hrl : hrel D s (newRs u ki.toInt.toNat ni.toInt.toNat (h.newR t ((List.range ni.toInt.toNat).map fun i => some (h.sz + 1 + i)))) H' := by
      obtain ⟨k1, k2, k3, k4, k5, k6⟩ := r1
      have kb : D.b ≤ h.sz := k2.1
      refine ⟨by rw [g5, n1, hH, en], ⟨by rw [n1]; omega, fun x hx => (g7 x (by omega)).trans (k2.2 x hx)⟩, n5.trans k3, fun b v xs hb hv => ?_, fun b v xs hb hv => ?_, fun b v xs hb hv => ?_⟩
      · have hb : h.I b = (v, xs) := by rw [n3] at hb; exact hb
        rw [g7 b (by have := kl.1 b v xs hb hv; omega)]
        exact k4 b v xs hb hv
      · rw [n6 b] at hb
        by_cases c1 : h.sz + 1 ≤ b ∧ b < h.sz + 1 + ni.toInt.toNat
        · rw [if_pos c1] at hb
          cases hb
          have hcell := g8 (b - (h.sz + 1)) (by omega)
          rw [hH, show h.sz + 1 + (b - (h.sz + 1)) = b by omega] at hcell
          refine ⟨fun _ => by omega, _, hcell, ty, by rw [Nat.mod_eq_of_lt hult]; exact hu, g4 _ _, (fun z => by cases z), (fun _ => rfl), by rw [Nat.mod_eq_of_lt hult]; rfl, ?_, by rw [List.length_replicate]; omega, fun j z hj => ?_⟩
          · show (Array.replicate _ _).size = _
            rw [Array.size_replicate, List.length_replicate, ek]
          · obtain ⟨j1, rfl⟩ := rep_get hj
            show (Array.replicate ki.toNatClampNeg _)[j]? = _
            rw [Array.getElem?_replicate, if_pos (show j < ki.toNatClampNeg from j1), hdv]
            rfl
        · rw [if_neg c1] at hb
          have hb : va_up h.R h.sz (t, (List.range ni.toInt.toNat).map fun i => some (h.sz + 1 + i)) b = (v, xs) := hb
          by_cases c1 : b = h.sz
          · subst c1
            rw [up_self] at hb
            cases hb
            rw [hH] at g6 g3
            obtain ⟨o1, o2, o3⟩ := Jvm.Free.Multi.outerC_facts (D.B t) ni.toNatClampNeg h.sz ni.toNatClampNeg
            refine ⟨fun _ => k2.1, _, g6, .array ty, by rw [Nat.mod_eq_of_lt ht]; exact htr, g3, (fun z => by rw [o2] at z; cases z), (fun _ => o2), by rw [o1, Nat.mod_eq_of_lt ht], by rw [o3, List.length_map, List.length_range, en], by rw [List.length_map, List.length_range]; omega, fun j z hj => ?_⟩
            have hjl : j < ni.toInt.toNat := by have := (List.getElem?_eq_some_iff.mp hj).1; rwa [List.length_map, List.length_range] at this
            rw [List.getElem?_map, List.getElem?_range hjl] at hj
            cases hj
            rw [outer_get _ _ _ _ (Nat.le_refl _) j (show j < ni.toNatClampNeg from hjl), if_pos (show j < ni.toNatClampNeg from hjl)]
            rfl
          · rw [up_ne _ _ c1] at hb
            rw [g7 b (by have := kl.2.1 b v xs hb hv; omega)]
            exact k5 b v xs hb hv
      · rw [n4] at hb
        have hb : h.F b = (v, xs) := hb
        rw [g7 b (by have := kl.2.2 b v xs hb hv; omega)]
        exact k6 b v xs hb hv
    have hk := k H' ls (.ref H.size :: rc) locs hrl r2 (by simp [aV, hH, t2]) r4
    have hg : (newRs u ki.toInt.toNat ni.toInt.toNat (h.newR t ((List.range ni.toInt.toNat).map fun i => some (h.sz + 1 + i)))).sz - z0 = h.sz - z0 + 1 + ni.toNatClampNeg := by rw [n1, en]; omega
    have hg2 : (newRs u ki.toInt.toNat ni.toInt.toNat (h.newR t ((List.range ni.toInt.toNat).map fun i => some (h.sz + 1 + i)))).sl - l0 = h.sl - l0 + ni.toNatClampNeg + ni.toNatClampNeg * ki.toNatClampNeg := by rw [n2, en, ek]; omega
    rw [hg, hg2] at hk
    exact hk
  · exact hf.elim
end NAT
section DEF
variable {l : Launch} {D : GD} {X : State → Prop} {N : MI} {y y' : MethodName} {cc b' : ByteArray} {nL L' : Nat} {ret r' : Option FieldType} {d pc idx z n : Nat}
/-! a default method of an interface -/
def va_Fd (C : String) (x y : MethodName) (U : State) : Prop := (Cond.declares x).before #[] U = true ∧ (Cond.interfaceMethod x.cls x.cls x.name x.desc).before #[] U = true ∧ (Cond.publicMethod y).before #[] U = true ∧ (Cond.landsInDefault C x y).before #[] U = true ∧ (Cond.castable C x.cls).before #[] U = true
theorem lid_any {C : String} {x y : MethodName} {U : State} {A B : Array Value} (h : (Cond.landsInDefault C x y).before A U = true) : (Cond.landsInDefault C x y).before B U = true := by
  simpa only [Cond.before, Cond.holds, Cond.value] using h
theorem fr_D {t Nn cnt : Nat} {C : String} {T : u_T} {x' : MethodName} (hc : D.cof t = some (C, T, Nn)) (hN : N z = (y', b', L', r')) (hL : L' ≤ 81) (hN0 : Nn ≠ 0) (h1 : Cond.methodLink y.cls idx x' ∈ lw_all) (h3 : Cond.instanceMethod y' ∈ lw_all) (h4 : Cond.initialized y'.cls ∈ lw_all) (h5 : Cond.code y' b' L' r' ∈ lw_all) (hF : ∀ U, X U → va_Fd C x' y' U) (hd0 : x'.cls ≠ "java/lang/invoke/MethodHandle" ∧ x'.cls ≠ "java/lang/invoke/VarHandle" ∧ (parseMethodDescriptor x'.desc).map (fun d => d.parameters.length) = some n) (hd : decode cc pc = .ok (.invokeinterface idx cnt, 5)) : FRow l D X N y cc nL ret d pc n t z := by
  intro p e R s m args below meth c h hf hl H locs cells slots mc ms ls As rest b Pc Qc free hM hbl hpre hrc hn hsz hW hroom
  rw [hN] at hM
  have hts := h.2.2.2.2.1
  have hat := (h.2.2.2.2.2.1.kn hc hN0).2
  have hFs := hF s h.2.2.2.2.2.2.1
  have hp := rv_of h.2.2.2.2.2.1 hc hrc
  have hG : GoodIn lw_all (ws_ y' b' L' r') := lw_meth h5
  have hcm : Cond.code y' b' L' r' ∈ ws_ y' b' L' r' := List.mem_cons_self
  have hr := rm_ok (mc := mc) (ms := ms) hf hl hL
  have hini := hts _ h4
  have hK : Back l R p e below s args y' 5 8 (PreOf R mc ms Pc) (PostOf Qc mc ms free) := back_of (bytes := b') (maxL := L') (ret := r') (MetB.met hM) hbl rfl rfl hr.1 hr.2 (pay_in hts hG) hcm (fun a' U hW => word_at hW (Or.inl (by first | rfl | simp [Cond.onTables, Cond.keeps, Cond.steady])) hini)
  obtain ⟨cellB, hcB, hoB, hclB⟩ := hp
  obtain ⟨hfc, kB, hkB, -⟩ := hat
  have hkB : s.vm.classes[cellB.cls]? = some kB := by rw [Option.some.inj (hclB.symm.trans hfc)]; exact hkB
  intro T hT X0
  have hlen : ∀ sig, parseMethodDescriptor x'.desc = some sig → As.length = sig.parameters.length := by
    intro sig hs
    have h2 := hd0.2.2
    rw [hs] at h2
    exact hn.trans (Option.some.inj h2).symm
  obtain ⟨v, vm₁, ⟨U', l2, c2, s2⟩, hW₁, X', ⟨g', mk, t, L, e1, e2, hq, h1, hL, h2, h3⟩, st⟩ := X0.interfaceBackD h.1 (C := C) h.2.2.2.1 (hts _ h1) (va_any rfl hFs.1) (va_any rfl hFs.2.1) (lid_any hFs.2.2.2.1) (hts _ h3) (va_any rfl hFs.2.2.1) (va_any rfl hFs.2.2.2.2) ⟨hd0.1, hd0.2.1⟩ hK hclB hkB ⟨cellB, by rw [hT]; exact hcB, rfl, hoB⟩ rfl (hsz.trans h.2.2.1.symm) (Steps.refl _) (argsL := As) (rest := rest) hlen rfl hW (by rw [h.2.1]; exact hd)
    (fun vm₁ hW₁ => ⟨hroom.1, hroom.2, hpre (T.setVm vm₁) hT hW₁⟩)
  dsimp only [Pt.U, Pt.locs, Pt.cells, Pt.slots] at X' e1 e2 h1 h2 h3 st
  subst h1; subst h2; subst h3
  exact ⟨v, (T.setVm vm₁).calling g' mk (Value.ref b :: As).toArray, t, U', L, hT, X', hL, e1, e2, hq, fun target h => st.trans h⟩
/-- a method of a body class: nothing is asked of its class's initialisation -/
theorem vr_B {t Nn : Nat} {C owner : String} {T : u_T} {x' : MethodName} (hc : D.cof t = some (C, T, Nn)) (hN : N z = (y', b', L', r')) (hL : L' ≤ 81) (h1 : Cond.methodLink y.cls idx x' ∈ lw_all) (h2 : Cond.sameMethod x'.cls owner x'.name x'.desc ∈ lw_all) (h3 : Cond.selects C x' y' ∈ lw_all) (h4 : Cond.instanceMethod y' ∈ lw_all) (h6 : Cond.code y' b' L' r' ∈ lw_all) (hz : ∀ U, X U → va_Nw (.declares ⟨owner, x'.name, x'.desc⟩) U) (hd0 : owner ≠ "java/lang/invoke/MethodHandle" ∧ owner ≠ "java/lang/invoke/VarHandle" ∧ (parseMethodDescriptor x'.desc).map (fun d => d.parameters.length) = some n) (hd : decode cc pc = .ok (.invokevirtual idx, 3)) : VRow l D X N y cc nL ret d pc n t z := by
  intro p e R s m args below meth c h hf hl H locs cells slots mc ms ls As rest b Pc Qc free hM hbl hpre hrc hn hsz hW hroom
  rw [hN] at hM
  have hts := h.2.2.2.2.1
  have hp := rv_of h.2.2.2.2.2.1 hc hrc
  have hG : GoodIn lw_all lw_all := fun w hw => lw_meth h6 w (List.mem_cons_of_mem _ hw)
  have hcm : Cond.code y' b' L' r' ∈ lw_all := h6
  have hr := rm_ok (mc := mc) (ms := ms) hf hl hL
  have hK : Back l R p e below s args y' 3 8 (PreOf R mc ms Pc) (PostOf Qc mc ms free) := backB (bytes := b') (maxL := L') (ret := r') hM hbl rfl rfl hr.1 hr.2 (pay_in hts hG) hcm
  obtain ⟨cellB, hcB, hoB, hclB⟩ := hp
  have hdecl : va_Decl s ⟨owner, x'.name, x'.desc⟩ := Cond.declares_spec (hz s h.2.2.2.2.2.2.1)
  intro T hT X0
  have hlen : ∀ sig, parseMethodDescriptor x'.desc = some sig → As.length = sig.parameters.length := by
    intro sig hs
    have h2 := hd0.2.2
    rw [hs] at h2
    exact hn.trans (Option.some.inj h2).symm
  obtain ⟨v, vm₁, ⟨U', l2, c2, s2⟩, hW₁, X', ⟨g', mk, t, L, e1, e2, hq, h1, hL, h2, h3⟩, st⟩ := va_callVU X0 h.1 (C := C) (owner := owner) (bytes := b') (maxL := L') (ret := r') h.2.2.2.1 (hts _ h1) (hts _ h2) hdecl ⟨hd0.1, hd0.2.1⟩ (hts _ h3) (hts _ h4) (hts _ h6) hK (by rw [hT]; exact hcB) hoB hclB rfl (hsz.trans h.2.2.1.symm) (argsL := As) (rest := rest) hlen rfl hW (by rw [h.2.1]; exact hd)
    (fun vm₁ hW₁ => ⟨hroom.1, hroom.2, hpre (T.setVm vm₁) hT hW₁⟩)
  dsimp only [Pt.U, Pt.locs, Pt.cells, Pt.slots] at X' e1 e2 h1 h2 h3 st
  subst h1; subst h2; subst h3
  exact ⟨v, (T.setVm vm₁).calling g' mk (Value.ref b :: As).toArray, t, U', L, hT, X', hL, e1, e2, hq, st⟩
/-! calls that may throw -/
def VRowT (l : Launch) (D : GD) (X : State → Prop) (N : MI) (y : MethodName) (cc : ByteArray) (nL : Nat) (ret : Option FieldType) (d pc n t z : Nat) : Prop := ∀ (p : Program) (e : Env) (R : Room) (s : State) (m : MethodId) (args : Array Value) (below : List Frame) (meth : Method) (c : Code), Cx D X y cc nL ret p s m args meth c → d + 2 ≤ R.frames → 100 * (d + 2) ≤ R.locals → RunVT p l e R s m args below meth c D N nL d pc n t z
theorem vt_of {t Nn : Nat} {C owner : String} {T : u_T} {x' : MethodName} (hc : D.cof t = some (C, T, Nn)) (hN : N z = (y', b', L', r')) (hL : L' ≤ 81) (h6 : Cond.code y' b' L' r' ∈ lw_all)
    (hw : ∀ (s : State) (args : Array Value), (∀ w ∈ lw_all, w.before args s = true) → X s → (Cond.methodLink y.cls idx x').before args s = true ∧ (Cond.sameMethod x'.cls owner x'.name x'.desc).before args s = true ∧ va_Decl s ⟨owner, x'.name, x'.desc⟩ ∧ (Cond.selects C x' y').before args s = true ∧ (Cond.instanceMethod y').before args s = true)
    (hd0 : owner ≠ "java/lang/invoke/MethodHandle" ∧ owner ≠ "java/lang/invoke/VarHandle" ∧ (parseMethodDescriptor x'.desc).map (fun d => d.parameters.length) = some n) (hd : decode cc pc = .ok (.invokevirtual idx, 3)) : VRowT l D X N y cc nL ret d pc n t z := by
  intro p e R s m args below meth c h hf hl H locs cells slots mc ms ls As rest b Pc q Ht free hM hbl hpre hrc hn hsz hW hroom
  rw [hN] at hM
  have hts := h.2.2.2.2.1
  have hp := rv_of h.2.2.2.2.2.1 hc hrc
  have hG : GoodIn lw_all lw_all := fun w hw => lw_meth h6 w (List.mem_cons_of_mem _ hw)
  have hr := rm_ok (mc := mc) (ms := ms) hf hl hL
  have hK : BackT l R p e below s args y' 3 8 (PreOf R mc ms Pc) (PostT q Ht mc ms free) := backT (bytes := b') (maxL := L') (ret := r') hM hbl rfl rfl hr.1 hr.2 (pay_in hts hG) h6
  obtain ⟨w1, w2, w3, w4, w5⟩ := hw s args hts h.2.2.2.2.2.2.1
  obtain ⟨cellB, hcB, hoB, hclB⟩ := hp
  intro T hT X0
  have hlen : ∀ sig, parseMethodDescriptor x'.desc = some sig → As.length = sig.parameters.length := by
    intro sig hs
    have h2 := hd0.2.2
    rw [hs] at h2
    exact hn.trans (Option.some.inj h2).symm
  obtain ⟨v, vm₁, ⟨U', l2, c2, s2⟩, hW₁, X', ⟨rfl, t, L, e1, e2, hq, h1, hL, h2, h3⟩, st⟩ := callVUT X0 h.1 (C := C) (owner := owner) h.2.2.2.1 w1 w2 w3 ⟨hd0.1, hd0.2.1⟩ w4 w5 hK (by rw [hT]; exact hcB) hoB hclB rfl (hsz.trans h.2.2.1.symm) (argsL := As) (rest := rest) hlen rfl hW (by rw [h.2.1]; exact hd)
    (fun vm₁ hW₁ => ⟨hroom.1, hroom.2, hpre (T.setVm vm₁) hT hW₁⟩)
  dsimp only [Pt.U, Pt.locs, Pt.cells, Pt.slots] at X' e1 e2 h1 h2 h3 st
  subst h1; subst h2; subst h3
  exact ⟨t, U', L, X', hL, e1, e2, hq, st⟩
/-- of a method that is where its reference says -/
theorem vr_TU {t Nn : Nat} {C owner : String} {T : u_T} {x' : MethodName} (hc : D.cof t = some (C, T, Nn)) (hN : N z = (y', b', L', r')) (hL : L' ≤ 81) (h1 : Cond.methodLink y.cls idx x' ∈ lw_all) (h2 : Cond.sameMethod x'.cls owner x'.name x'.desc ∈ lw_all) (h3 : Cond.selects C x' y' ∈ lw_all) (h4 : Cond.instanceMethod y' ∈ lw_all) (h5 : Cond.initialized y'.cls ∈ lw_all) (h6 : Cond.code y' b' L' r' ∈ lw_all) (hyx : y' = ⟨owner, x'.name, x'.desc⟩) (hd0 : owner ≠ "java/lang/invoke/MethodHandle" ∧ owner ≠ "java/lang/invoke/VarHandle" ∧ (parseMethodDescriptor x'.desc).map (fun d => d.parameters.length) = some n) (hd : decode cc pc = .ok (.invokevirtual idx, 3)) : VRow l D X N y cc nL ret d pc n t z ∧ VRowT l D X N y cc nL ret d pc n t z :=
  ⟨vr_U hc hN hL h1 h2 h3 h4 h5 h6 hyx hd0 hd, vt_of hc hN hL h6 (fun s args hts _ => ⟨hts _ h1, hts _ h2, by rw [← hyx]; exact va_Decl.of (hts _ h4) (hts _ h6), hts _ h3, hts _ h4⟩) hd0 hd⟩
/-- of an abstract method's body -/
theorem vr_TA {t Nn : Nat} {C owner : String} {T : u_T} {x' : MethodName} (hc : D.cof t = some (C, T, Nn)) (hN : N z = (y', b', L', r')) (hL : L' ≤ 81) (h1 : Cond.methodLink y.cls idx x' ∈ lw_all) (h2 : Cond.sameMethod x'.cls owner x'.name x'.desc ∈ lw_all) (h3 : Cond.selects C x' y' ∈ lw_all) (h4 : Cond.instanceMethod y' ∈ lw_all) (h5 : Cond.initialized y'.cls ∈ lw_all) (h6 : Cond.code y' b' L' r' ∈ lw_all) (hz : ∀ U, X U → va_Nw (.declares ⟨owner, x'.name, x'.desc⟩) U) (hd0 : owner ≠ "java/lang/invoke/MethodHandle" ∧ owner ≠ "java/lang/invoke/VarHandle" ∧ (parseMethodDescriptor x'.desc).map (fun d => d.parameters.length) = some n) (hd : decode cc pc = .ok (.invokevirtual idx, 3)) : VRow l D X N y cc nL ret d pc n t z ∧ VRowT l D X N y cc nL ret d pc n t z :=
  ⟨vr_A hc hN hL h1 h2 h3 h4 h5 h6 hz hd0 hd, vt_of hc hN hL h6 (fun s args hts hXs => ⟨hts _ h1, hts _ h2, Cond.declares_spec (hz s hXs), hts _ h3, hts _ h4⟩) hd0 hd⟩
/-- of a private method -/
theorem vr_TP {t Nn : Nat} {C : String} {T : u_T} {x8 y8 : MethodName} (hc : D.cof t = some (C, T, Nn)) (hN : N z = (y', b', L', r')) (hL : L' ≤ 81) (h1 : Cond.methodLink y.cls idx y' ∈ lw_all) (h2 : Cond.sameMethod y'.cls y'.cls y'.name y'.desc ∈ lw_all) (h3 : ∀ U, X U → va_Nw (.privateMethod y') U) (h7 : Cond.instantiable C Nn ∈ lw_all) (h8 : Cond.selects C x8 y8 ∈ lw_all) (h9 : y8.cls = y'.cls) (h4 : Cond.instanceMethod y' ∈ lw_all) (h5 : Cond.initialized y'.cls ∈ lw_all) (h6 : Cond.code y' b' L' r' ∈ lw_all) (hd0 : y'.cls ≠ "java/lang/invoke/MethodHandle" ∧ y'.cls ≠ "java/lang/invoke/VarHandle" ∧ (parseMethodDescriptor y'.desc).map (fun d => d.parameters.length) = some n) (hd : decode cc pc = .ok (.invokevirtual idx, 3)) : VRow l D X N y cc nL ret d pc n t z ∧ VRowT l D X N y cc nL ret d pc n t z := by
  refine ⟨vr_P hc hN hL h1 h2 h3 h7 h8 h9 h4 h5 h6 hd0 hd, vt_of (owner := y'.cls) (x' := y') hc hN hL h6 (fun s args hts hXs => ⟨hts _ h1, hts _ h2, va_Decl.of (hts _ h4) (hts _ h6), ?_, hts _ h4⟩) hd0 hd⟩
  have hni : ∀ c k, s.vm.findClass y'.cls = some c → s.vm.classes[c]? = some k → k.isInterface = false := by
    intro c k hcc hkk
    obtain ⟨_, _, m8, _, _, e3, _, mk, e5, e6⟩ := Cond.selects_spec (hts _ h8)
    have e7 := findClass_of_methodNamed e3
    rw [h9] at e7
    cases e7.symm.trans hcc
    cases e5.symm.trans hkk
    exact e6
  exact sel_priv (C := C) ⟨hd0.1, hd0.2.1⟩ (hts _ h7) (va_Nw.use (A := args) rfl (h3 s hXs)) (hts _ h4) hni
theorem vr_TV {t Nn : Nat} {C : String} {T : u_T} (hc : D.cof t = some (C, T, Nn)) (hN : N z = (y', b', L', r')) (hL : L' ≤ 81) (h1 : Cond.methodLink y.cls idx y' ∈ lw_all) (h2 : Cond.instanceMethod y' ∈ lw_all) (h3 : Cond.selects C y' y' ∈ lw_all) (h4 : Cond.initialized C ∈ lw_all) (h5 : Cond.code y' b' L' r' ∈ lw_all) (hd0 : y'.cls = C ∧ y'.cls ≠ "java/lang/invoke/MethodHandle" ∧ y'.cls ≠ "java/lang/invoke/VarHandle" ∧ (parseMethodDescriptor y'.desc).map (fun d => d.parameters.length) = some n) (hd : decode cc pc = .ok (.invokevirtual idx, 3)) : VRow l D X N y cc nL ret d pc n t z ∧ VRowT l D X N y cc nL ret d pc n t z := by
  refine ⟨vr_V hc hN hL h1 h2 h3 h4 h5 hd0 hd, ?_⟩
  intro p e R s m args below meth c h hf hl H locs cells slots mc ms ls As rest b Pc q Ht free hM hbl hpre hrc hn hsz hW hroom
  rw [hN] at hM
  have hts := h.2.2.2.2.1
  have hp := rv_of h.2.2.2.2.2.1 hc hrc
  have hG : GoodIn lw_all lw_all := fun w hw => lw_meth h5 w (List.mem_cons_of_mem _ hw)
  have hr := rm_ok (mc := mc) (ms := ms) hf hl hL
  have hK : BackT l R p e below s args y' 3 8 (PreOf R mc ms Pc) (PostT q Ht mc ms free) := backT (bytes := b') (maxL := L') (ret := r') hM hbl rfl rfl hr.1 hr.2 (pay_in hts hG) h5
  obtain ⟨cellB, hcB, hoB, hclB⟩ := hp
  intro T hT X0
  have hlen : ∀ sig, parseMethodDescriptor y'.desc = some sig → As.length = sig.parameters.length := by
    intro sig hs
    have h2 := hd0.2.2.2
    rw [hs] at h2
    exact hn.trans (Option.some.inj h2).symm
  obtain ⟨v, vm₁, ⟨U', l2, c2, s2⟩, hW₁, X', ⟨rfl, t, L, e1, e2, hq, h1, hL, h2, h3⟩, st⟩ := callVT X0 h.1 (C := C) (bytes := b') (maxL := L') (ret := r') h.2.2.2.1 (hts _ h1) (hts _ h2) (hts _ h3) (hts _ h5) ⟨hd0.2.1, hd0.2.2.1⟩ hK (by rw [hT]; exact hcB) hoB hclB rfl (hsz.trans h.2.2.1.symm) (argsL := As) (rest := rest) hlen rfl hW (by rw [h.2.1]; exact hd)
    (fun vm₁ hW₁ => ⟨hroom.1, hroom.2, hpre (T.setVm vm₁) hT hW₁⟩)
  dsimp only [Pt.U, Pt.locs, Pt.cells, Pt.slots] at X' e1 e2 h1 h2 h3 st
  subst h1; subst h2; subst h3
  exact ⟨t, U', L, X', hL, e1, e2, hq, st⟩
/-- of a method without handlers -/
theorem go_none {s : State} {m : MethodId} {args : Array Value} {meth : Method} {c : Code} (hq : Cond.code y cc nL ret ∈ lw_all) {p : Program} (h : Cx D X y cc nL ret p s m args meth c) : s.vm.method? m = some meth → meth.code = some c → Goes6 s m args c D pc none := by
  intro h1 h2 x hx
  obtain ⟨meth', c', k1, k2, -, -, -, -, k3, -⟩ := Cond.code_spec h.2.2.2.2.2.2.2.2.2.2 (h.2.2.2.2.1 _ hq)
  cases k1.symm.trans h1
  cases k2.symm.trans h2
  rw [Array.isEmpty_iff.mp k3] at hx
  exact absurd hx (by simp)
/-- the first row of the table takes class 6 -/
theorem go_some {nm : String} {T : u_T} {Nn ct tt s0 e0 : Nat} {hs : List (Nat × Nat × Nat × Nat)} (hq : Cond.codeWith y cc nL ret ((s0, e0, tt, ct) :: hs) ∈ lw_all) (hl : Cond.classLink y.cls ct nm ∈ lw_all) (hc : D.cof 6 = some (nm, T, Nn)) (h0 : ct ≠ 0) (h1 : s0 ≤ pc) (h2 : pc < e0) {s : State} {m : MethodId} {args : Array Value} {meth : Method} {c : Code} {p : Program} (h : Cx D X y cc nL ret p s m args meth c) : s.vm.method? m = some meth → meth.code = some c → Goes6 s m args c D pc (some tt) := by
  intro g1 g2
  obtain ⟨m', meth', c', k0, k1, k2, -, -, k3, -, -, -⟩ := Cond.codeWith_spec (h.2.2.2.2.1 _ hq)
  cases k0.symm.trans h.2.2.2.2.2.2.2.2.2.2
  cases k1.symm.trans g1
  cases k2.symm.trans g2
  cases e : c.exceptionTable.toList with
  | nil => rw [e] at k3; cases k3
  | cons x suf =>
    rw [e] at k3
    simp only [List.map_cons, List.cons.injEq, Prod.mk.injEq] at k3
    obtain ⟨⟨a1, a2, a3, a4⟩, -⟩ := k3
    refine ⟨x, suf, y.cls, nm, D.C 6, e, ?_, a3, by rw [a4]; exact h0, h.2.2.2.1, by rw [a4]; exact h.2.2.2.2.1 _ hl, (h.2.2.2.2.2.1.1 6 _ hc).1.1, Vm.assignable_self _ _⟩
    simp only [covers, a1, a2]
    simp [h1, h2]
theorem A_invX {hd : Option Nat} {zz : List (Nat × Nat)} (hgo : ∀ (p : Program) (s : State) (m : MethodId) (args : Array Value) (meth : Method) (c : Code), Cx D X y cc nL ret p s m args meth c → s.vm.method? m = some meth → meth.code = some c → Goes6 s m args c D pc hd) (hX : Xok X) (h0 : lk zz 0 = none) (rows : ∀ t z, lk zz t = some z → VRow l D X N y cc nL ret d pc n t z ∧ VRowT l D X N y cc nL ret d pc n t z) : OkA l D X N y cc nL ret d pc (ivVx hd zz n (pc + 3)) :=
  fun p e R s m args below meth c z0 l0 h hf hl => Or.inr (Or.inr (Or.inr (Or.inr (ok_ivVx h.2.2.2.2.2.1 hX h.2.2.2.2.2.2.1 h.2.2.2.2.2.2.2.2.1 (hgo p s m args meth c h) h0 fun t z q => ⟨(rows t z q).1 p e R s m args below meth c h hf hl, (rows t z q).2 p e R s m args below meth c h hf hl⟩))))
theorem A_athrow (hq : Cond.code y cc nL ret ∈ lw_all) (hd : decode cc pc = .ok (.athrow, 1)) : OkA l D X N y cc nL ret d pc thr :=
  fun p e R s m args below meth c z0 l0 h hf hl => Or.inr (Or.inr (Or.inr (Or.inl (k_athrow h.1 h.2.1 h.2.2.2.2.2.2.2.2.1 (go_none hq h) hd))))
end DEF
