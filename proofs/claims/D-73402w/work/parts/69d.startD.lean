/-! THE START, together (by program) -/
set_option maxRecDepth 100000
section STARTD
variable {A : Array Value} {s : State}
theorem oldB_inj {a : Nat} {xs ys : List Int} (h1 : oldB s a xs) (h2 : oldB s a ys) : xs = ys := by
  obtain ⟨c1, x1, x2, x3, x4, x5, x6⟩ := h1
  obtain ⟨c2, y1, y2, y3, y4, y5, y6⟩ := h2
  cases x1.symm.trans y1
  apply List.ext_getElem?
  intro j
  cases e : xs[j]? with
  | none =>
    have hj : xs.length ≤ j := List.getElem?_eq_none_iff.mp e
    rw [List.getElem?_eq_none (by omega)]
  | some v =>
    have hj : j < ys.length := by
      have := (List.getElem?_eq_some_iff.mp e).1
      omega
    have e2 := List.getElem?_eq_getElem hj
    obtain ⟨v1, p1, -, p2⟩ := x6 j v e
    obtain ⟨v2, q1, -, q2⟩ := y6 j _ e2
    cases p1.symm.trans q1
    rw [e2]
    have : vI v = vI ys[j] := p2.symm.trans q2
    injection this with this
    rw [this]
theorem oldB_int {a L : Nat} {xs : Nat → Int32} {ys : List Int} (h1 : va_X a L xs s s.heap) (h2 : oldB s a ys) : False := by
  obtain ⟨c1, x1, ⟨-, k1, x2, p1, x3⟩, -⟩ := h1
  obtain ⟨c2, y1, ⟨-, k2, y2, p2, y3⟩, -⟩ := h2
  cases x1.symm.trans y1
  cases x2.symm.trans y2
  rw [x3] at y3
  cases y3
theorem isref_of {t : Term} (h : (Cond.isRef t).before A s = true) : ∃ o, t.eval A s none [] s = some (va_rf o) := by
  obtain ⟨v, h1, h2⟩ := Cond.isRef_spec h
  cases v <;> first | exact ⟨none, h1⟩ | exact ⟨some _, h1⟩ | (exact absurd h2 (by decide)) | (simp [Value.isRef] at h2)
/-- an old row of references -/
def oldR (s : State) (dB : Nat → ClassId) (t a : Nat) (rs : List (Option Nat)) : Prop := ∃ (cell : Cell) (ty : FieldType), crof t = some ty ∧ s.heap[a]? = some cell ∧ s.isArrayOf cell ty ∧ cell.vm ≠ .unknown ∧ cell.cls = dB t ∧ cell.slots.size = rs.length ∧ rs.length < 2 ^ 31 ∧ ∀ (j : Nat) (r : Option Nat), rs[j]? = some r → cell.slots[j]? = some (va_rf r)
theorem oldR_of {dB : Nat → ClassId} {t : Term} {u n : Nat} {ty : FieldType} {nm : String} {rs : List (Option Nat)} (hu : crof u = some ty) (hB : s.vm.findClass nm = some (dB u)) (hC : (Cond.exactly t nm).before A s = true) (hb : (Cond.arrayOf t ty).before A s = true) (hl : (Cond.eq (.length t) (.int (Int32.ofNat n))).before A s = true) (hn : n < 2 ^ 31) (hx : rs.length = n)
    (he : ∀ j r, rs[j]? = some r → (Term.elem t (.int (Int32.ofNat j))).eval A s none [] s = some (va_rf r) ∧ ¬ Int32.ofNat j < 0 ∧ (Int32.ofNat j).toNatClampNeg = j) : ∃ a, t.eval A s none [] s = some (.ref a) ∧ oldR s dB u a rs := by
  obtain ⟨a, c, cell, k, e1, e2, e3, e4, e5, e6, -⟩ := Cond.exactly_spec hC
  obtain ⟨i1, i2⟩ := Cond.arrayOf_spec hb e1 e3
  have hat := arr_at e3 i1 i2
  have hsz := len_at e1 hat hl rfl hn
  refine ⟨a, e1, cell, ty, hu, e3, i1, i2, by rw [e6]; exact fc_eq e2 hB, by rw [hsz, hx], by rw [hx]; exact hn, fun j r hr => ?_⟩
  exact elem_at e1 hat (he j r hr).1 (he j r hr).2
theorem oldR_ne {dB : Nat → ClassId} {u v a : Nat} {rs rs' : List (Option Nat)} (h1 : oldR s dB u a rs) (h2 : oldR s dB v a rs') : rs.length = rs'.length := by
  obtain ⟨c1, t1, -, x1, -, -, -, x2, -⟩ := h1
  obtain ⟨c2, t2, -, y1, -, -, -, y2, -⟩ := h2
  cases x1.symm.trans y1
  omega
theorem zlt {H : Heap} : ∀ a : Nat, a < H.size → ¬ (fun q : Nat => H.size ≤ q) a := fun a h => Nat.not_le.mpr h
theorem dg_j : ∀ j, j < 100 → ¬ Int32.ofNat j < 0 ∧ (Int32.ofNat j).toNatClampNeg = j := by decide +kernel
theorem seg_digO : ((flatC (Jvm.Cond.and given_1 narrow_1)).drop 44).take 100 = (List.range 100).map fun j => (Cond.eq (.elem (.static "java/lang/Integer" "DigitOnes" "[B") (.int (Int32.ofNat j))) (.int (Int32.ofInt (digO[j]?.getD 0)))) := by decide +kernel
theorem mem_digO (j : Nat) (hj : j < 100) : (Cond.eq (.elem (.static "java/lang/Integer" "DigitOnes" "[B") (.int (Int32.ofNat j))) (.int (Int32.ofInt (digO[j]?.getD 0)))) ∈ flatC (Jvm.Cond.and given_1 narrow_1) := by
  refine List.mem_of_mem_drop (List.mem_of_mem_take (i := 100) (?_ : _ ∈ ((flatC (Jvm.Cond.and given_1 narrow_1)).drop 44).take 100))
  rw [seg_digO]
  exact List.mem_map.mpr ⟨j, List.mem_range.mpr hj, rfl⟩
theorem fit_digO : ∀ j, j < 100 → fits .byte (.int (Int32.ofInt (digO[j]?.getD 0))) = true ∧ (Int32.ofInt (digO[j]?.getD 0)).toInt = digO[j]?.getD 0 := by decide +kernel
theorem seg_digT : ((flatC (Jvm.Cond.and given_1 narrow_1)).drop 147).take 100 = (List.range 100).map fun j => (Cond.eq (.elem (.static "java/lang/Integer" "DigitTens" "[B") (.int (Int32.ofNat j))) (.int (Int32.ofInt (digT[j]?.getD 0)))) := by decide +kernel
theorem mem_digT (j : Nat) (hj : j < 100) : (Cond.eq (.elem (.static "java/lang/Integer" "DigitTens" "[B") (.int (Int32.ofNat j))) (.int (Int32.ofInt (digT[j]?.getD 0)))) ∈ flatC (Jvm.Cond.and given_1 narrow_1) := by
  refine List.mem_of_mem_drop (List.mem_of_mem_take (i := 100) (?_ : _ ∈ ((flatC (Jvm.Cond.and given_1 narrow_1)).drop 147).take 100))
  rw [seg_digT]
  exact List.mem_map.mpr ⟨j, List.mem_range.mpr hj, rfl⟩
theorem fit_digT : ∀ j, j < 100 → fits .byte (.int (Int32.ofInt (digT[j]?.getD 0))) = true ∧ (Int32.ofInt (digT[j]?.getD 0)).toInt = digT[j]?.getD 0 := by decide +kernel
set_option maxHeartbeats 4000000 in
theorem start_ok {b L : Nat} {xs : Nat → Int32} (hts : ∀ w ∈ lw_tbl, w.before #[Value.ref b] s = true) (hX : va_X b L xs s s.heap) (hL : L ≤ 384) (hgv : (Jvm.Cond.and given_1 narrow_1).before #[Value.ref b] s = true) : ∃ (dC : Nat → ClassId) (dJ : Nat → Nat → Nat) (dA dB : Nat → ClassId) (dS : Nat → Option Nat) (hs : AH),
    KJ (DD dC dJ dA dB s.heap dS) ∧ KB (DD dC dJ dA dB s.heap dS) s ∧ XX s.heap dS s ∧ hrel (DD dC dJ dA dB s.heap dS) s hs s.heap ∧ WF hs ∧ Start hs b ((List.range L).map fun j => (xs j).toInt) := by
  have hN := flat_of_before _ hgv
  have hta : ∀ w ∈ lw_all, w.before #[Value.ref b] s = true := fun w h => hts w (lw_all_tbl h)
  obtain ⟨dC, dJ, hC⟩ := st_cls hta hN
  obtain ⟨dA, hA⟩ := st_arr hta
  obtain ⟨dB, hB⟩ := st_ref hts
  have hK14 : u_Kn s RJ18 TJ18 4 (dC 14) (dJ 14) := (hC 14 _ rfl).1.2 (by decide)
  obtain ⟨a1, t1, o1⟩ := oldB_of (t := (.static "java/lang/Integer" "DigitOnes" "[B")) (n := 100) (xs := digO) (hN (.exactly (.static "java/lang/Integer" "DigitOnes" "[B") "[B") (fm 588 (by decide +kernel))) (hN (.arrayOf (.static "java/lang/Integer" "DigitOnes" "[B") .byte) (fm 42 (by decide +kernel))) (hN (.eq (.length (.static "java/lang/Integer" "DigitOnes" "[B")) (.int 100)) (fm 43 (by decide +kernel))) (by decide) (by decide) (fun j hj => hN _ (mem_digO j hj)) dg_j fit_digO
  obtain ⟨a2, t2, o2⟩ := oldB_of (t := (.static "java/lang/Integer" "DigitTens" "[B")) (n := 100) (xs := digT) (hN (.exactly (.static "java/lang/Integer" "DigitTens" "[B") "[B") (fm 589 (by decide +kernel))) (hN (.arrayOf (.static "java/lang/Integer" "DigitTens" "[B") .byte) (fm 145 (by decide +kernel))) (hN (.eq (.length (.static "java/lang/Integer" "DigitTens" "[B")) (.int 100)) (fm 146 (by decide +kernel))) (by decide) (by decide) (fun j hj => hN _ (mem_digT j hj)) dg_j fit_digT
  obtain ⟨a7, t7, o7⟩ := oldF_of (hN (.exactly (.static "jdk/internal/util/ArraysSupport" "U" "Ljdk/internal/misc/Unsafe;") "jdk/internal/misc/Unsafe") (fm 36 (by decide +kernel)))
  obtain ⟨a8, t8, o8⟩ := oldF_of (hN (.exactly (.static "Skeletons$Count" "SKELETONS" "LSkeletons$Count;") "Skeletons$Count$1") (fm 4 (by decide +kernel)))
  obtain ⟨a9, t9, o9⟩ := oldF_of (hN (.exactly (.static "Skeletons$Count" "FORMS" "LSkeletons$Count;") "Skeletons$Count$2") (fm 6 (by decide +kernel)))
  obtain ⟨a10, t10, o10⟩ := oldF_of (hN (.exactly (.static "Skeletons$Count" "OWN" "LSkeletons$Count;") "Skeletons$Count$3") (fm 9 (by decide +kernel)))
  obtain ⟨a21, t21, o21⟩ := oldF_of (hN (.exactly (.static "Skeletons$Such" "LONG" "LSkeletons$Such;") "Skeletons$Such$1") (fm 247 (by decide +kernel)))
  obtain ⟨a22, t22, o22⟩ := oldF_of (hN (.exactly (.static "Skeletons$Such" "ENDS" "LSkeletons$Such;") "Skeletons$Such$2") (fm 252 (by decide +kernel)))
  obtain ⟨a23, t23, o23⟩ := oldF_of (hN (.exactly (.static "Skeletons$Such" "ASYMMETRIC" "LSkeletons$Such;") "Skeletons$Such$3") (fm 258 (by decide +kernel)))
  obtain ⟨a24, t24, o24⟩ := oldF_of (hN (.exactly (.static "Skeletons$Such" "UNLIKE" "LSkeletons$Such;") "Skeletons$Such$4") (fm 265 (by decide +kernel)))
  obtain ⟨a11, v11, w11, x11, t11, tv11, o11⟩ := oldS_of (t := (.string "Skeletons$Skeleton" 130)) hta hK14 (hN (.exactly (.string "Skeletons$Skeleton" 130) "java/lang/String") (fm 575 (by decide +kernel))) (hN (.exactly (.field (.string "Skeletons$Skeleton" 130) "java/lang/String" "value" "[B") "[B") (fm 590 (by decide +kernel))) (hN (.eq (.field (.string "Skeletons$Skeleton" 130) "java/lang/String" "coder" "B") (.int 0)) (fm 576 (by decide +kernel)))
  obtain ⟨v11', tw11, ob11⟩ := oldB_of (t := .field (.string "Skeletons$Skeleton" 130) "java/lang/String" "value" "[B") (n := 1) (xs := [40]) (hN (.exactly (.field (.string "Skeletons$Skeleton" 130) "java/lang/String" "value" "[B") "[B") (fm 590 (by decide +kernel))) (hN (.arrayOf (.field (.string "Skeletons$Skeleton" 130) "java/lang/String" "value" "[B") .byte) (fm 577 (by decide +kernel))) (hN (.eq (.length (.field (.string "Skeletons$Skeleton" 130) "java/lang/String" "value" "[B")) (.int 1)) (fm 578 (by decide +kernel))) (by decide) rfl (fun j hj => (by obtain rfl : j = 0 := (by omega); exact (hN (.eq (.elem (.field (.string "Skeletons$Skeleton" 130) "java/lang/String" "value" "[B") (.int 0)) (.int 40)) (fm 579 (by decide +kernel))))) (fun j hj => dg_j j (by omega)) (fun j hj => (by obtain rfl : j = 0 := (by omega); decide))
  cases tv11.symm.trans tw11
  obtain ⟨a12, v12, w12, x12, t12, tv12, o12⟩ := oldS_of (t := (.string "Skeletons$Skeleton" 136)) hta hK14 (hN (.exactly (.string "Skeletons$Skeleton" 136) "java/lang/String") (fm 580 (by decide +kernel))) (hN (.exactly (.field (.string "Skeletons$Skeleton" 136) "java/lang/String" "value" "[B") "[B") (fm 591 (by decide +kernel))) (hN (.eq (.field (.string "Skeletons$Skeleton" 136) "java/lang/String" "coder" "B") (.int 0)) (fm 581 (by decide +kernel)))
  obtain ⟨v12', tw12, ob12⟩ := oldB_of (t := .field (.string "Skeletons$Skeleton" 136) "java/lang/String" "value" "[B") (n := 1) (xs := [41]) (hN (.exactly (.field (.string "Skeletons$Skeleton" 136) "java/lang/String" "value" "[B") "[B") (fm 591 (by decide +kernel))) (hN (.arrayOf (.field (.string "Skeletons$Skeleton" 136) "java/lang/String" "value" "[B") .byte) (fm 582 (by decide +kernel))) (hN (.eq (.length (.field (.string "Skeletons$Skeleton" 136) "java/lang/String" "value" "[B")) (.int 1)) (fm 583 (by decide +kernel))) (by decide) rfl (fun j hj => (by obtain rfl : j = 0 := (by omega); exact (hN (.eq (.elem (.field (.string "Skeletons$Skeleton" 136) "java/lang/String" "value" "[B") (.int 0)) (.int 41)) (fm 584 (by decide +kernel))))) (fun j hj => dg_j j (by omega)) (fun j hj => (by obtain rfl : j = 0 := (by omega); decide))
  cases tv12.symm.trans tw12
  obtain ⟨a4, t4, o4⟩ := oldR_of (dB := dB) (t := .static "java/util/ArrayList" "DEFAULTCAPACITY_EMPTY_ELEMENTDATA" "[Ljava/lang/Object;") (u := 6) (n := 0) (rs := []) rfl (nm := "[Ljava/lang/Object;") (hB 6 _ rfl).2.1 (hN (.exactly (.static "java/util/ArrayList" "DEFAULTCAPACITY_EMPTY_ELEMENTDATA" "[Ljava/lang/Object;") "[Ljava/lang/Object;") (fm 15 (by decide +kernel))) (hN (.arrayOf (.static "java/util/ArrayList" "DEFAULTCAPACITY_EMPTY_ELEMENTDATA" "[Ljava/lang/Object;") (.object "java/lang/Object")) (fm 14 (by decide +kernel))) (hN (.eq (.length (.static "java/util/ArrayList" "DEFAULTCAPACITY_EMPTY_ELEMENTDATA" "[Ljava/lang/Object;")) (.int 0)) (fm 16 (by decide +kernel))) (by decide) rfl (fun j r h => by simp at h)
  have el : ∀ (j : Nat) (r : Option Nat), [some a21, some a22, some a23, some a24][j]? = some r → (Term.elem (.static "Skeletons$Such" "$VALUES" "[LSkeletons$Such;") (.int (Int32.ofNat j))).eval #[Value.ref b] s none [] s = some (va_rf r) ∧ ¬ Int32.ofNat j < 0 ∧ (Int32.ofNat j).toNatClampNeg = j := by
    intro j r h
    match j, h with
    | 0, h => cases h; exact ⟨eq_ref t21 (hN (.eq (.elem (.static "Skeletons$Such" "$VALUES" "[LSkeletons$Such;") (.int 0)) (.static "Skeletons$Such" "LONG" "LSkeletons$Such;")) (fm 22 (by decide +kernel))), dg_j 0 (by decide)⟩
    | 1, h => cases h; exact ⟨eq_ref t22 (hN (.eq (.elem (.static "Skeletons$Such" "$VALUES" "[LSkeletons$Such;") (.int 1)) (.static "Skeletons$Such" "ENDS" "LSkeletons$Such;")) (fm 23 (by decide +kernel))), dg_j 1 (by decide)⟩
    | 2, h => cases h; exact ⟨eq_ref t23 (hN (.eq (.elem (.static "Skeletons$Such" "$VALUES" "[LSkeletons$Such;") (.int 2)) (.static "Skeletons$Such" "ASYMMETRIC" "LSkeletons$Such;")) (fm 24 (by decide +kernel))), dg_j 2 (by decide)⟩
    | 3, h => cases h; exact ⟨eq_ref t24 (hN (.eq (.elem (.static "Skeletons$Such" "$VALUES" "[LSkeletons$Such;") (.int 3)) (.static "Skeletons$Such" "UNLIKE" "LSkeletons$Such;")) (fm 25 (by decide +kernel))), dg_j 3 (by decide)⟩
    | j + 4, h => simp at h
  obtain ⟨a13, t13, o13⟩ := oldR_of (dB := dB) (t := .static "Skeletons$Such" "$VALUES" "[LSkeletons$Such;") (u := 8) (n := 4) (rs := [some a21, some a22, some a23, some a24]) rfl (nm := "[LSkeletons$Such;") (hB 8 _ rfl).2.1 (hN (.exactly (.static "Skeletons$Such" "$VALUES" "[LSkeletons$Such;") "[LSkeletons$Such;") (fm 18 (by decide +kernel))) (hN (.arrayOf (.static "Skeletons$Such" "$VALUES" "[LSkeletons$Such;") (.object "Skeletons$Such")) (fm 19 (by decide +kernel))) (hN (.eq (.length (.static "Skeletons$Such" "$VALUES" "[LSkeletons$Such;")) (.int 4)) (fm 20 (by decide +kernel))) (by decide) rfl el
  obtain ⟨r3, t3⟩ := isref_of (hN (.isRef (.static "jdk/internal/util/Preconditions" "SIOOBE_FORMATTER" "Ljava/util/function/BiFunction;")) (fm 29 (by decide +kernel)))
  obtain ⟨r5, t5⟩ := isref_of (hN (.isRef (.static "java/lang/Throwable" "UNASSIGNED_STACK" "[Ljava/lang/StackTraceElement;")) (fm 26 (by decide +kernel)))
  obtain ⟨r6, t6⟩ := isref_of (hN (.isRef (.static "java/lang/Throwable" "SUPPRESSED_SENTINEL" "Ljava/util/List;")) (fm 27 (by decide +kernel)))
  obtain ⟨mi, hmi⟩ := va_Mi.of (hN (.isRef (.mirror "[Ljava/lang/Object;")) (fm 494 (by decide +kernel)))
  let dS : Nat → Option Nat := fun k => (([some mi, some a1, some a2, r3, some a4, r5, r6, some a7, some a8, some a9, some a10, some a11, some a12, some a13] : List (Option Nat))[k]?).getD none
  let LI : List (Nat × (Nat × List Int)) := [(b, (201, (List.range L).map fun j => (xs j).toInt)), (a1, (203, digO)), (a2, (203, digT)), (v11, (203, [40])), (v12, (203, [41]))]
  let LR : List (Nat × (Nat × List (Option Nat))) := [(a4, (206, [])), (a13, (208, [some a21, some a22, some a23, some a24]))]
  let LF : List (Nat × (Nat × List AV)) := [(a7, (228, [])), (a8, (221, [])), (a9, (222, [])), (a10, (223, [])), (a21, (224, [])), (a22, (225, [])), (a23, (226, [])), (a24, (227, [])), (a11, (214, [vR (some v11), vI 0, w11, x11])), (a12, (214, [vR (some v12), vI 0, w12, x12]))]
  let hs : AH := (s.heap.size, 0, fnd (0, []) LI, fnd (0, []) LR, fnd (0, []) LF, dS)
  have nI : (LI.map (·.1)).Nodup := by
    have q1 : ∀ {a ys}, oldB s a ys → b ≠ a := fun h e => by subst e; exact oldB_int hX h
    have q2 : ∀ {a c ys zs}, oldB s a ys → oldB s c zs → ys ≠ zs → a ≠ c := fun h h' hne e => by subst e; exact hne (oldB_inj h h')
    show [b, a1, a2, v11, v12].Nodup
    simp only [List.nodup_cons, List.mem_cons, List.not_mem_nil, or_false, not_or, not_false_eq_true, List.nodup_nil, and_true]
    exact ⟨⟨q1 o1, q1 o2, q1 ob11, q1 ob12⟩, ⟨q2 o1 o2 (by decide), q2 o1 ob11 (by decide), q2 o1 ob12 (by decide)⟩, ⟨q2 o2 ob11 (by decide), q2 o2 ob12 (by decide)⟩, q2 ob11 ob12 (by decide)⟩
  have nR : (LR.map (·.1)).Nodup := by
    show [a4, a13].Nodup
    simp only [List.nodup_cons, List.mem_cons, List.not_mem_nil, or_false, not_false_eq_true, List.nodup_nil, and_true]
    intro e
    subst e
    exact absurd (oldR_ne o4 o13) (by simp)
  have sF : ∀ {a v w x}, oldS s dC dJ a v w x → oldF s a "java/lang/String" := fun h => by
    obtain ⟨cell, h1, h2, -, h3, -⟩ := h
    exact ⟨cell, dC 14, h1, hK14.2.1, h2, h3⟩
  have nS : a11 ≠ a12 := by
    intro e
    obtain ⟨c1, p1, -, -, -, p2⟩ := o11
    obtain ⟨c2, q1, -, -, -, q2⟩ := o12
    subst e
    cases p1.symm.trans q1
    obtain ⟨z1, i1, i2⟩ := p2 0 _ rfl
    obtain ⟨z2, j1, j2⟩ := q2 0 _ rfl
    cases i1.symm.trans j1
    have : vR (some v11) = vR (some v12) := i2.symm.trans j2
    have : v11 = v12 := by simpa using this
    subst this
    exact absurd (oldB_inj ob11 ob12) (by decide)
  have nF : (LF.map (·.1)).Nodup := by
    show [a7, a8, a9, a10, a21, a22, a23, a24, a11, a12].Nodup
    simp only [List.nodup_cons, List.mem_cons, List.not_mem_nil, or_false, not_or, not_false_eq_true, List.nodup_nil, and_true]
    exact ⟨⟨oldF_ne o7 o8 (by decide), oldF_ne o7 o9 (by decide), oldF_ne o7 o10 (by decide), oldF_ne o7 o21 (by decide), oldF_ne o7 o22 (by decide), oldF_ne o7 o23 (by decide), oldF_ne o7 o24 (by decide), oldF_ne o7 (sF o11) (by decide), oldF_ne o7 (sF o12) (by decide)⟩, ⟨oldF_ne o8 o9 (by decide), oldF_ne o8 o10 (by decide), oldF_ne o8 o21 (by decide), oldF_ne o8 o22 (by decide), oldF_ne o8 o23 (by decide), oldF_ne o8 o24 (by decide), oldF_ne o8 (sF o11) (by decide), oldF_ne o8 (sF o12) (by decide)⟩, ⟨oldF_ne o9 o10 (by decide), oldF_ne o9 o21 (by decide), oldF_ne o9 o22 (by decide), oldF_ne o9 o23 (by decide), oldF_ne o9 o24 (by decide), oldF_ne o9 (sF o11) (by decide), oldF_ne o9 (sF o12) (by decide)⟩, ⟨oldF_ne o10 o21 (by decide), oldF_ne o10 o22 (by decide), oldF_ne o10 o23 (by decide), oldF_ne o10 o24 (by decide), oldF_ne o10 (sF o11) (by decide), oldF_ne o10 (sF o12) (by decide)⟩, ⟨oldF_ne o21 o22 (by decide), oldF_ne o21 o23 (by decide), oldF_ne o21 o24 (by decide), oldF_ne o21 (sF o11) (by decide), oldF_ne o21 (sF o12) (by decide)⟩, ⟨oldF_ne o22 o23 (by decide), oldF_ne o22 o24 (by decide), oldF_ne o22 (sF o11) (by decide), oldF_ne o22 (sF o12) (by decide)⟩, ⟨oldF_ne o23 o24 (by decide), oldF_ne o23 (sF o11) (by decide), oldF_ne o23 (sF o12) (by decide)⟩, ⟨oldF_ne o24 (sF o11) (by decide), oldF_ne o24 (sF o12) (by decide)⟩, nS⟩
  have hzz : ZZ s.heap dS s := ⟨va_Zof (hts _ q994) (hta _ q159) (eq_int (hN (.eq (.static "java/lang/String" "COMPACT_STRINGS" "Z") (.int 1)) (fm 28 (by decide +kernel)))) zlt, va_Zof (hts _ q1076) (hta _ q160) (eq_int (hN (.eq (.static "java/lang/StringUTF16" "$assertionsDisabled" "Z") (.int 1)) (fm 30 (by decide +kernel)))) zlt, va_Zof (hts _ q1078) (hta _ q160) (eq_int (hN (.eq (.static "java/lang/StringUTF16" "HI_BYTE_SHIFT" "I") (.int 0)) (fm 31 (by decide +kernel)))) zlt, va_Zof (hts _ q1080) (hta _ q160) (eq_int (hN (.eq (.static "java/lang/StringUTF16" "LO_BYTE_SHIFT" "I") (.int 8)) (fm 32 (by decide +kernel)))) zlt, va_Zof (hts _ q1254) (hta _ q162) (eq_int (hN (.eq (.static "jdk/internal/misc/Unsafe" "ARRAY_BYTE_BASE_OFFSET" "I") (.int 16)) (fm 33 (by decide +kernel)))) zlt, va_Zof (hts _ q1290) (hta _ q163) (eq_int (hN (.eq (.static "jdk/internal/misc/UnsafeConstants" "BIG_ENDIAN" "Z") (.int 0)) (fm 37 (by decide +kernel)))) zlt, va_Zof (hts _ q1317) (hta _ q147) (eq_int (hN (.eq (.static "jdk/internal/util/ArraysSupport" "BIG_ENDIAN" "Z") (.int 0)) (fm 38 (by decide +kernel)))) zlt, va_Zof (hts _ q1256) (hta _ q147) (eq_int (hN (.eq (.static "jdk/internal/util/ArraysSupport" "LOG2_ARRAY_BYTE_INDEX_SCALE" "I") (.int 0)) (fm 34 (by decide +kernel)))) zlt, va_Zof (hts _ q1334) (hta _ q147) (eq_int (hN (.eq (.static "jdk/internal/util/ArraysSupport" "LOG2_ARRAY_INT_INDEX_SCALE" "I") (.int 2)) (fm 40 (by decide +kernel)))) zlt, va_Zof (hts _ q1261) (hta _ q147) (eq_int (hN (.eq (.static "jdk/internal/util/ArraysSupport" "LOG2_ARRAY_LONG_INDEX_SCALE" "I") (.int 3)) (fm 35 (by decide +kernel)))) zlt, va_Zof (hts _ q1326) (hta _ q147) (eq_int (hN (.eq (.static "jdk/internal/util/ArraysSupport" "LOG2_BYTE_BIT_SIZE" "I") (.int 3)) (fm 39 (by decide +kernel)))) zlt, va_Zof (hts _ q1914) (hta _ q151) (t1) zlt, va_Zof (hts _ q1916) (hta _ q151) (t2) zlt, va_Zof (hts _ q1068) (hta _ q145) (t3) zlt, va_Zof (hts _ q278) (hta _ q132) (t4) zlt, va_Zof (hts _ q539) (hta _ q140) (t5) zlt, va_Zof (hts _ q541) (hta _ q140) (t6) zlt, va_Zof (hts _ q1263) (hta _ q147) (t7) zlt, va_Zof (hts _ q202) (hta _ q170) (t8) zlt, va_Zof (hts _ q254) (hta _ q170) (t9) zlt, va_Zof (hts _ q256) (hta _ q170) (t10) zlt, va_Zof (hts _ q330) (hta _ q135) (t13) zlt⟩
  have hcc : CC dS s := ⟨⟨a11, rfl, vk_R.of (hts _ q1999) t11⟩, ⟨a12, rfl, vk_R.of (hts _ q2030) t12⟩, ⟨mi, rfl, hmi⟩, ld_vm rfl (hN (.landsInDefault "Skeletons$One" ⟨"Skeletons$Whole", "code", "()[I"⟩ ⟨"Skeletons$Whole", "code", "()[I"⟩) (fm 586 (by decide +kernel))), ld_vm rfl (hN (.landsInDefault "Skeletons$Two" ⟨"Skeletons$Whole", "code", "()[I"⟩ ⟨"Skeletons$Whole", "code", "()[I"⟩) (fm 587 (by decide +kernel)))⟩
  refine ⟨dC, dJ, dA, dB, dS, hs, fun t q e => (hC t q e).2, st_KB hts hC hA hB, ⟨fun w hw hx => xk_same hx rfl (hts w hw), hzz, hcc⟩, ?_, ?_, ?_⟩
  · refine ⟨rfl, ⟨Nat.le_refl _, fun q _ => rfl⟩, rfl, fun a t ys e ht => ?_, fun a t rs e ht => ?_, fun a t fs e ht => ?_⟩
    · rcases fnd_mem (show fnd (0, []) LI a = (t, ys) from e) with k | k
      · cases k; exact absurd rfl ht
      · have byt : ∀ {a ys}, oldB s a ys → (203 < 200 → s.heap.size ≤ a) ∧ ∃ cell, s.heap[a]? = some cell ∧ cokI (DD dC dJ dA dB s.heap dS) s 203 ys cell := by
          intro a ys h
          obtain ⟨cell, h1, h2, h3, h4, h5, h6⟩ := h
          exact ⟨fun z => absurd z (by decide), cell, h1, .byte, rfl, h2, h3, fun z => absurd z (by decide), h4, h5, h6⟩
        rcases List.mem_cons.mp k with k | k
        · cases k
          obtain ⟨cell, h1, h2, h3, h4, h5⟩ := hX
          refine ⟨fun z => absurd z (by decide), cell, h1, .int, rfl, h2, h3, fun z => absurd z (by decide), by rw [h4]; simp, by simp; omega, fun j y hy => ?_⟩
          have hj : j < L := by
            have := (List.getElem?_eq_some_iff.mp hy).1
            simpa using this
          rw [List.getElem?_map, List.getElem?_range hj] at hy
          cases hy
          exact ⟨_, h5 j hj, rfl, rfl⟩
        · rcases List.mem_cons.mp k with k | k
          · cases k; exact byt o1
          · rcases List.mem_cons.mp k with k | k
            · cases k; exact byt o2
            · rcases List.mem_cons.mp k with k | k
              · cases k; exact byt ob11
              · rcases List.mem_cons.mp k with k | k
                · cases k; exact byt ob12
                · cases k
    · rcases fnd_mem (show fnd (0, []) LR a = (t, rs) from e) with k | k
      · cases k; exact absurd rfl ht
      · have row : ∀ {a u t rs}, t % 200 = u → ¬ t < 200 → oldR s dB u a rs → (t < 200 → s.heap.size ≤ a) ∧ ∃ cell, s.heap[a]? = some cell ∧ cokR (DD dC dJ dA dB s.heap dS) s t rs cell := by
          intro a u t rs hu ht h
          subst hu
          obtain ⟨cell, ty, h0, h1, h2, h3, h4, h5, h6, h7⟩ := h
          exact ⟨fun z => absurd z ht, cell, h1, ty, h0, h2, h3, fun z => absurd z ht, h4, h5, h6, h7⟩
        rcases List.mem_cons.mp k with k | k
        · cases k; exact row rfl (by decide) o4
        · rcases List.mem_cons.mp k with k | k
          · cases k; exact row rfl (by decide) o13
          · cases k
    · rcases fnd_mem (show fnd (0, []) LF a = (t, fs) from e) with k | k
      · cases k; exact absurd rfl ht
      · have obj : ∀ {a t : Nat} {C : String} {T : u_T}, ¬ t < 200 → ccof (t % 200) = some (C, T, 0) → oldF s a C → (t < 200 → s.heap.size ≤ a) ∧ ∃ cell, s.heap[a]? = some cell ∧ cokF (DD dC dJ dA dB s.heap dS) t [] cell := by
          intro a t C T ht hc h
          obtain ⟨cell, c, h1, h2, h3, h4⟩ := h
          refine ⟨fun z => absurd z ht, cell, h1, _, hc, ?_, fun z => absurd rfl z, h4, fun z => absurd z ht, rfl, fun k v hv => by simp at hv⟩
          rw [h3]
          exact fc_eq h2 (hC _ _ hc).1.1.1
        have str : ∀ {a v w x}, oldS s dC dJ a v w x → (214 < 200 → s.heap.size ≤ a) ∧ ∃ cell, s.heap[a]? = some cell ∧ cokF (DD dC dJ dA dB s.heap dS) 214 [vR (some v), vI 0, w, x] cell := by
          intro a v w x h
          obtain ⟨cell, h1, h2, h3, h4, h5⟩ := h
          exact ⟨fun z => absurd z (by decide), cell, h1, _, rfl, h2, fun _ => h3, h4, fun z => absurd z (by decide), rfl, h5⟩
        rcases List.mem_cons.mp k with k | k
        · cases k; exact obj (by decide) rfl o7
        · rcases List.mem_cons.mp k with k | k
          · cases k; exact obj (by decide) rfl o8
          · rcases List.mem_cons.mp k with k | k
            · cases k; exact obj (by decide) rfl o9
            · rcases List.mem_cons.mp k with k | k
              · cases k; exact obj (by decide) rfl o10
              · rcases List.mem_cons.mp k with k | k
                · cases k; exact obj (by decide) rfl o21
                · rcases List.mem_cons.mp k with k | k
                  · cases k; exact obj (by decide) rfl o22
                  · rcases List.mem_cons.mp k with k | k
                    · cases k; exact obj (by decide) rfl o23
                    · rcases List.mem_cons.mp k with k | k
                      · cases k; exact obj (by decide) rfl o24
                      · rcases List.mem_cons.mp k with k | k
                        · cases k; exact str o11
                        · rcases List.mem_cons.mp k with k | k
                          · cases k; exact str o12
                          · cases k
  · have lt : ∀ {q : Nat} {cell : Cell}, s.heap[q]? = some cell → q < s.heap.size := fun h => (Array.getElem?_eq_some_iff.mp h).1
    refine ⟨fun a ha => ?_, fun a => ?_⟩
    · have hbig : ∀ {q : Nat} {cell : Cell}, s.heap[q]? = some cell → q ≠ a := fun h e => by
        have := lt h
        have ha : s.heap.size ≤ a := ha
        omega
      refine ⟨?_, ?_, ?_⟩
      · rcases fnd_mem (rfl : fnd (0, []) LI a = _) with k | k
        · show (fnd (0, []) LI a).1 = 0
          rw [k]
        · exfalso
          have key : a ∈ LI.map (·.1) := List.mem_map_of_mem (f := (·.1)) k
          have key : a ∈ [b, a1, a2, v11, v12] := key
          simp only [List.mem_cons, List.not_mem_nil, or_false] at key
          rcases key with e | e | e | e | e
          · exact hbig hX.choose_spec.1 e.symm
          · exact hbig o1.choose_spec.1 e.symm
          · exact hbig o2.choose_spec.1 e.symm
          · exact hbig ob11.choose_spec.1 e.symm
          · exact hbig ob12.choose_spec.1 e.symm
      · rcases fnd_mem (rfl : fnd (0, []) LR a = _) with k | k
        · show (fnd (0, []) LR a).1 = 0
          rw [k]
        · exfalso
          have key : a ∈ LR.map (·.1) := List.mem_map_of_mem (f := (·.1)) k
          have key : a ∈ [a4, a13] := key
          simp only [List.mem_cons, List.not_mem_nil, or_false] at key
          obtain ⟨z4, -, -, y4, -⟩ := o4
          obtain ⟨z13, -, -, y13, -⟩ := o13
          rcases key with e | e
          · exact hbig y4 e.symm
          · exact hbig y13 e.symm
      · rcases fnd_mem (rfl : fnd (0, []) LF a = _) with k | k
        · show (fnd (0, []) LF a).1 = 0
          rw [k]
        · exfalso
          have key : a ∈ LF.map (·.1) := List.mem_map_of_mem (f := (·.1)) k
          have key : a ∈ [a7, a8, a9, a10, a21, a22, a23, a24, a11, a12] := key
          simp only [List.mem_cons, List.not_mem_nil, or_false] at key
          have q : ∀ {c C}, oldF s c C → a ≠ c := fun h e => by
            obtain ⟨cell, c, h1, -⟩ := h
            exact hbig h1 e.symm
          rcases key with e | e | e | e | e | e | e | e | e | e
          · exact q o7 e
          · exact q o8 e
          · exact q o9 e
          · exact q o10 e
          · exact q o21 e
          · exact q o22 e
          · exact q o23 e
          · exact q o24 e
          · exact q (sF o11) e
          · exact q (sF o12) e
    · have big : ∀ {β : Type} {l : List (Nat × (Nat × β))} {d : β} {a : Nat}, (∀ x, x ∈ l → 200 ≤ x.2.1) → ¬ fr (fnd (0, d) l a).1 := by
        intro β l d a h hf
        rcases fnd_mem (rfl : fnd (0, d) l a = _) with k | k
        · rw [k] at hf; exact hf.1 rfl
        · have h1 : 200 ≤ (fnd (0, d) l a).1 := h _ k
          exact absurd hf.2 (Nat.not_lt.mpr h1)
      refine ⟨fun z => absurd z (big ?_), fun z => absurd z (big ?_), fun z => absurd z (big ?_)⟩
      · intro x hx
        simp only [LI, List.mem_cons, List.not_mem_nil, or_false] at hx
        rcases hx with rfl | rfl | rfl | rfl | rfl <;> exact Nat.le_of_ble_eq_true rfl
      · intro x hx
        simp only [LR, List.mem_cons, List.not_mem_nil, or_false] at hx
        rcases hx with rfl | rfl <;> exact Nat.le_of_ble_eq_true rfl
      · intro x hx
        simp only [LF, List.mem_cons, List.not_mem_nil, or_false] at hx
        rcases hx with rfl | rfl | rfl | rfl | rfl | rfl | rfl | rfl | rfl | rfl <;> exact Nat.le_of_ble_eq_true rfl
  · exact ⟨fnd_get nI List.mem_cons_self, ⟨a1, rfl, fnd_get nI (List.mem_cons_of_mem _ List.mem_cons_self)⟩, ⟨a2, rfl, fnd_get nI (List.mem_cons_of_mem _ (List.mem_cons_of_mem _ List.mem_cons_self))⟩, ⟨a4, rfl, fnd_get nR List.mem_cons_self⟩, ⟨a7, rfl, fnd_get nF List.mem_cons_self⟩, ⟨⟨a8, rfl, fnd_get nF (List.mem_cons_of_mem _ List.mem_cons_self)⟩, ⟨a9, rfl, fnd_get nF (List.mem_cons_of_mem _ (List.mem_cons_of_mem _ List.mem_cons_self))⟩, a10, rfl, fnd_get nF (List.mem_cons_of_mem _ (List.mem_cons_of_mem _ (List.mem_cons_of_mem _ List.mem_cons_self)))⟩, ⟨a11, v11, w11, x11, rfl, fnd_get nF (List.mem_cons_of_mem _ (List.mem_cons_of_mem _ (List.mem_cons_of_mem _ (List.mem_cons_of_mem _ (List.mem_cons_of_mem _ (List.mem_cons_of_mem _ (List.mem_cons_of_mem _ (List.mem_cons_of_mem _ List.mem_cons_self)))))))), fnd_get nI (List.mem_cons_of_mem _ (List.mem_cons_of_mem _ (List.mem_cons_of_mem _ List.mem_cons_self)))⟩, ⟨a12, v12, w12, x12, rfl, fnd_get nF (List.mem_cons_of_mem _ (List.mem_cons_of_mem _ (List.mem_cons_of_mem _ (List.mem_cons_of_mem _ (List.mem_cons_of_mem _ (List.mem_cons_of_mem _ (List.mem_cons_of_mem _ (List.mem_cons_of_mem _ (List.mem_cons_of_mem _ List.mem_cons_self))))))))), fnd_get nI (List.mem_cons_of_mem _ (List.mem_cons_of_mem _ (List.mem_cons_of_mem _ (List.mem_cons_of_mem _ List.mem_cons_self))))⟩, ⟨a13, a21, a22, a23, a24, rfl, fnd_get nR (List.mem_cons_of_mem _ List.mem_cons_self), fnd_get nF (List.mem_cons_of_mem _ (List.mem_cons_of_mem _ (List.mem_cons_of_mem _ (List.mem_cons_of_mem _ List.mem_cons_self)))), fnd_get nF (List.mem_cons_of_mem _ (List.mem_cons_of_mem _ (List.mem_cons_of_mem _ (List.mem_cons_of_mem _ (List.mem_cons_of_mem _ List.mem_cons_self))))), fnd_get nF (List.mem_cons_of_mem _ (List.mem_cons_of_mem _ (List.mem_cons_of_mem _ (List.mem_cons_of_mem _ (List.mem_cons_of_mem _ (List.mem_cons_of_mem _ List.mem_cons_self)))))), fnd_get nF (List.mem_cons_of_mem _ (List.mem_cons_of_mem _ (List.mem_cons_of_mem _ (List.mem_cons_of_mem _ (List.mem_cons_of_mem _ (List.mem_cons_of_mem _ (List.mem_cons_of_mem _ List.mem_cons_self)))))))⟩, mi, rfl⟩
end STARTD
