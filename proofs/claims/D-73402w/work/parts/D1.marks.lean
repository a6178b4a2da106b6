/-! MARKS: rows of four longs -/
def MkAt (h : AH) (a : Nat) (w : Wm) : Prop := a < h.sz ∧ ∃ X, h.I a = (2, X) ∧ X.length = 4 ∧ ∀ k, k < 4 → gt X k = ((w k : Nat) : Int)
theorem MkAt.mono {h h' : AH} {c s a : Nat} {w : Wm} (e : ext c s h h') (k : MkAt h a w) : MkAt h' a w := by
  obtain ⟨k0, X, k1, k2⟩ := k
  have e1 := e.1
  exact ⟨by omega, X, (e.2.2.2.2.1 a k0).1.trans k1, k2⟩
abbrev mkNew (h : AH) (c s : Nat) (w : Wm) : Rs → AH → Prop := fun r h' => ∃ a, r = .inl (some (vR (some a))) ∧ h.sz ≤ a ∧ ext c s h h' ∧ MkAt h' a w
section TIMES
variable {d : Nat} {h : AH}
abbrev tmF (a b : Wm) (m i : Nat) : Nat := if i ≤ m then a i * b (m - i) else 0
theorem tmF_sum (a b : Wm) {m : Nat} (hm : m < 4) : sumR 4 (tmF a b m) = timesM a b m := by
  have h4 : ∀ f : Nat → Nat, sumR 4 f = f 0 + f 1 + f 2 + f 3 := fun f => by simp [sumR]
  rw [h4]
  obtain ⟨t0, t1, t2, t3⟩ := times4 a b
  unfold tmF
  rcases (show m = 0 ∨ m = 1 ∨ m = 2 ∨ m = 3 by omega) with rfl | rfl | rfl | rfl
  · rw [t0]; simp
  · rw [t1]; simp
  · rw [t2]; simp
  · rw [t3]; simp
abbrev tmV (a b : Wm) (i k m : Nat) : Nat := sumR i (tmF a b m) + (if i ≤ m ∧ m < i + k then tmF a b m i else 0)
theorem sumR_succ (n : Nat) (f : Nat → Nat) : sumR (n + 1) f = sumR n f + f n := rfl
theorem ctimes_spec {x y : Nat} {a b : Wm} (hx : MkAt h x a) (hy : MkAt h y b) (hB : ∀ k, k < 4 → timesM a b k ≤ 1000000000) : wp (d + 1) 426 (0, ent 5 [vR (some x), vR (some y)], [], h) (mkNew h 1 4 (timesM a b)) := by
  obtain ⟨x0, X, x1, x2, x3⟩ := hx
  obtain ⟨y0, Y, y1, y2, y3⟩ := hy
  have hN := newI_at (h := h) (t := 2) (x := List.replicate 4 0)
  have e1 : ext 1 4 h (h.newI 2 (List.replicate 4 0)) := ext_newI
  have HI : ∀ Z, ((h.newI 2 (List.replicate 4 0)).setI h.sz Z).I h.sz = (2, Z) := fun Z => setI_at hN
  have HX : ∀ Z, ((h.newI 2 (List.replicate 4 0)).setI h.sz Z).I x = (2, X) := fun Z => by rw [setI_ne (by omega), newI_ne (by omega)]; exact x1
  have HY : ∀ Z, ((h.newI 2 (List.replicate 4 0)).setI h.sz Z).I y = (2, Y) := fun Z => by rw [setI_ne (by omega), newI_ne (by omega)]; exact y1
  have h4 : ∀ f : Nat → Nat, sumR 4 f = f 0 + f 1 + f 2 + f 3 := fun f => by simp [sumR]
  have inner : ∀ (i : Nat), i < 4 → (∀ Z, Z.length = 4 → (∀ m, m < 4 → gt Z m = ((sumR (i + 1) (tmF a b m) : Nat) : Int)) → wp (d + 1) 426 (6, [some (vR (some x)), some (vR (some y)), some (vR (some h.sz)), some (vI ((i + 1 : Nat) : Int)), some (vI ((4 - i : Nat) : Int))], [], (h.newI 2 (List.replicate 4 0)).setI h.sz Z) (mkNew h 1 4 (timesM a b))) →
      ∀ (j k : Nat) (Z : List Int), j + k = 4 - i → Z.length = 4 → (∀ m, m < 4 → gt Z m = ((tmV a b i k m : Nat) : Int)) → wp (d + 1) 426 (14, [some (vR (some x)), some (vR (some y)), some (vR (some h.sz)), some (vI ((i : Nat) : Int)), some (vI ((k : Nat) : Int))], [], (h.newI 2 (List.replicate 4 0)).setI h.sz Z) (mkNew h 1 4 (timesM a b)) := by
    intro i hi hQ j
    induction j with
    | zero =>
      intro k Z hj hZ hV
      obtain rfl : k = 4 - i := by omega
      refine wp.go [14, 6] 20 fun W C hW hC => ?_
      conv => whnf
      rw [isub_eq (by omega)]
      refine ⟨fun _ => ?_, fun q => absurd q (by omega)⟩
      (conv => whnf); simp (disch := omega) only [iadd_eq, isub_eq, imul_eq]
      refine hW _ (hQ Z hZ fun m hm => ?_)
      rw [hV m hm, sumR_succ]
      congr 1
      show sumR i (tmF a b m) + (if i ≤ m ∧ m < i + (4 - i) then tmF a b m i else 0) = _
      congr 1
      by_cases q : i ≤ m
      · rw [if_pos ⟨q, by omega⟩]
      · rw [if_neg (by omega)]
        show 0 = if i ≤ m then _ else 0
        rw [if_neg q]
    | succ j ih =>
      intro k Z hj hZ hV
      have hik : i + k < 4 := by omega
      have hterm : a i * b k = tmF a b (i + k) i := by
        show _ = if i ≤ i + k then a i * b (i + k - i) else 0
        rw [if_pos (by omega), Nat.add_sub_cancel_left]
      have hle : sumR i (tmF a b (i + k)) + tmF a b (i + k) i ≤ 1000000000 := by
        rw [← sumR_succ]
        exact Nat.le_trans (sumR_mono (j := 4) (by omega)) (by rw [tmF_sum a b hik]; exact hB _ hik)
      have hz0 : gt Z (i + k) = ((sumR i (tmF a b (i + k)) : Nat) : Int) := by
        rw [hV _ hik]
        unfold tmV
        rw [if_neg (by omega), Nat.add_zero]
      refine wp.go [14, 6] 40 fun W C hW hC => ?_
      conv => whnf
      rw [isub_eq (by omega)]
      refine ⟨fun q => absurd q (by omega), fun _ => ?_⟩
      conv => whnf
      rw [iaddN (by omega)]
      refine ⟨_, _, _, HI _, rfl, by omega, gt_at (i + k) (by omega) (by omega), ?_⟩
      refine ⟨_, _, _, HX _, rfl, by omega, gt_at i (by omega) (by omega), ?_⟩
      refine ⟨_, _, _, HY _, rfl, by omega, gt_at k (by omega) (by omega), ?_⟩
      rw [x3 i hi, y3 k (by omega), hz0]
      conv => whnf
      rw [lmulN (by rw [hterm]; omega), laddN (by rw [hterm]; omega)]
      refine ⟨_, HI _, by omega, by omega, ?_⟩
      rw [setI_setI, Int.toNat_natCast]
      (conv => whnf); simp (disch := omega) only [iadd_eq, isub_eq, imul_eq]
      refine hW _ (ih (k + 1) _ (by omega) (by rw [List.length_set]; exact hZ) fun m hm => ?_)
      rw [gt_set (by omega)]
      by_cases q : m = i + k
      · rw [if_pos q, q, hterm]
        unfold tmV
        rw [if_pos (by omega)]
      · rw [if_neg q, hV m hm]
        unfold tmV
        congr 2
        by_cases q2 : i ≤ m ∧ m < i + k
        · rw [if_pos q2, if_pos (by omega)]
        · rw [if_neg q2, if_neg (by omega)]
  have outer : ∀ (j i : Nat) (Z : List Int) (x4 : Option AV), j + i = 4 → Z.length = 4 → (∀ m, m < 4 → gt Z m = ((sumR i (tmF a b m) : Nat) : Int)) → wp (d + 1) 426 (6, [some (vR (some x)), some (vR (some y)), some (vR (some h.sz)), some (vI ((i : Nat) : Int)), x4], [], (h.newI 2 (List.replicate 4 0)).setI h.sz Z) (mkNew h 1 4 (timesM a b)) := by
    intro j
    induction j with
    | zero =>
      intro i Z x4 hj hZ hV
      obtain rfl : i = 4 := by omega
      refine wp.go [14] 20 fun W C hW hC => ?_
      refine ⟨fun _ => ?_, fun q => absurd q (by decide)⟩
      refine ⟨h.sz, rfl, Nat.le_refl _, ext.setI e1 (Nat.le_refl _), by show h.sz < h.sz + 1; omega, Z, HI Z, hZ, fun m hm => ?_⟩
      rw [hV m hm, tmF_sum a b hm]
    | succ j ih =>
      intro i Z x4 hj hZ hV
      refine wp.go [14] 20 fun W C hW hC => ?_
      refine ⟨fun q => absurd q (by omega), fun _ => ?_⟩
      refine hW _ (inner i (by omega) (fun Z' h1 h2 => ih (i + 1) Z' _ (by omega) h1 h2) (4 - i) 0 Z (by omega) hZ fun m hm => ?_)
      rw [hV m hm]
      unfold tmV
      rw [if_neg (by omega), Nat.add_zero]
  have key := outer 4 0 (List.replicate 4 0) none rfl rfl (fun m hm => by rcases (show m = 0 ∨ m = 1 ∨ m = 2 ∨ m = 3 by omega) with rfl | rfl | rfl | rfl <;> rfl)
  rw [setI_self hN] at key
  refine wp.go [6] 20 fun W C hW hC => ?_
  refine ⟨by decide, by decide, ?_⟩
  exact hW _ key
theorem several_spec {x n : Nat} {w : Wm} (hx : MkAt h x w) (hB : wK w) (hn1 : 1 ≤ n) (hn : n ≤ 4) : wp (d + 1) 425 (0, ent 3 [vR (some x), vI ((n : Nat) : Int)], [], h) (mkNew h 1 4 (sevM w n)) := by
  obtain ⟨x0, X, x1, x2, x3⟩ := hx
  obtain ⟨b0, b1, b2, b3⟩ := hB
  have hN := newI_at (h := h) (t := 2) (x := X)
  have e1 : ext 1 4 h (h.newI 2 X) := by
    have := ext_newI (h := h) (t := 2) (x := X)
    rw [x2] at this
    exact this
  have HI : ∀ Z, ((h.newI 2 X).setI h.sz Z).I h.sz = (2, Z) := fun Z => setI_at hN
  have HX : ∀ Z, ((h.newI 2 X).setI h.sz Z).I x = (2, X) := fun Z => by rw [setI_ne (by omega), newI_ne (by omega)]; exact x1
  have m1 : w 1 * (w 1 + 1) ≤ 45 * 46 := Nat.mul_le_mul b1 (by omega)
  have m2 : w 1 * w 2 ≤ 45 * 2025 := Nat.mul_le_mul b1 b2
  have m3 : w 1 * (w 1 + 1) * (w 1 + 2) ≤ 45 * 46 * 47 := Nat.mul_le_mul m1 (by omega)
  have s0 : sevM w n 0 = w 0 := by simp [sevM]
  have s1 : sevM w n 1 = w 1 := by simp [sevM]
  have s2 : sevM w n 2 = w 2 + (if 1 < n then w 1 * (w 1 + 1) / 2 else 0) := by simp [sevM]
  have s3 : sevM w n 3 = w 3 + ((if 1 < n then w 1 * w 2 else 0) + (if 2 < n then w 1 * (w 1 + 1) * (w 1 + 2) / 6 else 0)) := by simp [sevM]
  have fin : ∀ Z, Z.length = 4 → (∀ m, m < 4 → gt Z m = ((sevM w n m : Nat) : Int)) → wp (d + 1) 425 (77, [some (vR (some x)), some (vI ((n : Nat) : Int)), some (vR (some h.sz))], [], (h.newI 2 X).setI h.sz Z) (mkNew h 1 4 (sevM w n)) := by
    intro Z hZ hV
    refine wp.go [] 10 fun W C hW hC => ?_
    exact ⟨h.sz, rfl, Nat.le_refl _, ext.setI e1 (Nat.le_refl _), by show h.sz < h.sz + 1; omega, Z, HI Z, hZ, hV⟩
  have mid : ∀ Z, Z.length = 4 → gt Z 0 = ((w 0 : Nat) : Int) → gt Z 1 = ((w 1 : Nat) : Int) → gt Z 2 = ((sevM w n 2 : Nat) : Int) → gt Z 3 = ((w 3 + (if 1 < n then w 1 * w 2 else 0) : Nat) : Int) → wp (d + 1) 425 (45, [some (vR (some x)), some (vI ((n : Nat) : Int)), some (vR (some h.sz))], [], (h.newI 2 X).setI h.sz Z) (mkNew h 1 4 (sevM w n)) := by
    intro Z hZ z0 z1 z2 z3
    have hz3 : w 3 + (if 1 < n then w 1 * w 2 else 0) ≤ 1000000 := by split <;> omega
    generalize hg : w 3 + (if 1 < n then w 1 * w 2 else 0) = g3 at z3 hz3
    refine wp.go [77] 40 fun W C hW hC => ?_
    refine ⟨fun q => hW _ (fin Z hZ fun m hm => ?_), fun q => ?_⟩
    · rcases (show m = 0 ∨ m = 1 ∨ m = 2 ∨ m = 3 by omega) with rfl | rfl | rfl | rfl
      · rw [s0]; exact z0
      · rw [s1]; exact z1
      · exact z2
      · rw [s3, z3, ← hg, if_neg (show ¬ 2 < n by omega), Nat.add_zero]
    · refine ⟨_, _, _, HI _, rfl, by decide, gt_at 3 rfl (by omega), ?_⟩
      refine ⟨_, _, _, HX _, rfl, by decide, gt_at 1 rfl (by omega), ?_⟩
      refine ⟨_, _, _, HX _, rfl, by decide, gt_at 1 rfl (by omega), ?_⟩
      refine ⟨_, _, _, HX _, rfl, by decide, gt_at 1 rfl (by omega), ?_⟩
      refine ⟨by decide, ?_⟩
      rw [x3 1 (by decide), z3]
      rw [show ladd ((w 1 : Nat) : Int) 1 = ((w 1 + 1 : Nat) : Int) from laddN (b := 1) (by omega), show ladd ((w 1 : Nat) : Int) 2 = ((w 1 + 2 : Nat) : Int) from laddN (b := 2) (by omega), lmulN (by omega), lmulN (by omega), show ldiv ((w 1 * (w 1 + 1) * (w 1 + 2) : Nat) : Int) 6 = ((w 1 * (w 1 + 1) * (w 1 + 2) / 6 : Nat) : Int) from ldivN (b := 6) (by omega) (by decide) (by decide)]
      refine ⟨_, HI _, by decide, by rw [hZ]; decide, ?_⟩
      rw [setI_setI, show ((3 : Int).toNat) = 3 from rfl, laddN (by omega)]
      refine hW _ (fin _ (by rw [List.length_set]; exact hZ) fun m hm => ?_)
      rw [gt_set (by omega)]
      rcases (show m = 0 ∨ m = 1 ∨ m = 2 ∨ m = 3 by omega) with rfl | rfl | rfl | rfl
      · rw [if_neg (by decide), s0]; exact z0
      · rw [if_neg (by decide), s1]; exact z1
      · rw [if_neg (by decide)]; exact z2
      · rw [if_pos rfl, s3, ← hg, if_pos (show 2 < n by omega), Nat.add_assoc]
  have e0 : (h.newI 2 X).setI h.sz X = h.newI 2 X := setI_self hN
  refine wp.go [45] 60 fun W C hW hC => ?_
  refine ⟨rfl, Or.inl ⟨_, by decide, x1, ?_⟩⟩
  refine ⟨fun b hb => by cases hb; exact ⟨(1, 2), rfl, by decide, (show ((h.newI 2 X).I h.sz).1 = 2 by rw [hN])⟩, ?_⟩
  refine ⟨fun q => ?_, fun q => ?_⟩
  · have key := mid X x2 (x3 0 (by decide)) (x3 1 (by decide)) (by rw [x3 2 (by decide), s2, if_neg (by omega), Nat.add_zero]) (by rw [x3 3 (by decide), if_neg (by omega), Nat.add_zero])
    rw [e0] at key
    exact hW _ key
  · have HX0 : (h.newI 2 X).I x = (2, X) := by rw [newI_ne (by omega)]; exact x1
    refine ⟨_, _, _, hN, rfl, by decide, gt_at 2 rfl (by omega), ?_⟩
    refine ⟨_, _, _, HX0, rfl, by decide, gt_at 1 rfl (by omega), ?_⟩
    refine ⟨_, _, _, HX0, rfl, by decide, gt_at 1 rfl (by omega), ?_⟩
    refine ⟨by decide, ?_⟩
    rw [x3 1 (by decide), x3 2 (by decide)]
    rw [show ladd ((w 1 : Nat) : Int) 1 = ((w 1 + 1 : Nat) : Int) from laddN (b := 1) (by omega), lmulN (by omega), show ldiv ((w 1 * (w 1 + 1) : Nat) : Int) 2 = ((w 1 * (w 1 + 1) / 2 : Nat) : Int) from ldivN (b := 2) (by omega) (by decide) (by decide)]
    refine ⟨_, hN, by decide, by rw [x2]; decide, ?_⟩
    rw [laddN (by omega)]
    refine ⟨_, _, _, HI _, rfl, by decide, gt_at 3 rfl (by rw [List.length_set]; omega), ?_⟩
    refine ⟨_, _, _, HX _, rfl, by decide, gt_at 1 rfl (by omega), ?_⟩
    refine ⟨_, _, _, HX _, rfl, by decide, gt_at 2 rfl (by omega), ?_⟩
    rw [show ((2 : Int).toNat) = 2 from rfl, gt_set (by omega), if_neg (by decide), x3 1 (by decide), x3 2 (by decide), x3 3 (by decide)]
    refine ⟨_, HI _, by decide, by rw [List.length_set, x2]; decide, ?_⟩
    rw [setI_setI, show ((3 : Int).toNat) = 3 from rfl, lmulN (by omega), laddN (by omega)]
    refine hW _ (mid _ (by rw [List.length_set, List.length_set]; exact x2) ?_ ?_ ?_ ?_)
    · rw [gt_set (by rw [List.length_set]; omega), if_neg (by decide), gt_set (by omega), if_neg (by decide)]; exact x3 0 (by decide)
    · rw [gt_set (by rw [List.length_set]; omega), if_neg (by decide), gt_set (by omega), if_neg (by decide)]; exact x3 1 (by decide)
    · rw [gt_set (by rw [List.length_set]; omega), if_neg (by decide), gt_set (by omega), if_pos rfl, s2, if_pos (by omega)]
    · rw [gt_set (by rw [List.length_set]; omega), if_pos rfl, if_pos (by omega)]
end TIMES
