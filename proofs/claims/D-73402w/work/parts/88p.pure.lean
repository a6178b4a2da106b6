/-! RUNS OF LIKE ONES, MARKS: the twin's way and the other's -/
theorem eqT_self (a : Tr) : eqT a a = true := by unfold eqT; rw [cmpT_self]; rfl
theorem eqT_ff {a b : Tr} (ha : okT0 a) (hb : okT0 b) (h : a ≠ b) : eqT a b = false := by
  cases e : eqT a b with
  | false => rfl
  | true => exact absurd ((eqT_iff ha hb).mp e) h
/-- how many of a row's first ones are like a tree -/
def twl (a : Tr) (t : List Tr) : Nat := (t.takeWhile fun v => eqT v a).length
def factN (n : Nat) : Nat := if n < 2 then 1 else if n = 2 then 2 else if n = 3 then 6 else 24
def symD : Nat → List Tr → Nat
  | 0, _ => 1
  | _ + 1, [] => 1
  | f + 1, a :: t => factN (1 + twl a t) * symD f (t.drop (twl a t))
def prodW : List Tr → Nat
  | [] => 1
  | a :: t => waysT a * prodW t
def rprod : List Tr → Option Tr → Nat → Nat
  | [], _, _ => 1
  | a :: t, p, r => runT p r a * rprod t (some a) (runT p r a)
theorem ways_rp : ∀ (l : List Tr) (p : Option Tr) (r : Nat), waysA (mkT l) p r = prodW l * rprod l p r
  | [], _, _ => rfl
  | a :: t, p, r => by
    simp only [mkT, waysA, prodW, rprod, ways_rp t]
    rw [show waysA a none 0 = waysT a from rfl]
    grind
theorem twl_nil (a : Tr) : twl a [] = 0 := rfl
theorem twl_cons (a b : Tr) (t : List Tr) : twl a (b :: t) = if eqT b a = true then twl a t + 1 else 0 := by
  unfold twl
  rw [List.takeWhile_cons]
  by_cases c : eqT b a = true
  · simp [c]
  · simp [c]
theorem twl_le (a : Tr) : ∀ t : List Tr, twl a t ≤ t.length
  | [] => Nat.le_refl _
  | b :: t => by
    have := twl_le a t
    rw [twl_cons]
    split
    · simp; omega
    · simp
def facR : Nat → Nat → Nat
  | 0, _ => 1
  | m + 1, r => (r + 1) * facR m (r + 1)
theorem rp_run (a : Tr) (ha : okT0 a) : ∀ (t : List Tr) (r : Nat), (∀ v, v ∈ t → okT0 v) → rprod t (some a) r = facR (twl a t) r * rprod (t.drop (twl a t)) none 0
  | [], r, _ => rfl
  | b :: t, r, ho => by
    have hb := ho b List.mem_cons_self
    have ht : ∀ v, v ∈ t → okT0 v := fun v hv => ho v (List.mem_cons_of_mem _ hv)
    rw [twl_cons]
    by_cases c : eqT b a = true
    · have e := (eqT_iff hb ha).mp c
      subst e
      rw [if_pos c]
      have hr : runT (some b) r b = r + 1 := by simp [runT, eqO, eqT_self]
      simp only [rprod, hr, List.drop_succ_cons, facR]
      rw [rp_run b ha t (r + 1) ht]
      grind
    · rw [if_neg c]
      have e2 : eqT a b = false := eqT_ff ha hb (fun e => c (by rw [e]; exact eqT_self b))
      have hr : runT (some a) r b = 1 := by simp [runT, eqO, e2]
      have hr2 : runT none 0 b = 1 := by simp [runT, eqO]
      simp only [rprod, hr, hr2, List.drop_zero, facR]
      omega
theorem sym_rp : ∀ (f : Nat) (l : List Tr), l.length ≤ f → l.length ≤ 4 → (∀ v, v ∈ l → okT0 v) → symD f l = rprod l none 0
  | 0, [], _, _, _ => rfl
  | 0, _ :: _, h, _, _ => by simp at h
  | f + 1, [], _, _, _ => rfl
  | f + 1, a :: t, h, h4, ho => by
    have ha := ho a List.mem_cons_self
    have ht : ∀ v, v ∈ t → okT0 v := fun v hv => ho v (List.mem_cons_of_mem _ hv)
    have hle := twl_le a t
    simp only [List.length_cons] at h h4
    have hr : runT none 0 a = 1 := by simp [runT, eqO]
    simp only [symD, rprod, hr]
    rw [rp_run a ha t 1 ht, sym_rp f (t.drop (twl a t)) (by simp; omega) (by simp; omega) (fun v hv => ht v (List.mem_of_mem_drop hv))]
    have : factN (1 + twl a t) = facR (twl a t) 1 := by
      have h3 : twl a t ≤ 3 := by omega
      match twl a t, h3 with
      | 0, _ => rfl
      | 1, _ => rfl
      | 2, _ => rfl
      | 3, _ => rfl
    rw [this]
    omega
theorem ways_mk {l : List Tr} (hl : l.length ≤ 4) (ho : ∀ a, a ∈ l → okT0 a) : waysT (mkT l) = prodW l * symD 5 l := by
  unfold waysT
  rw [ways_rp, sym_rp 5 l (by omega) hl ho]
/-! marks -/
def mrkD (w : Tr → Wm) : Nat → List Tr → Wm → Wm
  | 0, _, acc => acc
  | _ + 1, [], acc => acc
  | f + 1, a :: t, acc => mrkD w f (t.drop (twl a t)) (timesM acc (sevM (w a) (1 + twl a t)))
theorem grp_cons (w : Tr → Wm) : ∀ (t : List Tr) (a : Tr), okT0 a → (∀ v, v ∈ t → okT0 v) → grpM ((a :: t).map fun v => (v, w v)) = (a, w a, 1 + twl a t) :: grpM ((t.drop (twl a t)).map fun v => (v, w v))
  | [], a, _, _ => by simp [grpM, twl_nil]
  | b :: t, a, ha, ho => by
    have hb := ho b List.mem_cons_self
    have ht : ∀ v, v ∈ t → okT0 v := fun v hv => ho v (List.mem_cons_of_mem _ hv)
    have ih := grp_cons w t b hb ht
    rw [List.map_cons] at ih ⊢
    rw [grpM, List.map_cons, ih]
    simp only
    rw [twl_cons]
    by_cases c : b = a
    · subst c
      rw [eqT_self, if_pos rfl]
      simp only [cond_true, List.drop_succ_cons]
      rw [show 1 + twl b t + 1 = 1 + (twl b t + 1) by omega]
    · rw [eqT_ff ha hb (Ne.symm c), if_neg (by rw [eqT_ff hb ha c]; decide)]
      simp only [cond_false, List.drop_zero]
      rw [List.map_cons, ih]
theorem mrk_prod (w : Tr → Wm) : ∀ (f : Nat) (l : List Tr) (acc : Wm), l.length ≤ f → (∀ v, v ∈ l → okT0 v) → mrkD w f l acc = (grpM (l.map fun v => (v, w v))).foldl (fun acc g => timesM acc (sevM g.2.1 g.2.2)) acc
  | 0, [], _, _, _ => rfl
  | 0, _ :: _, _, h, _ => by simp at h
  | f + 1, [], _, _, _ => rfl
  | f + 1, a :: t, acc, h, ho => by
    have ha := ho a List.mem_cons_self
    have ht : ∀ v, v ∈ t → okT0 v := fun v hv => ho v (List.mem_cons_of_mem _ hv)
    have hle := twl_le a t
    simp only [List.length_cons] at h
    rw [grp_cons w t a ha ht, List.foldl_cons]
    simp only [mrkD]
    exact mrk_prod w f _ _ (by simp; omega) (fun v hv => ht v (List.mem_of_mem_drop hv))
abbrev wOf (a : Tr) : Wm := marksT a (3 - ((kidsT a).length : Int))
theorem marks_mk {l : List Tr} {h : Int} (hl : l.length ≤ 5) (ho : ∀ a, a ∈ l → okT0 a) : marksT (mkT l) h = mrkD wOf 5 l (hyd h) := by
  unfold marksT prodM
  rw [kidsM_eq, kids_mk, mrk_prod wOf 5 l _ hl ho]
/-- w k is at most x to the k -/
def wB (x : Nat) (w : Wm) : Prop := w 0 ≤ 1 ∧ w 1 ≤ x ∧ w 2 ≤ x * x ∧ w 3 ≤ x * x * x
theorem wB.up {x y : Nat} {w : Wm} (h : wB x w) (hxy : x ≤ y) : wB y w := by
  have h2 := Nat.mul_le_mul hxy hxy
  have h3 := Nat.mul_le_mul h2 hxy
  exact ⟨h.1, by have := h.2.1; omega, by have := h.2.2.1; omega, by have := h.2.2.2; omega⟩
theorem times4 (a b : Wm) : timesM a b 0 = a 0 * b 0 ∧ timesM a b 1 = a 0 * b 1 + a 1 * b 0 ∧ timesM a b 2 = a 0 * b 2 + a 1 * b 1 + a 2 * b 0 ∧ timesM a b 3 = a 0 * b 3 + a 1 * b 2 + a 2 * b 1 + a 3 * b 0 := by
  simp [timesM, sumR]
theorem wB_times {x y : Nat} {a b : Wm} (ha : wB x a) (hb : wB y b) : wB (x + y) (timesM a b) := by
  obtain ⟨a0, a1, a2, a3⟩ := ha
  obtain ⟨b0, b1, b2, b3⟩ := hb
  obtain ⟨t0, t1, t2, t3⟩ := times4 a b
  unfold wB
  rw [t0, t1, t2, t3]
  have m00 := Nat.mul_le_mul a0 b0
  have m01 := Nat.mul_le_mul a0 b1
  have m10 := Nat.mul_le_mul a1 b0
  have m02 := Nat.mul_le_mul a0 b2
  have m11 := Nat.mul_le_mul a1 b1
  have m20 := Nat.mul_le_mul a2 b0
  have m03 := Nat.mul_le_mul a0 b3
  have m12 := Nat.mul_le_mul a1 b2
  have m21 := Nat.mul_le_mul a2 b1
  have m30 := Nat.mul_le_mul a3 b0
  refine ⟨by omega, by omega, ?_, ?_⟩
  · have e : (x + y) * (x + y) = x * x + 2 * (x * y) + y * y := by grind
    rw [e]; omega
  · have e : (x + y) * (x + y) * (x + y) = x * x * x + 3 * (x * x * y) + 3 * (x * (y * y)) + y * y * y := by grind
    rw [e]; omega
theorem wB_sev {y n : Nat} {w : Wm} (h : wB y w) (hn : 1 ≤ n) : wB (n * y) (sevM w n) := by
  obtain ⟨h0, h1, h2, h3⟩ := h
  have e0 : sevM w n 0 = w 0 := by simp [sevM]
  have e1 : sevM w n 1 = w 1 := by simp [sevM]
  have e2 : sevM w n 2 = w 2 + if 1 < n then w 1 * (w 1 + 1) / 2 else 0 := by simp [sevM]
  have e3 : sevM w n 3 = w 3 + ((if 1 < n then w 1 * w 2 else 0) + if 2 < n then w 1 * (w 1 + 1) * (w 1 + 2) / 6 else 0) := by simp [sevM]
  have p1 : y ≤ n * y := Nat.le_mul_of_pos_left _ hn
  have p2 : y * y ≤ n * y * (n * y) := Nat.mul_le_mul p1 p1
  have p3 : y * y * y ≤ n * y * (n * y) * (n * y) := Nat.mul_le_mul p2 p1
  have q2 : w 1 * (w 1 + 1) / 2 ≤ y * y := by
    have a1 : w 1 * w 1 ≤ y * y := Nat.mul_le_mul h1 h1
    have a2 : w 1 ≤ w 1 * w 1 := by
      cases w 1 with
      | zero => exact Nat.le_refl _
      | succ m => exact Nat.le_mul_of_pos_left _ (Nat.succ_pos m)
    have a3 : w 1 * (w 1 + 1) = w 1 * w 1 + w 1 := by grind
    rw [a3]; omega
  have q3 : w 1 * w 2 ≤ y * y * y := by
    have := Nat.mul_le_mul h1 h2
    rw [← Nat.mul_assoc] at this
    exact this
  have q4 : w 1 * (w 1 + 1) * (w 1 + 2) / 6 ≤ y * y * y := by
    have a1 : w 1 * w 1 * w 1 ≤ y * y * y := Nat.mul_le_mul (Nat.mul_le_mul h1 h1) h1
    have a2 : w 1 ≤ w 1 * w 1 := by
      cases w 1 with
      | zero => exact Nat.le_refl _
      | succ m => exact Nat.le_mul_of_pos_left _ (Nat.succ_pos m)
    have a4 : w 1 * w 1 ≤ w 1 * w 1 * w 1 := by
      have := Nat.mul_le_mul_left (w 1) a2
      rw [← Nat.mul_assoc] at this
      exact this
    have a3 : w 1 * (w 1 + 1) * (w 1 + 2) = w 1 * w 1 * w 1 + 3 * (w 1 * w 1) + 2 * w 1 := by grind
    rw [a3]; omega
  by_cases c1 : 1 < n
  · have r2 : 4 * (y * y) ≤ n * y * (n * y) := by
      have := Nat.mul_le_mul (Nat.mul_le_mul_right y (show 2 ≤ n by omega)) (Nat.mul_le_mul_right y (show 2 ≤ n by omega))
      have e : 2 * y * (2 * y) = 4 * (y * y) := by grind
      omega
    have r3 : 8 * (y * y * y) ≤ n * y * (n * y) * (n * y) := by
      have := Nat.mul_le_mul r2 (Nat.mul_le_mul_right y (show 2 ≤ n by omega))
      have e : 4 * (y * y) * (2 * y) = 8 * (y * y * y) := by grind
      omega
    refine ⟨by rw [e0]; exact h0, by rw [e1]; omega, ?_, ?_⟩
    · rw [e2, if_pos c1]; omega
    · rw [e3, if_pos c1]; split <;> omega
  · refine ⟨by rw [e0]; exact h0, by rw [e1]; omega, ?_, ?_⟩
    · rw [e2, if_neg c1]; omega
    · rw [e3, if_neg c1, if_neg (by omega)]; omega
theorem wB_hyd {h : Int} {x : Nat} (hx : h ≤ x) : wB x (hyd h) := by
  unfold wB hyd
  have q : ∀ k : Nat, 1 ≤ k → (if (k : Int) ≤ h then 1 else 0) ≤ x := fun k hk => by split <;> omega
  have s : ∀ k : Nat, 1 ≤ k → (if (k : Int) ≤ h then 1 else 0) ≤ x * x := fun k hk => by
    split
    · have : 1 ≤ x := by omega
      exact Nat.mul_le_mul this this
    · omega
  have t : ∀ k : Nat, 1 ≤ k → (if (k : Int) ≤ h then 1 else 0) ≤ x * x * x := fun k hk => by
    split
    · have : 1 ≤ x := by omega
      exact Nat.mul_le_mul (Nat.mul_le_mul this this) this
    · omega
  exact ⟨by split <;> omega, q 1 (by omega), s 2 (by omega), t 3 (by omega)⟩
def sumS (l : List Tr) : Nat := (l.map szT).sum
theorem wB_mrk {w : Tr → Wm} : ∀ (f : Nat) (l : List Tr) (acc : Wm) (x : Nat), l.length ≤ f → (∀ v, v ∈ l → okT0 v) → (∀ v, v ∈ l → wB (3 * szT v) (w v)) → wB x acc → wB (x + 3 * sumS l) (mrkD w f l acc)
  | 0, [], acc, x, _, _, _, ha => ha.up (by omega)
  | 0, _ :: _, _, _, h, _, _, _ => by simp at h
  | f + 1, [], acc, x, _, _, _, ha => ha.up (by omega)
  | f + 1, a :: t, acc, x, h, ho, hw, ha => by
    have ht : ∀ v, v ∈ t → okT0 v := fun v hv => ho v (List.mem_cons_of_mem _ hv)
    have hle := twl_le a t
    simp only [List.length_cons] at h
    simp only [mrkD]
    have step := wB_times ha (wB_sev (n := 1 + twl a t) (hw a List.mem_cons_self) (by omega))
    have rest := wB_mrk (w := w) f (t.drop (twl a t)) _ _ (by simp; omega) (fun v hv => ht v (List.mem_of_mem_drop hv)) (fun v hv => hw v (List.mem_cons_of_mem _ (List.mem_of_mem_drop hv))) step
    refine rest.up ?_
    have hs : ∀ (t : List Tr), (∀ v, v ∈ t → okT0 v) → sumS t = twl a t * szT a + sumS (t.drop (twl a t)) := by
      intro t
      induction t with
      | nil => intro _; simp [twl_nil, sumS]
      | cons b t ih =>
        intro ho2
        rw [twl_cons]
        by_cases c : eqT b a = true
        · rw [if_pos c, List.drop_succ_cons]
          have := ih fun v hv => ho2 v (List.mem_cons_of_mem _ hv)
          have e := eqT_sz c
          simp only [sumS, List.map_cons, List.sum_cons] at this ⊢
          rw [this, e, Nat.add_mul]
          omega
        · rw [if_neg c]; simp
    have h1 := hs t ht
    have h2 : sumS (a :: t) = szT a + sumS t := by simp [sumS]
    rw [h2, h1]
    have e : (1 + twl a t) * (3 * szT a) = 3 * szT a + 3 * (twl a t * szT a) := by grind
    omega
