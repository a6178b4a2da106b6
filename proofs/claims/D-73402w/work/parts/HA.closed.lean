/-! ALL CODES of a size, as they come into the map: closed checks -/
def onesL (n : Nat) : List Tr := (rowsB brL 4 (n - 1) ((n - 1) / 2) none).map mkT
def twosL (n : Nat) : List (Tr × Tr) := cond (Nat.beq (n % 2) 0) ((brL (n / 2)).flatMap fun a => (brL (n / 2)).flatMap fun b => cond (decide (0 ≤ cmpT a b)) [(a, b)] []) []
def cdL (n : Nat) : List (List Nat) := (onesL n).map (fun T => preT T 0) ++ (twosL n).map fun p => preT (rootW (p.1, some p.2)) 0
def ok3B : Tr → Bool
  | .var _ => true
  | .op a b => (Nat.ble (kidsT a).length 3 && ok3B a) && ok3B b
theorem ok3B_ok : ∀ {t : Tr}, ok3B t = true → ok3 t
  | .var _, _ => trivial
  | .op a b, h => by
    have h : ((Nat.ble (kidsT a).length 3 && ok3B a) && ok3B b) = true := h
    rw [Bool.and_eq_true, Bool.and_eq_true] at h
    exact ⟨⟨Nat.le_of_ble_eq_true h.1.1, ok3B_ok h.1.2⟩, ok3B_ok h.2⟩
def srtTB : List Tr → Bool
  | [] => true
  | a :: r => (r.all fun b => decide (0 ≤ cmpT a b)) && srtTB r
theorem srtTB_ok : ∀ {l : List Tr}, srtTB l = true → sortedT l
  | [], _ => trivial
  | a :: r, h => by
    have h : ((r.all fun b => decide (0 ≤ cmpT a b)) && srtTB r) = true := h
    rw [Bool.and_eq_true, List.all_eq_true] at h
    exact ⟨fun b hb => of_decide_eq_true (h.1 b hb), srtTB_ok h.2⟩
def chkOne (n : Nat) : Bool := (onesL n).all fun T => okB T && (Nat.ble (szT T) 16 && (Nat.ble (kidsT T).length 4 && ok3B T))
def chkBr (s : Nat) : Bool := (brL s).all fun t => okB t && (Nat.beq (szT t) s && (Nat.ble (kidsT t).length 3 && (ok3B t && srtTB (kidsT t))))
def nodB : List (List Nat) → Bool
  | [] => true
  | a :: r => (r.all fun b => !(eqL a b)) && nodB r
def chkAll (n : Nat) : Bool := nodB (perL n) && (((codesL n).all fun L => (perL n).any fun K => eqL K L) && ((perL n).all fun K => Nat.beq K.length n && K.all fun v => Nat.blt v 16))
theorem chkBr_ok : (List.range 6).all chkBr = true := by decide +kernel
theorem hgC_ok : (List.range 12).all (fun n => Nat.ble (hgC 4 (n - 1) ((n - 1) / 2) none) 820 && Nat.ble (rowsB brL 4 (n - 1) ((n - 1) / 2) none).length 160) = true := by decide +kernel
theorem cl1_1 : chkOne 1 = true := by decide +kernel
theorem cl2_1 : eqLL (cdL 1) (perL 1) = true := by decide +kernel
theorem cl3_1 : chkAll 1 = true := by decide +kernel
theorem cl1_2 : chkOne 2 = true := by decide +kernel
theorem cl2_2 : eqLL (cdL 2) (perL 2) = true := by decide +kernel
theorem cl3_2 : chkAll 2 = true := by decide +kernel
theorem cl1_3 : chkOne 3 = true := by decide +kernel
theorem cl2_3 : eqLL (cdL 3) (perL 3) = true := by decide +kernel
theorem cl3_3 : chkAll 3 = true := by decide +kernel
theorem cl1_4 : chkOne 4 = true := by decide +kernel
theorem cl2_4 : eqLL (cdL 4) (perL 4) = true := by decide +kernel
theorem cl3_4 : chkAll 4 = true := by decide +kernel
theorem cl1_5 : chkOne 5 = true := by decide +kernel
theorem cl2_5 : eqLL (cdL 5) (perL 5) = true := by decide +kernel
theorem cl3_5 : chkAll 5 = true := by decide +kernel
theorem cl1_6 : chkOne 6 = true := by decide +kernel
theorem cl2_6 : eqLL (cdL 6) (perL 6) = true := by decide +kernel
theorem cl3_6 : chkAll 6 = true := by decide +kernel
theorem cl1_7 : chkOne 7 = true := by decide +kernel
theorem cl2_7 : eqLL (cdL 7) (perL 7) = true := by decide +kernel
theorem cl3_7 : chkAll 7 = true := by decide +kernel
theorem cl1_8 : chkOne 8 = true := by decide +kernel
theorem cl2_8 : eqLL (cdL 8) (perL 8) = true := by decide +kernel
theorem cl3_8 : chkAll 8 = true := by decide +kernel
theorem cl1_9 : chkOne 9 = true := by decide +kernel
theorem cl2_9 : eqLL (cdL 9) (perL 9) = true := by decide +kernel
theorem cl3_9 : chkAll 9 = true := by decide +kernel
theorem cl1_10 : chkOne 10 = true := by decide +kernel
theorem cl2_10 : eqLL (cdL 10) (perL 10) = true := by decide +kernel
theorem cl3_10 : chkAll 10 = true := by decide +kernel
theorem cl1_11 : chkOne 11 = true := by decide +kernel
theorem cl2_11 : eqLL (cdL 11) (perL 11) = true := by decide +kernel
theorem cl3_11 : chkAll 11 = true := by decide +kernel
theorem cl1 (n : Nat) (h1 : 1 ≤ n) (h2 : n ≤ 11) : chkOne n = true := match n, h1, h2 with
  | 1, _, _ => cl1_1
  | 2, _, _ => cl1_2
  | 3, _, _ => cl1_3
  | 4, _, _ => cl1_4
  | 5, _, _ => cl1_5
  | 6, _, _ => cl1_6
  | 7, _, _ => cl1_7
  | 8, _, _ => cl1_8
  | 9, _, _ => cl1_9
  | 10, _, _ => cl1_10
  | 11, _, _ => cl1_11
theorem cl2 (n : Nat) (h1 : 1 ≤ n) (h2 : n ≤ 11) : eqLL (cdL n) (perL n) = true := match n, h1, h2 with
  | 1, _, _ => cl2_1
  | 2, _, _ => cl2_2
  | 3, _, _ => cl2_3
  | 4, _, _ => cl2_4
  | 5, _, _ => cl2_5
  | 6, _, _ => cl2_6
  | 7, _, _ => cl2_7
  | 8, _, _ => cl2_8
  | 9, _, _ => cl2_9
  | 10, _, _ => cl2_10
  | 11, _, _ => cl2_11
theorem cl3 (n : Nat) (h1 : 1 ≤ n) (h2 : n ≤ 11) : chkAll n = true := match n, h1, h2 with
  | 1, _, _ => cl3_1
  | 2, _, _ => cl3_2
  | 3, _, _ => cl3_3
  | 4, _, _ => cl3_4
  | 5, _, _ => cl3_5
  | 6, _, _ => cl3_6
  | 7, _, _ => cl3_7
  | 8, _, _ => cl3_8
  | 9, _, _ => cl3_9
  | 10, _, _ => cl3_10
  | 11, _, _ => cl3_11
theorem cd_per {n : Nat} (h1 : 1 ≤ n) (h2 : n ≤ 11) : cdL n = perL n := eqLL_eq (cl2 n h1 h2)
theorem nodB_ok : ∀ {l : List (List Nat)}, nodB l = true → l.Nodup
  | [], _ => List.nodup_nil
  | a :: r, h => by
    have h : ((r.all fun b => !(eqL a b)) && nodB r) = true := h
    rw [Bool.and_eq_true, List.all_eq_true] at h
    refine List.nodup_cons.mpr ⟨fun w => ?_, nodB_ok h.2⟩
    have h1 := h.1 a w
    have eqs : ∀ K : List Nat, eqL K K = true := by
      intro K
      induction K with
      | nil => rfl
      | cons a k ih => unfold eqL; rw [Nat.beq_refl, ih]; rfl
    rw [eqs a] at h1
    cases h1
theorem cd_all {n : Nat} (h1 : 1 ≤ n) (h2 : n ≤ 11) : (cdL n).Nodup ∧ (∀ L, L ∈ cdL n ↔ L ∈ codesL n) ∧ ∀ L, L ∈ cdL n → L.length = n ∧ ∀ v, v ∈ L → v < 16 := by
  have hc := cl3 n h1 h2
  unfold chkAll at hc
  rw [Bool.and_eq_true, Bool.and_eq_true] at hc
  have hp := clP n h1 h2
  unfold chkP at hp
  rw [cd_per h1 h2]
  refine ⟨nodB_ok hc.1, fun L => ⟨fun hL => ?_, fun hL => ?_⟩, fun L hL => ?_⟩
  · have := List.all_eq_true.mp hp L hL
    obtain ⟨K, k1, k2⟩ := List.any_eq_true.mp this
    rw [eqL_eq k2]
    exact k1
  · have := List.all_eq_true.mp hc.2.1 L hL
    obtain ⟨K, k1, k2⟩ := List.any_eq_true.mp this
    rw [← eqL_eq k2]
    exact k1
  · have := List.all_eq_true.mp hc.2.2 L hL
    rw [Bool.and_eq_true] at this
    refine ⟨Nat.eq_of_beq_eq_true this.1, fun v hv => ?_⟩
    have := List.all_eq_true.mp this.2 v hv
    exact Nat.lt_of_succ_le (Nat.le_of_ble_eq_true this)
theorem one_okW {n : Nat} (h1 : 1 ≤ n) (h2 : n ≤ 11) {T : Tr} (hT : T ∈ onesL n) : WhOk (T, none) ∧ preT T 0 ∈ cdL n := by
  have := List.all_eq_true.mp (cl1 n h1 h2) T hT
  rw [Bool.and_eq_true, Bool.and_eq_true, Bool.and_eq_true] at this
  refine ⟨⟨okB_ok this.1, Nat.le_of_ble_eq_true this.2.1, Nat.le_of_ble_eq_true this.2.2.1, ok3B_ok this.2.2.2⟩, ?_⟩
  unfold cdL
  rw [List.mem_append]
  exact Or.inl (List.mem_map.mpr ⟨T, hT, rfl⟩)
theorem br_ok {s : Nat} (hs : s ≤ 5) {t : Tr} (ht : t ∈ brL s) : okT0 t ∧ szT t = s ∧ (kidsT t).length ≤ 3 ∧ ok3 t ∧ sortedT (kidsT t) := by
  have := List.all_eq_true.mp (List.all_eq_true.mp chkBr_ok s (List.mem_range.mpr (by omega))) t ht
  rw [Bool.and_eq_true, Bool.and_eq_true, Bool.and_eq_true, Bool.and_eq_true] at this
  exact ⟨okB_ok this.1, Nat.eq_of_beq_eq_true this.2.1, Nat.le_of_ble_eq_true this.2.2.1, ok3B_ok this.2.2.2.1, srtTB_ok this.2.2.2.2⟩
theorem two_ok {s : Nat} (hs : s ≤ 5) {a b : Tr} (ha : a ∈ brL s) (hb : b ∈ brL s) : WhOk (a, some b) := by
  obtain ⟨a1, a2, a3, a4, a5⟩ := br_ok hs ha
  obtain ⟨b1, b2, b3, b4, b5⟩ := br_ok hs hb
  exact ⟨⟨a1, b1⟩, by omega, ⟨a3, b3⟩, ⟨a4, b4⟩, a5⟩
theorem hgC_at {n : Nat} (h : n ≤ 11) : hgC 4 (n - 1) ((n - 1) / 2) none ≤ 820 ∧ (rowsB brL 4 (n - 1) ((n - 1) / 2) none).length ≤ 160 := by
  have := List.all_eq_true.mp hgC_ok n (List.mem_range.mpr (by omega))
  rw [Bool.and_eq_true] at this
  exact ⟨Nat.le_of_ble_eq_true this.1, Nat.le_of_ble_eq_true this.2⟩
/-- two rows in strict order with the same members are the same -/
theorem srt_same : ∀ {X Y : List (List Nat)}, X.Pairwise (fun a b => difC a b < 0) → Y.Pairwise (fun a b => difC a b < 0) → (∀ L, L ∈ X ↔ L ∈ Y) → X = Y
  | [], [], _, _, _ => rfl
  | [], y :: Y, _, _, h => absurd ((h y).mpr List.mem_cons_self) (by simp)
  | x :: X, [], _, _, h => absurd ((h x).mp List.mem_cons_self) (by simp)
  | x :: X, y :: Y, hx, hy, h => by
    have px := List.pairwise_cons.mp hx
    have py := List.pairwise_cons.mp hy
    have e : x = y := by
      rcases List.mem_cons.mp ((h x).mp List.mem_cons_self) with q | q
      · exact q
      · rcases List.mem_cons.mp ((h y).mpr List.mem_cons_self) with q2 | q2
        · exact q2.symm
        · have h1 := py.1 x q
          have h2 := px.1 y q2
          rw [difC_anti] at h1
          omega
    subst e
    have nx : ∀ {Z : List (List Nat)}, (∀ b, b ∈ Z → difC x b < 0) → x ∉ Z := fun hz w => by
      have := hz x w
      rw [difC_self] at this
      omega
    rw [srt_same px.2 py.2 fun L => ?_]
    have := h L
    rw [List.mem_cons, List.mem_cons] at this
    constructor
    · intro w
      rcases this.mp (Or.inr w) with q | q
      · exact absurd (q ▸ w) (nx px.1)
      · exact q
    · intro w
      rcases this.mpr (Or.inr w) with q | q
      · exact absurd (q ▸ w) (nx py.1)
      · exact q
theorem srtB_pair : ∀ {X : List (List Nat)}, srtB X = true → X.Pairwise (fun a b => difC a b < 0)
  | [], _ => List.Pairwise.nil
  | a :: r, h => by
    unfold srtB at h
    rw [Bool.and_eq_true, List.all_eq_true] at h
    refine List.pairwise_cons.mpr ⟨fun b hb => ?_, srtB_pair h.2⟩
    have := h.1 b hb
    rw [Bool.and_eq_true] at this
    exact of_decide_eq_true this.1
