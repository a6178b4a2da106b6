/-! WHAT IS COUNTED ALONE: sums of products, as longs come to -/
def w64 (x : Int) : Int := (Int64.ofInt x).toInt
theorem ladd_w (x y : Int) : ladd x y = w64 (x + y) := by unfold ladd w64; rw [← Int64.ofInt_add]
theorem lsub_w (x y : Int) : lsub x y = w64 (x - y) := by unfold lsub w64; rw [← Int64.ofInt_sub]
theorem lmul_w (x y : Int) : lmul x y = w64 (x * y) := by unfold lmul w64; rw [← Int64.ofInt_mul]
theorem of_w (x : Int) : Int64.ofInt (w64 x) = Int64.ofInt x := by unfold w64; exact Int64.ofInt_toInt _
theorem w_add_l (x y : Int) : w64 (w64 x + y) = w64 (x + y) := by
  show (Int64.ofInt (w64 x + y)).toInt = (Int64.ofInt (x + y)).toInt
  rw [Int64.ofInt_add, Int64.ofInt_add, of_w]
theorem w_add_r (x y : Int) : w64 (x + w64 y) = w64 (x + y) := by
  show (Int64.ofInt (x + w64 y)).toInt = (Int64.ofInt (x + y)).toInt
  rw [Int64.ofInt_add, Int64.ofInt_add, of_w]
theorem w_mul_l (x y : Int) : w64 (w64 x * y) = w64 (x * y) := by
  show (Int64.ofInt (w64 x * y)).toInt = (Int64.ofInt (x * y)).toInt
  rw [Int64.ofInt_mul, Int64.ofInt_mul, of_w]
theorem w_mul_r (x y : Int) : w64 (x * w64 y) = w64 (x * y) := by
  show (Int64.ofInt (x * w64 y)).toInt = (Int64.ofInt (x * y)).toInt
  rw [Int64.ofInt_mul, Int64.ofInt_mul, of_w]
def sI (n : Nat) (f : Nat → Int) : Int := match n with
  | 0 => 0
  | n + 1 => sI n f + f n
theorem sI_congr {f g : Nat → Int} : ∀ {n : Nat}, (∀ i, i < n → f i = g i) → sI n f = sI n g
  | 0, _ => rfl
  | n + 1, h => by show sI n f + f n = sI n g + g n; rw [sI_congr (fun i hi => h i (Nat.lt_succ_of_lt hi)), h n (Nat.lt_succ_self n)]
abbrev givesL (h : AH) (v : Int) : Rs → AH → Prop := fun r h' => r = .inl (some (vL v)) ∧ h' = h
/-- the sums -/
def prS (x : Nat → Int) (t : Nat) : Int := sI (t + 1) fun i => x i * x (t - i)
def thS (x : Nat → Int) (m : Nat) : Int := sI (m + 1) fun i => sI (m - i + 1) fun j => x i * x j * x (m - i - j)
def toS (x y : Nat → Int) (m : Nat) : Int := sI (m / 2 + 1) fun i => x i * y (m - 2 * i)
def alS (x : Nat → Int) (b m : Nat) : Int := if m % b = 0 then x (m / b) else 0
def foS (x : Nat → Int) (m : Nat) : Int := sI (m + 1) fun t => prS x t * prS x (m - t)
def twS (x : Nat → Int) (m : Nat) : Int := if m % 2 = 0 then prS x (m / 2) else 0
def toneS (x : Nat → Int) (m : Nat) : Int := sI (m / 3 + 1) fun i => x i * x (m - 3 * i)
def ttS (x y : Nat → Int) (m : Nat) : Int := sI (m / 2 + 1) fun i => x i * prS y (m - 2 * i)
section SUMS
variable {d : Nat} {h : AH} {a b : Nat} {X Y : List Int}
theorem pairs_spec (hX : h.I a = (2, X)) (hl : X.length = 41) {t : Nat} (ht : t ≤ 40) : wp (d + 1) 350 (0, ent 5 [vR (some a), vI ((t : Nat) : Int)], [], h) (givesL h (w64 (prS (gt X) t))) := by
  have loop : ∀ (j i : Nat), j + i = t + 1 → wp (d + 1) 350 (5, [some (vR (some a)), some (vI ((t : Nat) : Int)), some (vL (w64 (sI i fun i => gt X i * gt X (t - i)))), none, some (vI ((i : Nat) : Int))], [], h) (givesL h (w64 (prS (gt X) t))) := by
    intro j
    induction j with
    | zero =>
      intro i hj
      obtain rfl : i = t + 1 := by omega
      refine wp.go [5] 20 fun W C hW hC => ?_
      exact ⟨fun _ => ⟨rfl, rfl⟩, fun c => absurd c (by omega)⟩
    | succ j ih =>
      intro i hj
      refine wp.go [5] 40 fun W C hW hC => ?_
      refine ⟨fun c => absurd c (by omega), fun _ => ?_⟩
      refine ⟨_, _, _, hX, rfl, (by omega), gt_at i (by omega) (by omega), ?_⟩
      (conv => whnf); simp (disch := omega) only [iadd_eq, isub_eq, imul_eq]
      refine ⟨_, _, _, hX, rfl, (by omega), gt_at (t - i) (by omega) (by omega), ?_⟩
      conv => whnf
      rw [lmul_w, ladd_w, w_add_l, w_add_r, iadd_eq (by omega)]
      exact hW _ (ih (i + 1) (by omega))
  refine wp.go [5] 10 fun W C hW hC => ?_
  exact hW _ (loop (t + 1) 0 rfl)
theorem three_spec (hX : h.I a = (2, X)) (hl : X.length = 41) {m : Nat} (hm : m ≤ 40) : wp (d + 1) 344 (0, ent 6 [vR (some a), vI ((m : Nat) : Int)], [], h) (givesL h (w64 (thS (gt X) m))) := by
  have inner : ∀ (i : Nat) (S : Int), i ≤ m → (∀ x5, wp (d + 1) 344 (51, [some (vR (some a)), some (vI ((m : Nat) : Int)), some (vL (w64 (S + sI (m - i + 1) fun j => gt X i * gt X j * gt X (m - i - j)))), none, some (vI ((i : Nat) : Int)), x5], [], h) (givesL h (w64 (thS (gt X) m)))) →
      ∀ (k j : Nat), k + j = m - i + 1 → wp (d + 1) 344 (14, [some (vR (some a)), some (vI ((m : Nat) : Int)), some (vL (w64 (S + sI j fun j => gt X i * gt X j * gt X (m - i - j)))), none, some (vI ((i : Nat) : Int)), some (vI ((j : Nat) : Int))], [], h) (givesL h (w64 (thS (gt X) m))) := by
    intro i S hi hQ k
    induction k with
    | zero =>
      intro j hj
      obtain rfl : j = m - i + 1 := by omega
      refine wp.go [14, 51] 20 fun W C hW hC => ?_
      (conv => whnf); simp (disch := omega) only [iadd_eq, isub_eq, imul_eq]
      exact ⟨fun _ => hW _ (hQ _), fun c => absurd c (by omega)⟩
    | succ k ih =>
      intro j hj
      refine wp.go [14, 51] 40 fun W C hW hC => ?_
      (conv => whnf); simp (disch := omega) only [iadd_eq, isub_eq, imul_eq]
      refine ⟨fun c => absurd c (by omega), fun _ => ?_⟩
      refine ⟨_, _, _, hX, rfl, (by omega), gt_at i (by omega) (by omega), ?_⟩
      refine ⟨_, _, _, hX, rfl, (by omega), gt_at j (by omega) (by omega), ?_⟩
      (conv => whnf); simp (disch := omega) only [iadd_eq, isub_eq, imul_eq]
      refine ⟨_, _, _, hX, rfl, (by omega), gt_at (m - i - j) (by omega) (by omega), ?_⟩
      conv => whnf
      rw [lmul_w, lmul_w, ladd_w, w_mul_l, w_add_l, w_add_r, iadd_eq (by omega), Int.add_assoc]
      exact hW _ (ih (j + 1) (by omega))
  have outer : ∀ (j i : Nat) (x5 : Option AV), j + i = m + 1 → wp (d + 1) 344 (5, [some (vR (some a)), some (vI ((m : Nat) : Int)), some (vL (w64 (sI i fun i => sI (m - i + 1) fun j => gt X i * gt X j * gt X (m - i - j)))), none, some (vI ((i : Nat) : Int)), x5], [], h) (givesL h (w64 (thS (gt X) m))) := by
    intro j
    induction j with
    | zero =>
      intro i x5 hj
      obtain rfl : i = m + 1 := by omega
      refine wp.go [5, 14] 20 fun W C hW hC => ?_
      exact ⟨fun _ => ⟨rfl, rfl⟩, fun c => absurd c (by omega)⟩
    | succ j ih =>
      intro i x5 hj
      refine wp.go [5, 14] 20 fun W C hW hC => ?_
      refine ⟨fun c => absurd c (by omega), fun _ => ?_⟩
      have key := inner i (sI i fun i => sI (m - i + 1) fun j => gt X i * gt X j * gt X (m - i - j)) (by omega) (fun x5 => ?_) (m - i + 1) 0 rfl
      · rw [show ∀ x : Int, x + sI 0 (fun j => gt X i * gt X j * gt X (m - i - j)) = x from Int.add_zero] at key
        exact hW _ key
      · refine wp.go [5] 10 fun W C hW hC => ?_
        (conv => whnf); simp (disch := omega) only [iadd_eq, isub_eq, imul_eq]
        exact hW _ (ih (i + 1) x5 (by omega))
  refine wp.go [5] 10 fun W C hW hC => ?_
  exact hW _ (outer (m + 1) 0 none rfl)
theorem twoAndOne_spec (hX : h.I a = (2, X)) (hY : h.I b = (2, Y)) (hl : X.length = 41) (hl2 : Y.length = 41) {m : Nat} (hm : m ≤ 40) : wp (d + 1) 345 (0, ent 6 [vR (some a), vR (some b), vI ((m : Nat) : Int)], [], h) (givesL h (w64 (toS (gt X) (gt Y) m))) := by
  have loop : ∀ (j i : Nat), j + i = m / 2 + 1 → wp (d + 1) 345 (5, [some (vR (some a)), some (vR (some b)), some (vI ((m : Nat) : Int)), some (vL (w64 (sI i fun i => gt X i * gt Y (m - 2 * i)))), none, some (vI ((i : Nat) : Int))], [], h) (givesL h (w64 (toS (gt X) (gt Y) m))) := by
    intro j
    induction j with
    | zero =>
      intro i hj
      obtain rfl : i = m / 2 + 1 := by omega
      refine wp.go [5] 20 fun W C hW hC => ?_
      (conv => whnf); simp (disch := omega) only [iadd_eq, isub_eq, imul_eq]
      exact ⟨fun _ => ⟨rfl, rfl⟩, fun c => absurd c (by omega)⟩
    | succ j ih =>
      intro i hj
      refine wp.go [5] 40 fun W C hW hC => ?_
      (conv => whnf); simp (disch := omega) only [iadd_eq, isub_eq, imul_eq]
      refine ⟨fun c => absurd c (by omega), fun _ => ?_⟩
      refine ⟨_, _, _, hX, rfl, (by omega), gt_at i (by omega) (by omega), ?_⟩
      (conv => whnf); simp (disch := omega) only [iadd_eq, isub_eq, imul_eq]
      refine ⟨_, _, _, hY, rfl, (by omega), gt_at (m - 2 * i) (by omega) (by omega), ?_⟩
      conv => whnf
      rw [lmul_w, ladd_w, w_add_l, w_add_r, iadd_eq (by omega)]
      exact hW _ (ih (i + 1) (by omega))
  refine wp.go [5] 10 fun W C hW hC => ?_
  exact hW _ (loop (m / 2 + 1) 0 rfl)
theorem threeAndOne_spec (hX : h.I a = (2, X)) (hl : X.length = 41) {m : Nat} (hm : m ≤ 40) : wp (d + 1) 353 (0, ent 5 [vR (some a), vI ((m : Nat) : Int)], [], h) (givesL h (w64 (toneS (gt X) m))) := by
  have loop : ∀ (j i : Nat), j + i = m / 3 + 1 → wp (d + 1) 353 (5, [some (vR (some a)), some (vI ((m : Nat) : Int)), some (vL (w64 (sI i fun i => gt X i * gt X (m - 3 * i)))), none, some (vI ((i : Nat) : Int))], [], h) (givesL h (w64 (toneS (gt X) m))) := by
    intro j
    induction j with
    | zero =>
      intro i hj
      obtain rfl : i = m / 3 + 1 := by omega
      refine wp.go [5] 20 fun W C hW hC => ?_
      (conv => whnf); simp (disch := omega) only [iadd_eq, isub_eq, imul_eq]
      exact ⟨fun _ => ⟨rfl, rfl⟩, fun c => absurd c (by omega)⟩
    | succ j ih =>
      intro i hj
      refine wp.go [5] 40 fun W C hW hC => ?_
      (conv => whnf); simp (disch := omega) only [iadd_eq, isub_eq, imul_eq]
      refine ⟨fun c => absurd c (by omega), fun _ => ?_⟩
      refine ⟨_, _, _, hX, rfl, (by omega), gt_at i (by omega) (by omega), ?_⟩
      (conv => whnf); simp (disch := omega) only [iadd_eq, isub_eq, imul_eq]
      refine ⟨_, _, _, hX, rfl, (by omega), gt_at (m - 3 * i) (by omega) (by omega), ?_⟩
      conv => whnf
      rw [lmul_w, ladd_w, w_add_l, w_add_r, iadd_eq (by omega)]
      exact hW _ (ih (i + 1) (by omega))
  refine wp.go [5] 10 fun W C hW hC => ?_
  exact hW _ (loop (m / 3 + 1) 0 rfl)
theorem allAlike_spec (hX : h.I a = (2, X)) (hl : X.length = 41) {k m : Nat} (hk : 1 ≤ k) (hk2 : k ≤ 40) (hm : m ≤ 40) : wp (d + 1) 346 (0, ent 3 [vR (some a), vI ((k : Nat) : Int), vI ((m : Nat) : Int)], [], h) (givesL h (alS (gt X) k m)) := by
  have hd : m / k ≤ m := Nat.div_le_self m k
  unfold alS
  refine wp.go [] 40 fun W C hW hC => ?_
  refine ⟨by omega, ?_⟩
  conv => whnf
  rw [irem_eq ⟨by omega, by omega⟩ ⟨by omega, by omega⟩]
  refine ⟨fun c => ?_, fun c => ?_⟩
  · rw [if_neg (by omega)]
    exact ⟨rfl, rfl⟩
  · rw [if_pos (by omega)]
    refine ⟨by omega, ?_⟩
    conv => whnf
    rw [idiv_eq ⟨by omega, by omega⟩ ⟨by omega, by omega⟩]
    refine ⟨_, _, _, hX, rfl, Int.ediv_nonneg (by omega) (by omega), gt_at (m / k) (by rw [← Int.natCast_ediv]; exact Int.toNat_natCast _) (by omega), ?_⟩
    exact ⟨rfl, rfl⟩
theorem four_spec (hX : h.I a = (2, X)) (hl : X.length = 41) {m : Nat} (hm : m ≤ 40) : wp (d + 2) 349 (0, ent 5 [vR (some a), vI ((m : Nat) : Int)], [], h) (givesL h (w64 (foS (gt X) m))) := by
  have loop : ∀ (j i : Nat), j + i = m + 1 → wp (d + 2) 349 (5, [some (vR (some a)), some (vI ((m : Nat) : Int)), some (vL (w64 (sI i fun t => prS (gt X) t * prS (gt X) (m - t)))), none, some (vI ((i : Nat) : Int))], [], h) (givesL h (w64 (foS (gt X) m))) := by
    intro j
    induction j with
    | zero =>
      intro i hj
      obtain rfl : i = m + 1 := by omega
      refine wp.go [5] 20 fun W C hW hC => ?_
      exact ⟨fun _ => ⟨rfl, rfl⟩, fun c => absurd c (by omega)⟩
    | succ j ih =>
      intro i hj
      refine wp.go [5] 40 fun W C hW hC => ?_
      refine ⟨fun c => absurd c (by omega), fun _ => ?_⟩
      refine hC _ _ _ (use (pairs_spec (t := i) hX hl (by omega)) ?_); rintro _ _ ⟨rfl, rfl⟩
      conv => whnf
      rw [isub_eq (by omega), show ((m : Nat) : Int) - ((i : Nat) : Int) = ((m - i : Nat) : Int) by omega]
      refine hC _ _ _ (use (pairs_spec (t := m - i) hX hl (by omega)) ?_); rintro _ _ ⟨rfl, rfl⟩
      conv => whnf
      rw [lmul_w, ladd_w, w_mul_l, w_mul_r, w_add_l, w_add_r, iadd_eq (by omega)]
      exact hW _ (ih (i + 1) (by omega))
  refine wp.go [5] 10 fun W C hW hC => ?_
  exact hW _ (loop (m + 1) 0 rfl)
theorem twoTwos_spec (hX : h.I a = (2, X)) (hl : X.length = 41) {m : Nat} (hm : m ≤ 40) : wp (d + 2) 352 (0, ent 2 [vR (some a), vI ((m : Nat) : Int)], [], h) (givesL h (w64 (twS (gt X) m))) := by
  unfold twS
  refine wp.go [] 40 fun W C hW hC => ?_
  refine ⟨by decide, ?_⟩
  conv => whnf
  rw [irem_eq ⟨by omega, by omega⟩ ⟨by omega, by omega⟩]
  refine ⟨fun c => ?_, fun c => ?_⟩
  · rw [if_neg (by omega)]
    exact ⟨rfl, rfl⟩
  · rw [if_pos (by omega)]
    refine ⟨by decide, ?_⟩
    conv => whnf
    rw [idiv_eq ⟨by omega, by omega⟩ ⟨by omega, by omega⟩, show ((m : Nat) : Int) / 2 = ((m / 2 : Nat) : Int) by omega]
    refine hC _ _ _ (use (pairs_spec (t := m / 2) hX hl (by omega)) ?_); rintro _ _ ⟨rfl, rfl⟩
    exact ⟨rfl, rfl⟩
theorem twoTwoMore_spec (hX : h.I a = (2, X)) (hY : h.I b = (2, Y)) (hl : X.length = 41) (hl2 : Y.length = 41) {m : Nat} (hm : m ≤ 40) : wp (d + 2) 351 (0, ent 6 [vR (some a), vR (some b), vI ((m : Nat) : Int)], [], h) (givesL h (w64 (ttS (gt X) (gt Y) m))) := by
  have loop : ∀ (j i : Nat), j + i = m / 2 + 1 → wp (d + 2) 351 (5, [some (vR (some a)), some (vR (some b)), some (vI ((m : Nat) : Int)), some (vL (w64 (sI i fun i => gt X i * prS (gt Y) (m - 2 * i)))), none, some (vI ((i : Nat) : Int))], [], h) (givesL h (w64 (ttS (gt X) (gt Y) m))) := by
    intro j
    induction j with
    | zero =>
      intro i hj
      obtain rfl : i = m / 2 + 1 := by omega
      refine wp.go [5] 20 fun W C hW hC => ?_
      (conv => whnf); simp (disch := omega) only [iadd_eq, isub_eq, imul_eq]
      exact ⟨fun _ => ⟨rfl, rfl⟩, fun c => absurd c (by omega)⟩
    | succ j ih =>
      intro i hj
      refine wp.go [5] 40 fun W C hW hC => ?_
      (conv => whnf); simp (disch := omega) only [iadd_eq, isub_eq, imul_eq]
      refine ⟨fun c => absurd c (by omega), fun _ => ?_⟩
      refine ⟨_, _, _, hX, rfl, (by omega), gt_at i (by omega) (by omega), ?_⟩
      (conv => whnf); simp (disch := omega) only [iadd_eq, isub_eq, imul_eq]
      rw [show ((m : Nat) : Int) - 2 * ((i : Nat) : Int) = ((m - 2 * i : Nat) : Int) by omega]
      refine hC _ _ _ (use (pairs_spec (t := m - 2 * i) hY hl2 (by omega)) ?_); rintro _ _ ⟨rfl, rfl⟩
      conv => whnf
      rw [lmul_w, ladd_w, w_mul_r, w_add_l, w_add_r, iadd_eq (by omega)]
      exact hW _ (ih (i + 1) (by omega))
  refine wp.go [5] 10 fun W C hW hC => ?_
  exact hW _ (loop (m / 2 + 1) 0 rfl)
end SUMS
