/-! what the component counts is what the twin counts: pure -/
theorem sI_add {f g : Nat → Int} : ∀ {n : Nat}, sI n (fun i => f i + g i) = sI n f + sI n g
  | 0 => rfl
  | n + 1 => by
    show sI n (fun i => f i + g i) + (f n + g n) = (sI n f + f n) + (sI n g + g n)
    rw [sI_add]
    omega
theorem sI_mulr {f : Nat → Int} {c : Int} : ∀ {n : Nat}, sI n (fun i => f i * c) = sI n f * c
  | 0 => (Int.zero_mul c).symm
  | n + 1 => by
    show sI n (fun i => f i * c) + f n * c = (sI n f + f n) * c
    rw [sI_mulr, Int.add_mul]
theorem sI_mull {f : Nat → Int} {c : Int} : ∀ {n : Nat}, sI n (fun i => c * f i) = c * sI n f
  | 0 => (Int.mul_zero c).symm
  | n + 1 => by
    show sI n (fun i => c * f i) + c * f n = c * (sI n f + f n)
    rw [sI_mull, Int.mul_add]
theorem sI_zero {f : Nat → Int} : ∀ {n : Nat}, (∀ i, i < n → f i = 0) → sI n f = 0
  | 0, _ => rfl
  | n + 1, h => by
    show sI n f + f n = 0
    rw [sI_zero fun i hi => h i (by omega), h n (by omega)]
    rfl
theorem sI_cut {f : Nat → Int} {n : Nat} : ∀ {k : Nat}, n ≤ k → (∀ i, n ≤ i → i < k → f i = 0) → sI k f = sI n f
  | 0, h, _ => by rw [show n = 0 by omega]
  | k + 1, h, hf => by
    by_cases q : n = k + 1
    · rw [q]
    · show sI k f + f k = _
      rw [hf k (by omega) (by omega), Int.add_zero]
      exact sI_cut (by omega) fun i h1 h2 => hf i h1 (by omega)
theorem sI_tri (f : Nat → Nat → Int) : ∀ m : Nat, sI (m + 1) (fun t => sI (t + 1) fun i => f i (t - i)) = sI (m + 1) (fun i => sI (m - i + 1) fun u => f i u)
  | 0 => rfl
  | m + 1 => by
    have e1 : sI (m + 1 + 1) (fun t => sI (t + 1) fun i => f i (t - i)) = sI (m + 1) (fun t => sI (t + 1) fun i => f i (t - i)) + (sI (m + 1) (fun i => f i (m + 1 - i)) + f (m + 1) (m + 1 - (m + 1))) := rfl
    have e2 : sI (m + 1 + 1) (fun i => sI (m + 1 - i + 1) fun u => f i u) = sI (m + 1) (fun i => sI (m + 1 - i + 1) fun u => f i u) + sI (m + 1 - (m + 1) + 1) (fun u => f (m + 1) u) := rfl
    have e3 : sI (m + 1) (fun i => sI (m + 1 - i + 1) fun u => f i u) = sI (m + 1) (fun i => (sI (m - i + 1) fun u => f i u) + f i (m + 1 - i)) := sI_congr fun i hi => by
      rw [show m + 1 - i + 1 = (m - i + 1) + 1 by omega]
      show sI (m - i + 1) (fun u => f i u) + f i (m - i + 1) = _
      rw [show m - i + 1 = m + 1 - i by omega]
    have e4 : sI (m + 1 - (m + 1) + 1) (fun u => f (m + 1) u) = f (m + 1) (m + 1 - (m + 1)) := by
      rw [Nat.sub_self]
      show 0 + f (m + 1) 0 = _
      omega
    rw [e1, e2, e3, e4, sI_add, sI_tri f m]
    omega
/-- a row up to its last size -/
def lastZ (r : Nat → Int) (b most t : Nat) : Int := if t % b = 0 ∧ t / b ≤ most then r (t / b) else 0
def qZ (most : Nat) : List ((Nat → Int) × Nat) → Nat → Int
  | [], t => if t = 0 then 1 else 0
  | [(r, b)], t => lastZ r b most t
  | (r, b) :: p :: L, t => sI (min most (t / b) + 1) fun s => r s * qZ most (p :: L) (t - s * b)
theorem pZ_last {r : Nat → Int} {b most t : Nat} (hb : 1 ≤ b) : pZ most [(r, b)] t = lastZ r b most t := by
  show sI (min most (t / b) + 1) (fun s => r s * (if t - s * b = 0 then 1 else 0)) = _
  have hz : ∀ s, s * b ≤ t → (t - s * b = 0 ↔ (t % b = 0 ∧ s = t / b)) := by
    intro s hs
    have h1 := Nat.div_add_mod t b
    have h2 := Nat.mod_lt t hb
    constructor
    · intro h
      have e : t = s * b := by omega
      rw [e, Nat.mul_mod_left, Nat.mul_div_cancel s hb]
      exact ⟨rfl, rfl⟩
    · rintro ⟨h3, rfl⟩
      rw [Nat.mul_comm] at h1
      omega
  have hle : ∀ s, s ≤ t / b → s * b ≤ t := fun s hs => (Nat.le_div_iff_mul_le hb).mp hs
  unfold lastZ
  by_cases c : t % b = 0 ∧ t / b ≤ most
  · rw [if_pos c, show min most (t / b) = t / b by omega]
    show sI (t / b) (fun s => r s * (if t - s * b = 0 then 1 else 0)) + r (t / b) * (if t - t / b * b = 0 then 1 else 0) = _
    rw [sI_zero (fun s hs => by rw [if_neg (fun w => by have := ((hz s (hle s (by omega))).mp w).2; omega), Int.mul_zero]), if_pos ((hz _ (hle _ (Nat.le_refl _))).mpr ⟨c.1, rfl⟩), Int.mul_one, Int.zero_add]
  · rw [if_neg c]
    refine sI_zero fun s hs => ?_
    rw [if_neg (fun w => ?_), Int.mul_zero]
    have := (hz s (hle s (by omega))).mp w
    exact c ⟨this.1, by omega⟩
theorem pZ_q {most : Nat} : ∀ (L : List ((Nat → Int) × Nat)), (∀ p, p ∈ L → 1 ≤ p.2) → ∀ t, pZ most L t = qZ most L t
  | [], _, _ => rfl
  | [(r, b)], h, t => pZ_last (h (r, b) List.mem_cons_self)
  | (r, b) :: p :: L, h, t => by
    show sI (min most (t / b) + 1) (fun s => r s * pZ most (p :: L) (t - s * b)) = sI (min most (t / b) + 1) fun s => r s * qZ most (p :: L) (t - s * b)
    exact sI_congr fun s _ => by rw [pZ_q (p :: L) fun q hq => h q (List.mem_cons_of_mem _ hq)]
def rowsEq (most : Nat) : List ((Nat → Int) × Nat) → List ((Nat → Int) × Nat) → Prop
  | [], [] => True
  | p :: L, q :: M => (p.2 = q.2 ∧ ∀ s, s ≤ most → p.1 s = q.1 s) ∧ rowsEq most L M
  | _, _ => False
theorem pZ_congr {most : Nat} : ∀ {L M : List ((Nat → Int) × Nat)}, rowsEq most L M → ∀ t, pZ most L t = pZ most M t
  | [], [], _, _ => rfl
  | [], _ :: _, h, _ => h.elim
  | _ :: _, [], h, _ => h.elim
  | (r, b) :: L, (r', b') :: M, h, t => by
    obtain ⟨⟨h1, h2⟩, h3⟩ := h
    have h1 : b = b' := h1
    subst h1
    show sI (min most (t / b) + 1) (fun s => r s * pZ most L (t - s * b)) = sI (min most (t / b) + 1) fun s => r' s * pZ most M (t - s * b)
    exact sI_congr fun s hs => by rw [pZ_congr h3, show r s = r' s from h2 s (by omega)]
def cutZ (x : Nat → Int) (most i : Nat) : Int := if i ≤ most then x i else 0
theorem pZ_one {x : Nat → Int} {most t : Nat} {L : List ((Nat → Int) × Nat)} : pZ most ((x, 1) :: L) t = sI (t + 1) fun s => cutZ x most s * pZ most L (t - s) := by
  have e : sI (t + 1) (fun s => cutZ x most s * pZ most L (t - s)) = sI (min most t + 1) fun s => cutZ x most s * pZ most L (t - s) := sI_cut (by omega) fun i h1 h2 => by
    unfold cutZ
    rw [if_neg (by omega), Int.zero_mul]
  rw [e]
  show sI (min most (t / 1) + 1) (fun s => x s * pZ most L (t - s * 1)) = _
  rw [Nat.div_one]
  exact sI_congr fun s hs => by unfold cutZ; rw [if_pos (by omega), Nat.mul_one]
theorem pZ_two {x : Nat → Int} {most t : Nat} : pZ most [(x, 1), (x, 1)] t = prS (cutZ x most) t := by
  rw [pZ_one]
  refine sI_congr fun s hs => ?_
  rw [pZ_last (by decide)]
  unfold lastZ
  rw [Nat.div_one, Nat.mod_one]
  congr 1
  unfold cutZ
  by_cases q : t - s ≤ most
  · rw [if_pos q, if_pos ⟨rfl, q⟩]
  · rw [if_neg q, if_neg fun w => q w.2]
theorem pZ_four {x : Nat → Int} {most t : Nat} : pZ most [(x, 1), (x, 1), (x, 1), (x, 1)] t = foS (cutZ x most) t := by
  rw [pZ_one]
  have e1 : foS (cutZ x most) t = sI (t + 1) fun v => sI (v + 1) fun i => (fun i u => cutZ x most i * cutZ x most u * prS (cutZ x most) (t - i - u)) i (v - i) := by
    refine sI_congr fun v hv => ?_
    show prS (cutZ x most) v * prS (cutZ x most) (t - v) = _
    unfold prS
    rw [← sI_mulr]
    refine sI_congr fun i hi => ?_
    show _ = _ * prS (cutZ x most) (t - i - (v - i))
    rw [show t - i - (v - i) = t - v by omega]
    rfl
  rw [e1]
  refine Eq.trans ?_ (sI_tri (fun i u => cutZ x most i * cutZ x most u * prS (cutZ x most) (t - i - u)) t).symm
  refine sI_congr fun i hi => ?_
  rw [pZ_one, ← sI_mull]
  refine sI_congr fun u hu => ?_
  rw [pZ_two, Int.mul_assoc]
def ckN (m : Nat) : Bool := decide (ldiv (w64 (qZ m [(cR, 1), (cR, 1), (cR, 1)] m + 3 * qZ m [(cR, 1), (cR, 2)] m + 2 * qZ m [(cR, 3)] m)) 6 = cR (m + 1)) && (decide (ldiv (w64 (qZ m [(cF, 1), (cF, 1), (cF, 1)] m + 2 * qZ m [(cF, 3)] m)) 3 = cF (m + 1)) && decide (w64 (qZ m [(cO, 1), (cF, 2)] m) = cO (m + 1)))
theorem ckN_ok : (List.range 40).all ckN = true := by decide +kernel
def ckS (m : Nat) : Bool := decide (6 * qZ (m / 2) [(cR, 1), (cR, 1), (cR, 2)] m + 3 * qZ (m / 2) [(cR, 2), (cR, 2)] m + 8 * qZ (m / 2) [(cR, 1), (cR, 3)] m + 6 * qZ (m / 2) [(cR, 4)] m = 6 * ttS (cut cR m) (cut cR m) m + 3 * twS (cut cR m) m + 8 * toneS (cut cR m) m + 6 * alS (cut cR m) 4 m) && (decide (3 * qZ (m / 2) [(cF, 2), (cF, 2)] m + 8 * qZ (m / 2) [(cF, 1), (cF, 3)] m = 3 * twS (cut cF m) m + 8 * toneS (cut cF m) m) && decide (qZ (m / 2) [(cO, 1), (cO, 1), (cF, 2)] m + qZ (m / 2) [(cF, 4)] m = ttS (cut cF m) (cut cO m) m + alS (cut cF m) 4 m))
theorem ckS_ok : (List.range 40).all ckS = true := by decide +kernel
theorem one_pos {l : List ((Nat → Int) × Nat)} (h : (l.all fun p => Nat.ble 1 p.2) = true) : ∀ p, p ∈ l → 1 ≤ p.2 := fun p hp => Nat.le_of_ble_eq_true (List.all_eq_true.mp h p hp)
theorem cnt_next {m : Nat} (h : m < 40) : ldiv (w64 (pZ m [(cR, 1), (cR, 1), (cR, 1)] m + 3 * pZ m [(cR, 1), (cR, 2)] m + 2 * pZ m [(cR, 3)] m)) 6 = cR (m + 1) ∧ ldiv (w64 (pZ m [(cF, 1), (cF, 1), (cF, 1)] m + 2 * pZ m [(cF, 3)] m)) 3 = cF (m + 1) ∧ w64 (pZ m [(cO, 1), (cF, 2)] m) = cO (m + 1) := by
  have := List.all_eq_true.mp ckN_ok m (List.mem_range.mpr h)
  unfold ckN at this
  rw [Bool.and_eq_true, Bool.and_eq_true] at this
  have h1 := of_decide_eq_true this.1
  have h2 := of_decide_eq_true this.2.1
  have h3 := of_decide_eq_true this.2.2
  rw [pZ_q _ (one_pos rfl), pZ_q [(cR, 1), (cR, 2)] (one_pos rfl), pZ_q [(cR, 3)] (one_pos rfl), pZ_q [(cF, 1), (cF, 1), (cF, 1)] (one_pos rfl), pZ_q [(cF, 3)] (one_pos rfl), pZ_q [(cO, 1), (cF, 2)] (one_pos rfl)]
  exact ⟨h1, h2, h3⟩
theorem cnt_sums {m : Nat} (h : m < 40) :
    ldiv (w64 (pZ (m / 2) [(cR, 1), (cR, 1), (cR, 1), (cR, 1)] m + 6 * pZ (m / 2) [(cR, 1), (cR, 1), (cR, 2)] m + 3 * pZ (m / 2) [(cR, 2), (cR, 2)] m + 8 * pZ (m / 2) [(cR, 1), (cR, 3)] m + 6 * pZ (m / 2) [(cR, 4)] m)) 24 = ldiv (w64 (foS (cut cR m) m + 6 * ttS (cut cR m) (cut cR m) m + 3 * twS (cut cR m) m + 8 * toneS (cut cR m) m + 6 * alS (cut cR m) 4 m)) 24 ∧
    ldiv (w64 (pZ (m / 2) [(cF, 1), (cF, 1), (cF, 1), (cF, 1)] m + 3 * pZ (m / 2) [(cF, 2), (cF, 2)] m + 8 * pZ (m / 2) [(cF, 1), (cF, 3)] m)) 12 = ldiv (w64 (foS (cut cF m) m + 3 * twS (cut cF m) m + 8 * toneS (cut cF m) m)) 12 ∧
    ldiv (w64 (pZ (m / 2) [(cO, 1), (cO, 1), (cF, 2)] m + pZ (m / 2) [(cF, 4)] m)) 2 = ldiv (w64 (ttS (cut cF m) (cut cO m) m + alS (cut cF m) 4 m)) 2 := by
  have := List.all_eq_true.mp ckS_ok m (List.mem_range.mpr h)
  unfold ckS at this
  rw [Bool.and_eq_true, Bool.and_eq_true] at this
  have h1 := of_decide_eq_true this.1
  have h2 := of_decide_eq_true this.2.1
  have h3 := of_decide_eq_true this.2.2
  have c1 : cutZ cR (m / 2) = cut cR m := rfl
  have c2 : cutZ cF (m / 2) = cut cF m := rfl
  rw [pZ_four, pZ_four, c1, c2, pZ_q [(cR, 1), (cR, 1), (cR, 2)] (one_pos rfl), pZ_q [(cR, 2), (cR, 2)] (one_pos rfl), pZ_q [(cR, 1), (cR, 3)] (one_pos rfl), pZ_q [(cR, 4)] (one_pos rfl), pZ_q [(cF, 2), (cF, 2)] (one_pos rfl), pZ_q [(cF, 1), (cF, 3)] (one_pos rfl), pZ_q [(cO, 1), (cO, 1), (cF, 2)] (one_pos rfl), pZ_q [(cF, 4)] (one_pos rfl)]
  refine ⟨?_, ?_, ?_⟩
  · congr 2
    omega
  · congr 2
    omega
  · rw [h3]
