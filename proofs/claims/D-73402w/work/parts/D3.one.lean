/-! ONE: what its four branches come to -/
def rnF (E : Nat → Nat → Bool) (k : Nat) : Nat → Nat → Nat
  | 0, m => m
  | f + 1, m => if m ≤ k ∧ E (k - m) k = true then rnF E k f (m + 1) else m
abbrev rnE (E : Nat → Nat → Bool) (k : Nat) : Nat := rnF E k k 1
def ordN (E : Nat → Nat → Bool) : Nat → Nat
  | 0 => 24
  | k + 1 => ordN E k / rnE E k
def prdN (F : Nat → Nat) : Nat → Nat
  | 0 => 1
  | k + 1 => prdN F k * F k
def twoC (F : Nat → Nat) (E : Nat → Nat → Bool) : Nat := if E 0 1 = true ∧ E 2 3 = true then (if E 1 2 = true then F 0 * F 2 else 2 * (F 0 * F 2)) else 0
def thrC (F : Nat → Nat) (E : Nat → Nat → Bool) : Nat := if E 0 2 = true then F 0 * F 3 else if E 1 3 = true then F 1 * F 0 else 0
def toldC (E : Nat → Nat → Bool) (a : Nat) : Nat → Bool
  | 0 => false
  | k + 1 => toldC E a k || (!(Nat.beq k a) && E k a)
abbrev cC (a b : Nat) : Nat := if a = 0 then (if b = 1 then 2 else 1) else 0
abbrev itsC (F O : Nat → Nat) (a b : Nat) : Nat := F a * O (cC a b) * O (6 - a - b - cC a b)
def mirT (F O : Nat → Nat) (E : Nat → Nat → Bool) (a b : Nat) : Nat := if E a b = true ∧ toldC E a b = false then (if E (cC a b) (6 - a - b - cC a b) = true then itsC F O a b else 2 * itsC F O a b) else 0
def mirI (F O : Nat → Nat) (E : Nat → Nat → Bool) (a : Nat) : Nat → Nat → Nat
  | 0, _ => 0
  | j + 1, b => mirT F O E a b + mirI F O E a j (b + 1)
def mirO (F O : Nat → Nat) (E : Nat → Nat → Bool) : Nat → Nat → Nat
  | 0, _ => 0
  | j + 1, a => mirI F O E a j (a + 1) + mirO F O E j (a + 1)
/-- a whole of one middle in the heap: its branches by places -/
def OneV (h : AH) (w : Nat) (l : List Tr) : Prop := ∃ r p qs fs, h.F w = (8, [vR (some r)]) ∧ h.F r = (7, vR (some p) :: fs) ∧ h.R p = (1, qs) ∧ ∀ k, k < 4 → OAt h (qs[k]?.getD none) l[k]?
theorem OneV_of {P : Nat → Prop} {h : AH} (hP : ∀ v, P v → v < h.sz) {w : Nat} {t : Tr} (k : WhAt P h w (t, none)) (ok : WhOk (t, none)) : OneV h w (kidsT t) := by
  obtain ⟨r, k1, k2, p, qs, c1, c2, c3, c4, c5⟩ := k
  refine ⟨r, p, qs, _, k2, c2, c4, fun k hk => ?_⟩
  have hL := BrI.at hP c5
  cases e : (kidsT t)[k]? with
  | none =>
    rw [List.getElem?_eq_none (by rw [BrL_len hL]; exact List.getElem?_eq_none_iff.mp e)]
    trivial
  | some u =>
    obtain ⟨y, y1, y2⟩ := BrL_at hL k u e
    rw [y1]
    have hm := List.mem_of_getElem? e
    have := sz_kid t u hm
    exact ⟨y2, ok_kid t ok.1 u hm, by have := ok.2.1; omega⟩
section ONE
variable {d : Nat} {h : AH} {w : Nat} {l : List Tr}
theorem same_spec {r q : Option Nat} {o p : Option Tr} (h1 : OAt h r o) (h2 : OAt h q p) : wp (d + 19) 431 (0, ent 2 [vR r, vR q], [], h) (gives h (z01 (eqO o p))) := by
  refine wp.go [] 10 fun W C hW hC => ?_
  refine hC _ _ _ (use (like_spec (d := d) h1 h2) ?_); rintro _ _ ⟨rfl, rfl⟩
  cases eqO o p with
  | true => exact ⟨Or.inr rfl, rfl, rfl⟩
  | false => exact ⟨Or.inl rfl, rfl, rfl⟩
theorem rn_loop (hV : OneV h w l) {k n : Nat} (hk : k < 4) {Q : Rs → AH → Prop} (hQ : ∀ m : Nat, m = rnE (EL l) k → wp (d + 20) 430 (51, [some (vR (some w)), some (vL ((n : Nat) : Int)), none, some (vI ((k : Nat) : Int)), some (vI ((m : Nat) : Int))], [], h) Q) :
    ∀ (f m : Nat), f + m = k + 1 → 1 ≤ m → rnF (EL l) k f m = rnE (EL l) k → wp (d + 20) 430 (14, [some (vR (some w)), some (vL ((n : Nat) : Int)), none, some (vI ((k : Nat) : Int)), some (vI ((m : Nat) : Int))], [], h) Q := by
  obtain ⟨r, p, qs, fs, k1, k2, k3, k4⟩ := hV
  intro f
  induction f with
  | zero =>
    intro m hm hm1 he
    have he : m = rnE (EL l) k := he
    refine wp.go [14, 51] 10 fun W C hW hC => ?_
    refine ⟨fun _ => hW _ (hQ m he), fun q => absurd q (by omega)⟩
  | succ f ih =>
    intro m hm hm1 he
    refine wp.go [14, 51] 40 fun W C hW hC => ?_
    refine ⟨fun q => absurd q (by omega), fun _ => ?_⟩
    refine ⟨_, _, _, _, k1, rfl, rfl, ?_⟩
    refine ⟨_, _, _, k2, rfl, ?_⟩
    rw [isub_eq (by omega), show ((k : Nat) : Int) - ((m : Nat) : Int) = ((k - m : Nat) : Int) by omega]
    refine hC _ _ _ (useE (wpd.up (by omega) (at_spec (d := 0) (k := k - m) k2 k3 (by decide) (by omega))) ?_)
    refine ⟨_, _, _, _, k1, rfl, rfl, ?_⟩
    refine ⟨_, _, _, k2, rfl, ?_⟩
    refine hC _ _ _ (useE (wpd.up (by omega) (at_spec (d := 0) (k := k) k2 k3 (by decide) (by omega))) ?_)
    refine hC _ _ _ (useE (wpd.up (by omega) (same_spec (d := 0) (k4 (k - m) (by omega)) (k4 k hk))) ?_)
    have hE : rnF (EL l) k (f + 1) m = if m ≤ k ∧ EL l (k - m) k = true then rnF (EL l) k f (m + 1) else m := rfl
    rw [hE] at he
    cases e : eqO l[k - m]? l[k]? with
    | true =>
      rw [if_pos ⟨by omega, e⟩] at he
      refine ⟨fun q => absurd q (by decide), fun _ => ?_⟩
      (conv => whnf); simp (disch := omega) only [iadd_eq, isub_eq, imul_eq]
      exact hW _ (ih (m + 1) (by omega) (by omega) he)
    | false =>
      rw [if_neg (fun q => by have := q.2; rw [show EL l (k - m) k = false from e] at this; cases this)] at he
      exact ⟨fun _ => hW _ (hQ m he), fun q => absurd rfl q⟩
theorem rn_ge (E : Nat → Nat → Bool) (k : Nat) : ∀ f m, m ≤ rnF E k f m ∧ rnF E k f m ≤ m + f
  | 0, m => ⟨Nat.le_refl _, Nat.le_refl _⟩
  | f + 1, m => by
    show m ≤ (if m ≤ k ∧ E (k - m) k = true then rnF E k f (m + 1) else m) ∧ (if m ≤ k ∧ E (k - m) k = true then rnF E k f (m + 1) else m) ≤ m + (f + 1)
    split
    · have := rn_ge E k f (m + 1); omega
    · omega
theorem ord_le (E : Nat → Nat → Bool) : ∀ k, ordN E k ≤ 24
  | 0 => Nat.le_refl _
  | k + 1 => Nat.le_trans (Nat.div_le_self _ _) (ord_le E k)
theorem orders_spec (hV : OneV h w l) : wp (d + 20) 430 (0, ent 5 [vR (some w)], [], h) (givesL h ((ordN (EL l) 4 : Nat) : Int)) := by
  have loop : ∀ (j k : Nat) (x4 : Option AV), j + k = 4 → wp (d + 20) 430 (6, [some (vR (some w)), some (vL ((ordN (EL l) k : Nat) : Int)), none, some (vI ((k : Nat) : Int)), x4], [], h) (givesL h ((ordN (EL l) 4 : Nat) : Int)) := by
    intro j
    induction j with
    | zero =>
      intro k x4 hk
      obtain rfl : k = 4 := by omega
      refine wp.go [6, 14] 10 fun W C hW hC => ?_
      exact ⟨fun _ => ⟨rfl, rfl⟩, fun q => absurd q (by decide)⟩
    | succ j ih =>
      intro k x4 hk
      have hb := ord_le (EL l) k
      have key := rn_loop (d := d) hV (k := k) (n := ordN (EL l) k) (Q := givesL h ((ordN (EL l) 4 : Nat) : Int)) (by omega) (fun m hm => ?_) k 1 (by omega) (Nat.le_refl _) rfl
      · refine wp.go [6, 14] 10 fun W C hW hC => ?_
        refine ⟨fun q => absurd q (by omega), fun _ => ?_⟩
        exact hW _ key
      · have hr := rn_ge (EL l) k k 1
        have hr : 1 ≤ rnE (EL l) k ∧ rnE (EL l) k ≤ 1 + k := hr
        refine wp.go [6] 20 fun W C hW hC => ?_
        refine ⟨by omega, ?_⟩
        rw [ldivN (by omega) (by omega) (by omega)]
        (conv => whnf); simp (disch := omega) only [iadd_eq, isub_eq, imul_eq]
        have := ih (k + 1) (some (vI ((m : Nat) : Int))) (by omega)
        rw [show ordN (EL l) (k + 1) = ordN (EL l) k / m by rw [hm]; rfl] at this
        exact hW _ this
  refine wp.go [6] 10 fun W C hW hC => ?_
  exact hW _ (loop 4 0 none rfl)
theorem cproduct_spec (hV : OneV h w l) (hB : ∀ k, k ≤ 4 → prdN (FL l) k ≤ 65536) : wp (d + 20) 432 (0, ent 4 [vR (some w)], [], h) (givesL h ((prdN (FL l) 4 : Nat) : Int)) := by
  obtain ⟨r, p, qs, fs, k1, k2, k3, k4⟩ := hV
  have loop : ∀ (j k : Nat), j + k = 4 → wp (d + 20) 432 (4, [some (vR (some w)), some (vL ((prdN (FL l) k : Nat) : Int)), none, some (vI ((k : Nat) : Int))], [], h) (givesL h ((prdN (FL l) 4 : Nat) : Int)) := by
    intro j
    induction j with
    | zero =>
      intro k hk
      obtain rfl : k = 4 := by omega
      refine wp.go [4] 10 fun W C hW hC => ?_
      exact ⟨fun _ => ⟨rfl, rfl⟩, fun q => absurd q (by decide)⟩
    | succ j ih =>
      intro k hk
      have hb := hB (k + 1) (by omega)
      have hb : prdN (FL l) k * FL l k ≤ 65536 := hb
      refine wp.go [4] 30 fun W C hW hC => ?_
      refine ⟨fun q => absurd q (by omega), fun _ => ?_⟩
      refine ⟨_, _, _, _, k1, rfl, rfl, ?_⟩
      refine ⟨_, _, _, k2, rfl, ?_⟩
      refine hC _ _ _ (useE (wpd.up (by omega) (at_spec (d := 0) (k := k) k2 k3 (by decide) (by omega))) ?_)
      refine hC _ _ _ (useE (wpd.up (by omega) (f1_spec (d := 0) (k4 k (by omega)))) ?_)
      conv => whnf
      rw [show fO l[k]? = FL l k from rfl, lmulN (by omega)]
      (conv => whnf); simp (disch := omega) only [iadd_eq, isub_eq, imul_eq]
      exact hW _ (ih (k + 1) (by omega))
  refine wp.go [4] 10 fun W C hW hC => ?_
  exact hW _ (loop 4 0 rfl)
theorem twos_spec (hV : OneV h w l) (hB : FL l 0 * FL l 2 ≤ 65536) : wp (d + 20) 433 (0, ent 3 [vR (some w)], [], h) (givesL h ((twoC (FL l) (EL l) : Nat) : Int)) := by
  obtain ⟨r, p, qs, fs, k1, k2, k3, k4⟩ := hV
  unfold twoC
  refine wp.go [] 80 fun W C hW hC => ?_
  refine ⟨_, _, _, _, k1, rfl, rfl, ?_⟩
  refine ⟨_, _, _, k2, rfl, ?_⟩
  refine hC _ _ _ (useE (wpd.up (by omega) (at_spec (d := 0) (k := 0) k2 k3 (by decide) (by omega))) ?_)
  refine ⟨_, _, _, _, k1, rfl, rfl, ?_⟩
  refine ⟨_, _, _, k2, rfl, ?_⟩
  refine hC _ _ _ (useE (wpd.up (by omega) (at_spec (d := 0) (k := 1) k2 k3 (by decide) (by omega))) ?_)
  refine hC _ _ _ (useE (wpd.up (by omega) (same_spec (d := 0) (k4 0 (by decide)) (k4 1 (by decide)))) ?_)
  cases e01 : eqO l[0]? l[1]? with
  | false =>
    rw [if_neg (fun q => by have := q.1; rw [show EL l 0 1 = false from e01] at this; cases this)]
    exact ⟨fun _ => ⟨rfl, rfl⟩, fun q => absurd rfl q⟩
  | true =>
    refine ⟨fun q => absurd q (by decide), fun _ => ?_⟩
    refine ⟨_, _, _, _, k1, rfl, rfl, ?_⟩
    refine ⟨_, _, _, k2, rfl, ?_⟩
    refine hC _ _ _ (useE (wpd.up (by omega) (at_spec (d := 0) (k := 2) k2 k3 (by decide) (by omega))) ?_)
    refine ⟨_, _, _, _, k1, rfl, rfl, ?_⟩
    refine ⟨_, _, _, k2, rfl, ?_⟩
    refine hC _ _ _ (useE (wpd.up (by omega) (at_spec (d := 0) (k := 3) k2 k3 (by decide) (by omega))) ?_)
    refine hC _ _ _ (useE (wpd.up (by omega) (same_spec (d := 0) (k4 2 (by decide)) (k4 3 (by decide)))) ?_)
    cases e23 : eqO l[2]? l[3]? with
    | false =>
      rw [if_neg (fun q => by have := q.2; rw [show EL l 2 3 = false from e23] at this; cases this)]
      exact ⟨fun q => absurd rfl q, fun _ => ⟨rfl, rfl⟩⟩
    | true =>
      rw [if_pos ⟨e01, e23⟩]
      refine ⟨fun _ => ?_, fun q => absurd q (by decide)⟩
      refine ⟨_, _, _, _, k1, rfl, rfl, ?_⟩
      refine ⟨_, _, _, k2, rfl, ?_⟩
      refine hC _ _ _ (useE (wpd.up (by omega) (at_spec (d := 0) (k := 0) k2 k3 (by decide) (by omega))) ?_)
      refine hC _ _ _ (useE (wpd.up (by omega) (f1_spec (d := 0) (k4 0 (by decide)))) ?_)
      refine ⟨_, _, _, _, k1, rfl, rfl, ?_⟩
      refine ⟨_, _, _, k2, rfl, ?_⟩
      refine hC _ _ _ (useE (wpd.up (by omega) (at_spec (d := 0) (k := 2) k2 k3 (by decide) (by omega))) ?_)
      refine hC _ _ _ (useE (wpd.up (by omega) (f1_spec (d := 0) (k4 2 (by decide)))) ?_)
      conv => whnf
      rw [show fO l[0]? = FL l 0 from rfl, show fO l[2]? = FL l 2 from rfl, lmulN (by omega)]
      refine ⟨_, _, _, _, k1, rfl, rfl, ?_⟩
      refine ⟨_, _, _, k2, rfl, ?_⟩
      refine hC _ _ _ (useE (wpd.up (by omega) (at_spec (d := 0) (k := 1) k2 k3 (by decide) (by omega))) ?_)
      refine ⟨_, _, _, _, k1, rfl, rfl, ?_⟩
      refine ⟨_, _, _, k2, rfl, ?_⟩
      refine hC _ _ _ (useE (wpd.up (by omega) (at_spec (d := 0) (k := 2) k2 k3 (by decide) (by omega))) ?_)
      refine hC _ _ _ (useE (wpd.up (by omega) (same_spec (d := 0) (k4 1 (by decide)) (k4 2 (by decide)))) ?_)
      cases e12 : eqO l[1]? l[2]? with
      | true =>
        rw [if_pos (show EL l 1 2 = true from e12)]
        exact ⟨fun q => absurd q (by decide), fun _ => ⟨rfl, rfl⟩⟩
      | false =>
        rw [if_neg (fun q => by rw [show EL l 1 2 = false from e12] at q; cases q)]
        refine ⟨fun _ => ?_, fun q => absurd rfl q⟩
        exact ⟨by rw [show lmul 2 ((FL l 0 * FL l 2 : Nat) : Int) = ((2 * (FL l 0 * FL l 2) : Nat) : Int) from lmulN (a := 2) (by omega)], rfl⟩
theorem threes_spec (hV : OneV h w l) (hB : FL l 0 * FL l 3 ≤ 65536) (hB2 : FL l 1 * FL l 0 ≤ 65536) : wp (d + 20) 434 (0, ent 1 [vR (some w)], [], h) (givesL h ((thrC (FL l) (EL l) : Nat) : Int)) := by
  obtain ⟨r, p, qs, fs, k1, k2, k3, k4⟩ := hV
  unfold thrC
  refine wp.go [] 80 fun W C hW hC => ?_
  refine ⟨_, _, _, _, k1, rfl, rfl, ?_⟩
  refine ⟨_, _, _, k2, rfl, ?_⟩
  refine hC _ _ _ (useE (wpd.up (by omega) (at_spec (d := 0) (k := 0) k2 k3 (by decide) (by omega))) ?_)
  refine ⟨_, _, _, _, k1, rfl, rfl, ?_⟩
  refine ⟨_, _, _, k2, rfl, ?_⟩
  refine hC _ _ _ (useE (wpd.up (by omega) (at_spec (d := 0) (k := 2) k2 k3 (by decide) (by omega))) ?_)
  refine hC _ _ _ (useE (wpd.up (by omega) (same_spec (d := 0) (k4 0 (by decide)) (k4 2 (by decide)))) ?_)
  cases e02 : eqO l[0]? l[2]? with
  | true =>
    rw [if_pos (show EL l 0 2 = true from e02)]
    refine ⟨fun q => absurd q (by decide), fun _ => ?_⟩
    refine ⟨_, _, _, _, k1, rfl, rfl, ?_⟩
    refine ⟨_, _, _, k2, rfl, ?_⟩
    refine hC _ _ _ (useE (wpd.up (by omega) (at_spec (d := 0) (k := 0) k2 k3 (by decide) (by omega))) ?_)
    refine hC _ _ _ (useE (wpd.up (by omega) (f1_spec (d := 0) (k4 0 (by decide)))) ?_)
    refine ⟨_, _, _, _, k1, rfl, rfl, ?_⟩
    refine ⟨_, _, _, k2, rfl, ?_⟩
    refine hC _ _ _ (useE (wpd.up (by omega) (at_spec (d := 0) (k := 3) k2 k3 (by decide) (by omega))) ?_)
    refine hC _ _ _ (useE (wpd.up (by omega) (f1_spec (d := 0) (k4 3 (by decide)))) ?_)
    conv => whnf
    rw [show fO l[0]? = FL l 0 from rfl, show fO l[3]? = FL l 3 from rfl, lmulN (by omega)]
    exact ⟨rfl, rfl⟩
  | false =>
    rw [if_neg (fun q => by rw [show EL l 0 2 = false from e02] at q; cases q)]
    refine ⟨fun _ => ?_, fun q => absurd rfl q⟩
    refine ⟨_, _, _, _, k1, rfl, rfl, ?_⟩
    refine ⟨_, _, _, k2, rfl, ?_⟩
    refine hC _ _ _ (useE (wpd.up (by omega) (at_spec (d := 0) (k := 1) k2 k3 (by decide) (by omega))) ?_)
    refine ⟨_, _, _, _, k1, rfl, rfl, ?_⟩
    refine ⟨_, _, _, k2, rfl, ?_⟩
    refine hC _ _ _ (useE (wpd.up (by omega) (at_spec (d := 0) (k := 3) k2 k3 (by decide) (by omega))) ?_)
    refine hC _ _ _ (useE (wpd.up (by omega) (same_spec (d := 0) (k4 1 (by decide)) (k4 3 (by decide)))) ?_)
    cases e13 : eqO l[1]? l[3]? with
    | true =>
      rw [if_pos (show EL l 1 3 = true from e13)]
      refine ⟨fun q => absurd q (by decide), fun _ => ?_⟩
      refine ⟨_, _, _, _, k1, rfl, rfl, ?_⟩
      refine ⟨_, _, _, k2, rfl, ?_⟩
      refine hC _ _ _ (useE (wpd.up (by omega) (at_spec (d := 0) (k := 1) k2 k3 (by decide) (by omega))) ?_)
      refine hC _ _ _ (useE (wpd.up (by omega) (f1_spec (d := 0) (k4 1 (by decide)))) ?_)
      refine ⟨_, _, _, _, k1, rfl, rfl, ?_⟩
      refine ⟨_, _, _, k2, rfl, ?_⟩
      refine hC _ _ _ (useE (wpd.up (by omega) (at_spec (d := 0) (k := 0) k2 k3 (by decide) (by omega))) ?_)
      refine hC _ _ _ (useE (wpd.up (by omega) (f1_spec (d := 0) (k4 0 (by decide)))) ?_)
      conv => whnf
      rw [show fO l[1]? = FL l 1 from rfl, show fO l[0]? = FL l 0 from rfl, lmulN (by omega)]
      exact ⟨rfl, rfl⟩
    | false =>
      rw [if_neg (fun q => by rw [show EL l 1 3 = false from e13] at q; cases q)]
      exact ⟨fun _ => ⟨rfl, rfl⟩, fun q => absurd rfl q⟩
end ONE
