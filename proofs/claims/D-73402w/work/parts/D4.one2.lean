section ONE2
variable {d : Nat} {h : AH} {w : Nat} {l : List Tr} {s : Nat → Nat}
theorem prd_le (hB : FourB (FL l) (OL l) s) : ∀ k, k ≤ 4 → prdN (FL l) k ≤ 65536 := by
  obtain ⟨b1, b2, b3, b4, b5, b6, b7⟩ := four_bd hB (a := 0) (b := 1) (c := 2) (by decide) (by decide) (by decide) (by decide) (by decide) (by decide)
  have e1 : prdN (FL l) 1 = FL l 0 := Nat.one_mul _
  have e2 : prdN (FL l) 2 = FL l 0 * FL l 1 := by show prdN (FL l) 1 * FL l 1 = _; rw [e1]
  have e3 : prdN (FL l) 3 = FL l 0 * FL l 1 * FL l 2 := by show prdN (FL l) 2 * FL l 2 = _; rw [e2]
  have e4 : prdN (FL l) 4 = FL l 0 * FL l 1 * FL l 2 * FL l 3 := by show prdN (FL l) 3 * FL l 3 = _; rw [e3]
  intro k hk
  rcases (show k = 0 ∨ k = 1 ∨ k = 2 ∨ k = 3 ∨ k = 4 by omega) with rfl | rfl | rfl | rfl | rfl
  · exact (by decide : 1 ≤ 65536)
  · rw [e1]
    exact Nat.le_trans (hB.1 0 (by decide)).1 (Nat.le_trans (Nat.pow_le_pow_right (by decide) (show s 0 ≤ 16 by have := hB.2; omega)) (by decide))
  · rw [e2]; exact b7
  · rw [e3]; exact b6
  · rw [e4]; exact b5
theorem two_le (hB : FourB (FL l) (OL l) s) : twoC (FL l) (EL l) ≤ 131072 := by
  obtain ⟨b1, b2, b3, b4, b5, b6, b7⟩ := four_bd hB (a := 0) (b := 1) (c := 2) (by decide) (by decide) (by decide) (by decide) (by decide) (by decide)
  unfold twoC
  split
  · split <;> omega
  · omega
theorem thr_le (hB : FourB (FL l) (OL l) s) : thrC (FL l) (EL l) ≤ 65536 := by
  obtain ⟨b1, b2, b3, b4, b5, b6, b7⟩ := four_bd hB (a := 0) (b := 1) (c := 2) (by decide) (by decide) (by decide) (by decide) (by decide) (by decide)
  have b3 : FL l 0 * FL l 3 ≤ 65536 := b3
  have e := Nat.mul_comm (FL l 1) (FL l 0)
  unfold thrC
  split
  · omega
  · split <;> omega
def forC (F : Nat → Nat) (E : Nat → Nat → Bool) : Nat := (ordN E 4 * prdN F 4 + 3 * twoC F E + 8 * thrC F E) / 12
theorem oneForms_spec (hV : OneV h w l) (hB : FourB (FL l) (OL l) s) : wp (d + 21) 429 (0, ent 1 [vR (some w)], [], h) (givesL h ((forC (FL l) (EL l) : Nat) : Int)) := by
  obtain ⟨b1, b2, b3, b4, b5, b6, b7⟩ := four_bd hB (a := 0) (b := 1) (c := 2) (by decide) (by decide) (by decide) (by decide) (by decide) (by decide)
  have b3 : FL l 0 * FL l 3 ≤ 65536 := b3
  have e := Nat.mul_comm (FL l 1) (FL l 0)
  have hp := prd_le hB
  have h2 := two_le hB
  have h3 := thr_le hB
  have ho := ord_le (EL l) 4
  have hop : ordN (EL l) 4 * prdN (FL l) 4 ≤ 24 * 65536 := Nat.mul_le_mul ho (hp 4 (by decide))
  obtain ⟨r, p, qs, fs, k1, k2, k3, k4⟩ := id hV
  refine wp.go [] 40 fun W C hW hC => ?_
  refine ⟨_, _, _, k1, rfl, ?_⟩
  refine hC _ _ _ (useE (wpd.up (by omega) (orders_spec (d := 0) hV)) ?_)
  refine ⟨_, _, _, k1, rfl, ?_⟩
  refine hC _ _ _ (useE (wpd.up (by omega) (cproduct_spec (d := 0) hV hp)) ?_)
  refine ⟨_, _, _, k1, rfl, ?_⟩
  refine hC _ _ _ (useE (wpd.up (by omega) (twos_spec (d := 0) hV b4)) ?_)
  refine ⟨_, _, _, k1, rfl, ?_⟩
  refine hC _ _ _ (useE (wpd.up (by omega) (threes_spec (d := 0) hV b3 (by omega))) ?_)
  refine ⟨by decide, ?_⟩
  rw [lmulN (by omega), show lmul 3 ((twoC (FL l) (EL l) : Nat) : Int) = ((3 * twoC (FL l) (EL l) : Nat) : Int) from lmulN (a := 3) (by omega), show lmul 8 ((thrC (FL l) (EL l) : Nat) : Int) = ((8 * thrC (FL l) (EL l) : Nat) : Int) from lmulN (a := 8) (by omega), laddN (by omega), laddN (by omega)]
  rw [show ldiv ((ordN (EL l) 4 * prdN (FL l) 4 + 3 * twoC (FL l) (EL l) + 8 * thrC (FL l) (EL l) : Nat) : Int) 12 = ((forC (FL l) (EL l) : Nat) : Int) from ldivN (b := 12) (by omega) (by decide) (by decide)]
  exact ⟨rfl, rfl⟩
theorem told_spec (hV : OneV h w l) {a b : Nat} (ha : a < 4) (hb : b ≤ 4) : wp (d + 20) 437 (0, ent 4 [vR (some w), vI ((a : Nat) : Int), vI ((b : Nat) : Int)], [], h) (gives h (z01 (toldC (EL l) a b))) := by
  obtain ⟨r, p, qs, fs, k1, k2, k3, k4⟩ := hV
  have loop : ∀ (j k : Nat), j + k = b → toldC (EL l) a k = false → wp (d + 20) 437 (2, [some (vR (some w)), some (vI ((a : Nat) : Int)), some (vI ((b : Nat) : Int)), some (vI ((k : Nat) : Int))], [], h) (gives h (z01 (toldC (EL l) a b))) := by
    intro j
    induction j with
    | zero =>
      intro k hk ht
      obtain rfl : k = b := by omega
      rw [ht]
      refine wp.go [2] 10 fun W C hW hC => ?_
      exact ⟨fun _ => ⟨Or.inl rfl, rfl, rfl⟩, fun q => absurd q (by omega)⟩
    | succ j ih =>
      intro k hk ht
      have hs : toldC (EL l) a (k + 1) = (toldC (EL l) a k || (!(Nat.beq k a) && EL l k a)) := rfl
      rw [ht, Bool.false_or] at hs
      refine wp.go [2] 30 fun W C hW hC => ?_
      refine ⟨fun q => absurd q (by omega), fun _ => ?_⟩
      refine ⟨fun q => ?_, fun q => ?_⟩
      · (conv => whnf); simp (disch := omega) only [iadd_eq, isub_eq, imul_eq]
        refine hW _ (ih (k + 1) (by omega) ?_)
        rw [hs, show k = a by omega, Nat.beq_refl]
        rfl
      · refine ⟨_, _, _, _, k1, rfl, rfl, ?_⟩
        refine ⟨_, _, _, k2, rfl, ?_⟩
        refine hC _ _ _ (useE (wpd.up (by omega) (at_spec (d := 0) (k := k) k2 k3 (by decide) (by omega))) ?_)
        refine ⟨_, _, _, _, k1, rfl, rfl, ?_⟩
        refine ⟨_, _, _, k2, rfl, ?_⟩
        refine hC _ _ _ (useE (wpd.up (by omega) (at_spec (d := 0) (k := a) k2 k3 (by decide) (by omega))) ?_)
        refine hC _ _ _ (useE (wpd.up (by omega) (same_spec (d := 0) (k4 k (by omega)) (k4 a ha))) ?_)
        rw [nbeq.mpr (show k ≠ a by omega), Bool.true_and] at hs
        cases e : eqO l[k]? l[a]? with
        | true =>
          rw [show EL l k a = true from e] at hs
          refine ⟨fun q => absurd q (by decide), fun _ => ?_⟩
          have : ∀ i, toldC (EL l) a (k + 1 + i) = true := by
            intro i
            induction i with
            | zero => exact hs
            | succ i ihi => show (toldC (EL l) a (k + 1 + i) || _) = true; rw [ihi]; rfl
          have := this (b - (k + 1))
          rw [show k + 1 + (b - (k + 1)) = b by omega] at this
          rw [this]
          exact ⟨Or.inr rfl, rfl, rfl⟩
        | false =>
          rw [show EL l k a = false from e] at hs
          refine ⟨fun _ => ?_, fun q => absurd rfl q⟩
          (conv => whnf); simp (disch := omega) only [iadd_eq, isub_eq, imul_eq]
          exact hW _ (ih (k + 1) (by omega) hs)
  refine wp.go [2] 10 fun W C hW hC => ?_
  exact hW _ (loop b 0 (by omega) rfl)
theorem mir_le (hB : FourB (FL l) (OL l) s) {a b : Nat} (hab : a < b) (hb : b < 4) : itsC (FL l) (OL l) a b ≤ 65536 ∧ FL l a * OL l (cC a b) ≤ 65536 ∧ cC a b < 4 ∧ 6 - a - b - cC a b < 4 := by
  have hc : cC a b < 4 ∧ cC a b ≠ a ∧ cC a b ≠ b := by
    show (if a = 0 then (if b = 1 then 2 else 1) else 0) < 4 ∧ (if a = 0 then (if b = 1 then 2 else 1) else 0) ≠ a ∧ (if a = 0 then (if b = 1 then 2 else 1) else 0) ≠ b
    split
    · split <;> omega
    · omega
  obtain ⟨b1, b2, -⟩ := four_bd hB (a := a) (b := b) (c := cC a b) (by omega) hb hc.1 (by omega) (by omega) (by omega)
  exact ⟨b1, b2, hc.1, (hB.sum (a := a) (b := b) (c := cC a b) (by omega) hb hc.1 (by omega) (by omega) (by omega)).1⟩
theorem mirT_le (hB : FourB (FL l) (OL l) s) {a b : Nat} (hab : a < b) (hb : b < 4) : mirT (FL l) (OL l) (EL l) a b ≤ 131072 := by
  have := (mir_le hB hab hb).1
  unfold mirT
  split
  · split <;> omega
  · omega
theorem mir_step (hV : OneV h w l) (hB : FourB (FL l) (OL l) s) {a b T : Nat} (hab : a < b) (hb : b < 4) (hT : T ≤ 100000000) {Q : Rs → AH → Prop} {x5 x6 x7 x8 : Option AV}
    (hQ : ∀ y5 y6 y7 y8 : Option AV, wp (d + 21) 436 (14, [some (vR (some w)), some (vL ((T + mirT (FL l) (OL l) (EL l) a b : Nat) : Int)), none, some (vI ((a : Nat) : Int)), some (vI ((b + 1 : Nat) : Int)), y5, y6, y7, y8], [], h) Q) :
    wp (d + 21) 436 (14, [some (vR (some w)), some (vL ((T : Nat) : Int)), none, some (vI ((a : Nat) : Int)), some (vI ((b : Nat) : Int)), x5, x6, x7, x8], [], h) Q := by
  obtain ⟨r, p, qs, fs, k1, k2, k3, k4⟩ := id hV
  obtain ⟨m1, m2, m3, m4⟩ := mir_le hB hab hb
  have next : ∀ (y5 y6 y7 y8 : Option AV) (T' : Nat), T' = T + mirT (FL l) (OL l) (EL l) a b → wp (d + 21) 436 (166, [some (vR (some w)), some (vL ((T' : Nat) : Int)), none, some (vI ((a : Nat) : Int)), some (vI ((b : Nat) : Int)), y5, y6, y7, y8], [], h) Q := by
    intro y5 y6 y7 y8 T' hT'
    refine wp.go [14] 10 fun W C hW hC => ?_
    (conv => whnf); simp (disch := omega) only [iadd_eq, isub_eq, imul_eq]
    rw [hT']
    exact hW _ (hQ y5 y6 y7 y8)
  have body : ∀ (y6 y7 y8 : Option AV), EL l a b = true → toldC (EL l) a b = false → wp (d + 21) 436 (75, [some (vR (some w)), some (vL ((T : Nat) : Int)), none, some (vI ((a : Nat) : Int)), some (vI ((b : Nat) : Int)), x5, y6, y7, y8], [vI ((cC a b : Nat) : Int)], h) Q := by
    intro y6 y7 y8 he ht
    have hm : mirT (FL l) (OL l) (EL l) a b = if EL l (cC a b) (6 - a - b - cC a b) = true then itsC (FL l) (OL l) a b else 2 * itsC (FL l) (OL l) a b := if_pos ⟨he, ht⟩
    have hits : FL l a * OL l (cC a b) * OL l (6 - a - b - cC a b) = itsC (FL l) (OL l) a b := rfl
    have hsub : (6 : Int) - ((a : Nat) : Int) - ((b : Nat) : Int) - ((cC a b : Nat) : Int) = ((6 - a - b - cC a b : Nat) : Int) := by
      have : cC a b ≤ 6 - a - b := by
        show (if a = 0 then (if b = 1 then 2 else 1) else 0) ≤ _
        split
        · split <;> omega
        · omega
      omega
    generalize hcc : cC a b = c at *
    generalize hee : 6 - a - b - c = e at *
    refine wp.go [166] 100 fun W C hW hC => ?_
    conv => whnf
    rw [isub_eq (x := (6 : Int)) (y := ((a : Nat) : Int)) (by omega), isub_eq (x := (6 : Int) - ((a : Nat) : Int)) (y := ((b : Nat) : Int)) (by omega), isub_eq (x := (6 : Int) - ((a : Nat) : Int) - ((b : Nat) : Int)) (y := ((c : Nat) : Int)) (by omega), hsub]
    refine ⟨_, _, _, _, k1, rfl, rfl, ?_⟩
    refine ⟨_, _, _, k2, rfl, ?_⟩
    refine hC _ _ _ (useE (wpd.up (by omega) (at_spec (d := 0) (k := a) k2 k3 (by decide) (by omega))) ?_)
    refine hC _ _ _ (useE (wpd.up (by omega) (f1_spec (d := 0) (k4 a (by omega)))) ?_)
    refine ⟨_, _, _, _, k1, rfl, rfl, ?_⟩
    refine ⟨_, _, _, k2, rfl, ?_⟩
    refine hC _ _ _ (useE (wpd.up (by omega) (at_spec (d := 0) (k := c) k2 k3 (by decide) (by omega))) ?_)
    refine hC _ _ _ (useE (wpd.up (by omega) (o1_spec (d := 0) (k4 c m3))) ?_)
    refine ⟨_, _, _, _, k1, rfl, rfl, ?_⟩
    refine ⟨_, _, _, k2, rfl, ?_⟩
    refine hC _ _ _ (useE (wpd.up (by omega) (at_spec (d := 0) (k := e) k2 k3 (by decide) (by omega))) ?_)
    refine hC _ _ _ (useE (wpd.up (by omega) (o1_spec (d := 0) (k4 e m4))) ?_)
    conv => whnf
    rw [show fO l[a]? = FL l a from rfl, show oO l[c]? = OL l c from rfl, show oO l[e]? = OL l e from rfl, lmulN (by omega), lmulN (by omega), hits]
    refine ⟨_, _, _, _, k1, rfl, rfl, ?_⟩
    refine ⟨_, _, _, k2, rfl, ?_⟩
    refine hC _ _ _ (useE (wpd.up (by omega) (at_spec (d := 0) (k := c) k2 k3 (by decide) (by omega))) ?_)
    refine ⟨_, _, _, _, k1, rfl, rfl, ?_⟩
    refine ⟨_, _, _, k2, rfl, ?_⟩
    refine hC _ _ _ (useE (wpd.up (by omega) (at_spec (d := 0) (k := e) k2 k3 (by decide) (by omega))) ?_)
    refine hC _ _ _ (useE (wpd.up (by omega) (same_spec (d := 0) (k4 c m3) (k4 e m4))) ?_)
    cases ec : eqO l[c]? l[e]? with
    | true =>
      rw [if_pos (show EL l c e = true from ec)] at hm
      refine ⟨fun q => absurd q (by decide), fun _ => ?_⟩
      conv => whnf
      rw [laddN (by omega)]
      exact hW _ (next _ _ _ _ _ (by rw [hm]))
    | false =>
      rw [if_neg (fun q => by rw [show EL l c e = false from ec] at q; cases q)] at hm
      refine ⟨fun _ => ?_, fun q => absurd rfl q⟩
      conv => whnf
      rw [show lmul 2 ((itsC (FL l) (OL l) a b : Nat) : Int) = ((2 * itsC (FL l) (OL l) a b : Nat) : Int) from lmulN (a := 2) (by omega), laddN (by omega)]
      exact hW _ (next _ _ _ _ _ (by rw [hm]))
  refine wp.go [14, 166, 75] 60 fun W C hW hC => ?_
  refine ⟨fun q => absurd q (by omega), fun _ => ?_⟩
  refine ⟨_, _, _, _, k1, rfl, rfl, ?_⟩
  refine ⟨_, _, _, k2, rfl, ?_⟩
  refine hC _ _ _ (useE (wpd.up (by omega) (at_spec (d := 0) (k := a) k2 k3 (by decide) (by omega))) ?_)
  refine ⟨_, _, _, _, k1, rfl, rfl, ?_⟩
  refine ⟨_, _, _, k2, rfl, ?_⟩
  refine hC _ _ _ (useE (wpd.up (by omega) (at_spec (d := 0) (k := b) k2 k3 (by decide) (by omega))) ?_)
  refine hC _ _ _ (useE (wpd.up (by omega) (same_spec (d := 0) (k4 a (by omega)) (k4 b hb))) ?_)
  cases e : eqO l[a]? l[b]? with
  | false =>
    refine ⟨fun _ => ?_, fun q => absurd rfl q⟩
    refine hW _ (next _ _ _ _ _ ?_)
    unfold mirT
    rw [if_neg (fun q => by have := q.1; rw [show EL l a b = false from e] at this; cases this), Nat.add_zero]
  | true =>
    refine ⟨fun q => absurd q (by decide), fun _ => ?_⟩
    refine ⟨_, _, _, k1, rfl, ?_⟩
    refine hC _ _ _ (useE (wpd.up (by omega) (told_spec (d := 0) hV (show a < 4 by omega) (show b ≤ 4 by omega))) ?_)
    cases et : toldC (EL l) a b with
    | true =>
      refine ⟨fun q => absurd q (by decide), fun _ => ?_⟩
      refine hW _ (next _ _ _ _ _ ?_)
      unfold mirT
      rw [if_neg (fun q => by have := q.2; rw [et] at this; cases this), Nat.add_zero]
    | false =>
      refine ⟨fun _ => ?_, fun q => absurd rfl q⟩
      refine ⟨fun q => ?_, fun q => ?_⟩
      · have := body x6 x7 x8 e et
        rw [show cC a b = 0 from if_neg (by omega)] at this
        exact hW _ this
      · refine ⟨fun q2 => ?_, fun q2 => ?_⟩
        · have := body x6 x7 x8 e et
          rw [show cC a b = 1 by show (if a = 0 then (if b = 1 then 2 else 1) else 0) = 1; rw [if_pos (by omega), if_neg (by omega)]] at this
          exact hW _ this
        · have := body x6 x7 x8 e et
          rw [show cC a b = 2 by show (if a = 0 then (if b = 1 then 2 else 1) else 0) = 2; rw [if_pos (by omega), if_pos (by omega)]] at this
          exact hW _ this
theorem mirI_le (hB : FourB (FL l) (OL l) s) {a : Nat} : ∀ (j b : Nat), j + b = 4 → a < b → mirI (FL l) (OL l) (EL l) a j b ≤ 131072 * j
  | 0, _, _, _ => Nat.zero_le _
  | j + 1, b, h1, h2 => by
    have := mirT_le hB h2 (show b < 4 by omega)
    have := mirI_le hB (a := a) j (b + 1) (by omega) (by omega)
    show mirT (FL l) (OL l) (EL l) a b + mirI (FL l) (OL l) (EL l) a j (b + 1) ≤ _
    omega
theorem mirO_le (hB : FourB (FL l) (OL l) s) : ∀ (j a : Nat), j + a = 4 → mirO (FL l) (OL l) (EL l) j a ≤ 131072 * 4 * j
  | 0, _, _ => Nat.zero_le _
  | j + 1, a, h1 => by
    have := mirI_le hB (a := a) j (a + 1) (by omega) (by omega)
    have := mirO_le hB j (a + 1) (by omega)
    show mirI (FL l) (OL l) (EL l) a j (a + 1) + mirO (FL l) (OL l) (EL l) j (a + 1) ≤ _
    omega
theorem mirrored_spec (hV : OneV h w l) (hB : FourB (FL l) (OL l) s) : wp (d + 21) 436 (0, ent 9 [vR (some w)], [], h) (givesL h ((mirO (FL l) (OL l) (EL l) 4 0 : Nat) : Int)) := by
  have inner : ∀ (a : Nat) (Q : Rs → AH → Prop) (R : Nat), a < 4 → (∀ y4 y5 y6 y7 y8 : Option AV, wp (d + 21) 436 (4, [some (vR (some w)), some (vL ((R : Nat) : Int)), none, some (vI ((a + 1 : Nat) : Int)), y4, y5, y6, y7, y8], [], h) Q) → ∀ (j b T : Nat) (x5 x6 x7 x8 : Option AV), j + b = 4 → a < b → T + mirI (FL l) (OL l) (EL l) a j b = R → R ≤ 10000000 →
      wp (d + 21) 436 (14, [some (vR (some w)), some (vL ((T : Nat) : Int)), none, some (vI ((a : Nat) : Int)), some (vI ((b : Nat) : Int)), x5, x6, x7, x8], [], h) Q := by
    intro a Q R ha hQ j
    induction j with
    | zero =>
      intro b T x5 x6 x7 x8 hj hab hT hR
      obtain rfl : b = 4 := by omega
      have hT : T + 0 = R := hT
      obtain rfl : T = R := by omega
      refine wp.go [4] 20 fun W C hW hC => ?_
      refine ⟨fun _ => ?_, fun q => absurd q (by decide)⟩
      (conv => whnf); simp (disch := omega) only [iadd_eq, isub_eq, imul_eq]
      exact hW _ (hQ _ x5 x6 x7 x8)
    | succ j ih =>
      intro b T x5 x6 x7 x8 hj hab hT hR
      have hT : T + (mirT (FL l) (OL l) (EL l) a b + mirI (FL l) (OL l) (EL l) a j (b + 1)) = R := hT
      exact mir_step hV hB hab (by omega) (by omega) fun y5 y6 y7 y8 => ih (b + 1) _ y5 y6 y7 y8 (by omega) (by omega) (by omega) hR
  have outer : ∀ (j a T : Nat) (x4 x5 x6 x7 x8 : Option AV), j + a = 4 → T + mirO (FL l) (OL l) (EL l) j a = mirO (FL l) (OL l) (EL l) 4 0 → wp (d + 21) 436 (4, [some (vR (some w)), some (vL ((T : Nat) : Int)), none, some (vI ((a : Nat) : Int)), x4, x5, x6, x7, x8], [], h) (givesL h ((mirO (FL l) (OL l) (EL l) 4 0 : Nat) : Int)) := by
    have hall := mirO_le hB 4 0 rfl
    intro j
    induction j with
    | zero =>
      intro a T x4 x5 x6 x7 x8 hj hT
      obtain rfl : a = 4 := by omega
      have hT : T + 0 = mirO (FL l) (OL l) (EL l) 4 0 := hT
      rw [← hT]
      refine wp.go [4] 20 fun W C hW hC => ?_
      exact ⟨fun _ => ⟨rfl, rfl⟩, fun q => absurd q (by decide)⟩
    | succ j ih =>
      intro a T x4 x5 x6 x7 x8 hj hT
      have hT : T + (mirI (FL l) (OL l) (EL l) a j (a + 1) + mirO (FL l) (OL l) (EL l) j (a + 1)) = mirO (FL l) (OL l) (EL l) 4 0 := hT
      refine wp.go [4, 14] 20 fun W C hW hC => ?_
      refine ⟨fun q => absurd q (by omega), fun _ => ?_⟩
      (conv => whnf); simp (disch := omega) only [iadd_eq, isub_eq, imul_eq]
      refine hW _ (inner a _ (T + mirI (FL l) (OL l) (EL l) a j (a + 1)) (by omega) (fun y4 y5 y6 y7 y8 => ih (a + 1) _ y4 y5 y6 y7 y8 (by omega) (by omega)) j (a + 1) T x5 x6 x7 x8 (by omega) (by omega) rfl (by omega))
  refine wp.go [4] 10 fun W C hW hC => ?_
  exact hW _ (outer 4 0 0 none none none none none rfl (by omega))
def ownC (F O : Nat → Nat) (E : Nat → Nat → Bool) : Nat := (mirO F O E 4 0 + (if E 0 3 = true then F 0 else 0)) / 2
theorem oneOwn_spec (hV : OneV h w l) (hB : FourB (FL l) (OL l) s) : wp (d + 22) 435 (0, ent 3 [vR (some w)], [], h) (givesL h ((ownC (FL l) (OL l) (EL l) : Nat) : Int)) := by
  have hall := mirO_le hB 4 0 rfl
  have hf : FL l 0 ≤ 65536 := Nat.le_trans (hB.1 0 (by decide)).1 (Nat.le_trans (Nat.pow_le_pow_right (by decide) (show s 0 ≤ 16 by have := hB.2; omega)) (by decide))
  obtain ⟨r, p, qs, fs, k1, k2, k3, k4⟩ := id hV
  have tail : ∀ x : Nat, x ≤ 65536 → x = (if EL l 0 3 = true then FL l 0 else 0) → wp (d + 22) 435 (37, [some (vR (some w)), none, none], [vL ((x : Nat) : Int)], h) (givesL h ((ownC (FL l) (OL l) (EL l) : Nat) : Int)) := by
    intro x hx hx2
    unfold ownC
    rw [← hx2]
    refine wp.go [] 20 fun W C hW hC => ?_
    refine ⟨_, _, _, k1, rfl, ?_⟩
    refine hC _ _ _ (useE (wpd.up (by omega) (mirrored_spec (d := 0) hV hB)) ?_)
    refine ⟨by decide, ?_⟩
    rw [laddN (by omega), show ldiv ((mirO (FL l) (OL l) (EL l) 4 0 + x : Nat) : Int) 2 = (((mirO (FL l) (OL l) (EL l) 4 0 + x) / 2 : Nat) : Int) from ldivN (b := 2) (by omega) (by decide) (by decide)]
    exact ⟨rfl, rfl⟩
  refine wp.go [37] 40 fun W C hW hC => ?_
  refine ⟨_, _, _, _, k1, rfl, rfl, ?_⟩
  refine ⟨_, _, _, k2, rfl, ?_⟩
  refine hC _ _ _ (useE (wpd.up (by omega) (at_spec (d := 0) (k := 0) k2 k3 (by decide) (by omega))) ?_)
  refine ⟨_, _, _, _, k1, rfl, rfl, ?_⟩
  refine ⟨_, _, _, k2, rfl, ?_⟩
  refine hC _ _ _ (useE (wpd.up (by omega) (at_spec (d := 0) (k := 3) k2 k3 (by decide) (by omega))) ?_)
  refine hC _ _ _ (useE (wpd.up (by omega) (same_spec (d := 0) (k4 0 (by decide)) (k4 3 (by decide)))) ?_)
  cases e : eqO l[0]? l[3]? with
  | false =>
    refine ⟨fun _ => ?_, fun q => absurd rfl q⟩
    exact hW _ (tail 0 (by decide) (by rw [if_neg (fun q => by rw [show EL l 0 3 = false from e] at q; cases q)]))
  | true =>
    refine ⟨fun q => absurd q (by decide), fun _ => ?_⟩
    refine ⟨_, _, _, _, k1, rfl, rfl, ?_⟩
    refine ⟨_, _, _, k2, rfl, ?_⟩
    refine hC _ _ _ (useE (wpd.up (by omega) (at_spec (d := 0) (k := 0) k2 k3 (by decide) (by omega))) ?_)
    refine hC _ _ _ (useE (wpd.up (by omega) (f1_spec (d := 0) (k4 0 (by decide)))) ?_)
    exact hW _ (tail (FL l 0) hf (by rw [if_pos (show EL l 0 3 = true from e)]))
end ONE2
