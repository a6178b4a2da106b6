/-! ROWS OF FOUR: the sums that countsRow makes -/
def r9 (F : Nat → Nat) (a b c e : Nat) : Nat := F a * F b * F c * F e
def r10 (F : Nat → Nat) (E : Nat → Nat → Bool) (a b c e : Nat) : Nat := cond (E a b && E c e) (F a * F c) 0
def r11 (F : Nat → Nat) (E : Nat → Nat → Bool) (a b c e : Nat) : Nat := cond (E a b && E b c) (F a * F e) 0
def r12 (F O : Nat → Nat) (E : Nat → Nat → Bool) (a b c e : Nat) : Nat := cond (E a b) (F a * O c * O e) 0
/-- four places: the shapes on them, their forms, their own forms -/
def FourOk (A : Nat → List Int) (fi F O : Nat → Nat) (E : Nat → Nat → Bool) : Prop := (∀ k, k < 4 → fi k ≤ 63 ∧ gt (A 39) k = ((fi k : Nat) : Int) ∧ gt (A 14) (fi k) = ((F k : Nat) : Int) ∧ gt (A 15) (fi k) = ((O k : Nat) : Int)) ∧ ∀ a b, a < 4 → b < 4 → (E a b = true ↔ fi a = fi b)
theorem sc_self {sc : Nat → Int} {k : Nat} {v : Int} (h : sc k = v) : up sc k v = sc := by
  funext i
  by_cases e : i = k
  · subst e; rw [up_eq, h]
  · rw [upn_ne _ _ e]
section ROWS
variable {d : Nat} {h0 : AH} {M : Nat} {A : Nat → List Int} {sc : Nat → Int} {fi F O : Nat → Nat} {E : Nat → Nat → Bool}
abbrev LR (M : Nat) (fi : Nat → Nat) (a b c e : Nat) : List (Option AV) := [some (vR (some M)), some (vI ((a : Nat) : Int)), some (vI ((b : Nat) : Int)), some (vI ((c : Nat) : Int)), some (vI ((e : Nat) : Int)), some (vI ((fi a : Nat) : Int)), some (vI ((fi b : Nat) : Int)), some (vI ((fi c : Nat) : Int)), some (vI ((fi e : Nat) : Int))]
theorem row149 (hA : lens A) (h : FourOk A fi F O E) {a b c e : Nat} (ha : a < 4) (hb : b < 4) (hc : c < 4) (he : e < 4) (hB : F a * O c * O e ≤ 65536) (hB2 : F a * O c ≤ 65536) {x : Nat} (hx : sc 12 = ((x : Nat) : Int)) (hx2 : x ≤ 1000000000) :
    wp (d + 1) 376 (149, LR M fi a b c e, [], tw h0 M A sc) (fun r h' => r = .inl none ∧ h' = tw h0 M A (up sc 12 ((x + r12 F O E a b c e : Nat) : Int))) := by
  obtain ⟨a1, a2, a3, a4⟩ := h.1 a ha
  obtain ⟨c1, c2, c3, c4⟩ := h.1 c hc
  obtain ⟨e1, e2, e3, e4⟩ := h.1 e he
  have hE := h.2 a b ha hb
  unfold r12
  refine wp.go [] 60 fun W C hW hC => ?_
  refine ⟨fun z => ?_, fun z => ?_⟩
  · have : E a b = false := by
      cases q : E a b with
      | false => rfl
      | true => exact absurd (congrArg Nat.cast (hE.mp q)) z
    rw [this]
    exact ⟨rfl, by rw [sc_self (by rw [hx]; rfl)]⟩
  · rw [hE.mpr (by omega)]
    refine ⟨_, _, _, _, twF, rfl, rfl, ?_⟩
    rw [hx]
    refine ⟨_, _, _, _, twF, rfl, rfl, ?_⟩
    refine ⟨_, _, _, twI rfl rfl, rfl, (by omega), gt_at (fi a) (by omega) (lenlt (j := 14) (hA) (show (fi a) < 64 by omega)), ?_⟩
    rw [a3]
    refine ⟨_, _, _, _, twF, rfl, rfl, ?_⟩
    refine ⟨_, _, _, twI rfl rfl, rfl, (by omega), gt_at (fi c) (by omega) (lenlt (j := 15) (hA) (show (fi c) < 64 by omega)), ?_⟩
    rw [c4]
    refine ⟨_, _, _, _, twF, rfl, rfl, ?_⟩
    refine ⟨_, _, _, twI rfl rfl, rfl, (by omega), gt_at (fi e) (by omega) (lenlt (j := 15) (hA) (show (fi e) < 64 by omega)), ?_⟩
    rw [e4]
    conv => whnf
    rw [lmulN (by omega), lmulN (by omega), laddN (by omega)]
    (refine ⟨_, _, _, twF, rfl, (Nat.le_of_ble_eq_true rfl), ?_⟩; rw [twP12])
    exact ⟨rfl, rfl⟩
theorem row111 (hA : lens A) (h : FourOk A fi F O E) {a b c e : Nat} (ha : a < 4) (hb : b < 4) (hc : c < 4) (he : e < 4) (hB : F a * O c * O e ≤ 65536) (hB2 : F a * O c ≤ 65536) (hB3 : F a * F e ≤ 65536) {x y : Nat} (hx : sc 12 = ((x : Nat) : Int)) (hx2 : x ≤ 1000000000) (hy : sc 11 = ((y : Nat) : Int)) (hy2 : y ≤ 1000000000) :
    wp (d + 1) 376 (111, LR M fi a b c e, [], tw h0 M A sc) (fun r h' => r = .inl none ∧ h' = tw h0 M A (up (up sc 11 ((y + r11 F E a b c e : Nat) : Int)) 12 ((x + r12 F O E a b c e : Nat) : Int))) := by
  obtain ⟨a1, a2, a3, a4⟩ := h.1 a ha
  obtain ⟨e1, e2, e3, e4⟩ := h.1 e he
  have hE := h.2 a b ha hb
  have hE2 := h.2 b c hb hc
  unfold r11
  have no : (E a b && E b c) = false → wp (d + 1) 376 (149, LR M fi a b c e, [], tw h0 M A sc) (fun r h' => r = .inl none ∧ h' = tw h0 M A (up (up sc 11 ((y + cond (E a b && E b c) (F a * F e) 0 : Nat) : Int)) 12 ((x + r12 F O E a b c e : Nat) : Int))) := by
    intro q
    rw [q]
    have k := row149 (d := d) (h0 := h0) (M := M) hA h ha hb hc he hB hB2 hx hx2
    rw [sc_self (k := 11) (by rw [hy]; rfl)]
    exact k
  refine wp.go [149] 60 fun W C hW hC => ?_
  refine ⟨fun z => ?_, fun z => ?_⟩
  · refine hW _ (no ?_)
    cases q : E a b with
    | false => rfl
    | true => exact absurd (congrArg Nat.cast (hE.mp q)) z
  · refine ⟨fun z2 => ?_, fun z2 => ?_⟩
    · refine hW _ (no ?_)
      cases q : E b c with
      | false => rw [Bool.and_false]
      | true => exact absurd (congrArg Nat.cast (hE2.mp q)) z2
    · rw [hE.mpr (by omega), hE2.mpr (by omega)] at hW
      refine ⟨_, _, _, _, twF, rfl, rfl, ?_⟩
      rw [hy]
      refine ⟨_, _, _, _, twF, rfl, rfl, ?_⟩
      refine ⟨_, _, _, twI rfl rfl, rfl, (by omega), gt_at (fi a) (by omega) (lenlt (j := 14) (hA) (show (fi a) < 64 by omega)), ?_⟩
      rw [a3]
      refine ⟨_, _, _, _, twF, rfl, rfl, ?_⟩
      refine ⟨_, _, _, twI rfl rfl, rfl, (by omega), gt_at (fi e) (by omega) (lenlt (j := 14) (hA) (show (fi e) < 64 by omega)), ?_⟩
      rw [e3]
      conv => whnf
      rw [lmulN (by omega), laddN (by omega)]
      (refine ⟨_, _, _, twF, rfl, (Nat.le_of_ble_eq_true rfl), ?_⟩; rw [twP11])
      exact hW _ (row149 (d := d) (h0 := h0) (M := M) hA h ha hb hc he hB hB2 (by rw [upn_ne _ _ (by decide)]; exact hx) hx2)
theorem countsRow_spec (hA : lens A) (h : FourOk A fi F O E) {a b c e : Nat} (ha : a < 4) (hb : b < 4) (hc : c < 4) (he : e < 4) (hB : F a * O c * O e ≤ 65536) (hB2 : F a * O c ≤ 65536) (hB3 : F a * F e ≤ 65536) (hB4 : F a * F c ≤ 65536) (hB5 : F a * F b * F c * F e ≤ 65536) (hB6 : F a * F b * F c ≤ 65536) (hB7 : F a * F b ≤ 65536) {x y z w : Nat} (hx : sc 12 = ((x : Nat) : Int)) (hx2 : x ≤ 1000000000) (hy : sc 11 = ((y : Nat) : Int)) (hy2 : y ≤ 1000000000) (hz : sc 10 = ((z : Nat) : Int)) (hz2 : z ≤ 1000000000) (hw : sc 9 = ((w : Nat) : Int)) (hw2 : w ≤ 1000000000) :
    wp (d + 1) 376 (0, ent 9 [vR (some M), vI ((a : Nat) : Int), vI ((b : Nat) : Int), vI ((c : Nat) : Int), vI ((e : Nat) : Int)], [], tw h0 M A sc) (fun r h' => r = .inl none ∧ h' = tw h0 M A (up (up (up (up sc 9 ((w + r9 F a b c e : Nat) : Int)) 10 ((z + r10 F E a b c e : Nat) : Int)) 11 ((y + r11 F E a b c e : Nat) : Int)) 12 ((x + r12 F O E a b c e : Nat) : Int))) := by
  obtain ⟨a1, a2, a3, a4⟩ := h.1 a ha
  obtain ⟨b1, b2, b3, b4⟩ := h.1 b hb
  obtain ⟨c1, c2, c3, c4⟩ := h.1 c hc
  obtain ⟨e1, e2, e3, e4⟩ := h.1 e he
  have hE := h.2 a b ha hb
  have hE2 := h.2 c e hc he
  unfold r10
  have fin : ∀ v : Nat, cond (E a b && E c e) (F a * F c) 0 = v → wp (d + 1) 376 (111, LR M fi a b c e, [], tw h0 M A (up (up sc 9 ((w + r9 F a b c e : Nat) : Int)) 10 ((z + v : Nat) : Int))) (fun r h' => r = .inl none ∧ h' = tw h0 M A (up (up (up (up sc 9 ((w + r9 F a b c e : Nat) : Int)) 10 ((z + cond (E a b && E c e) (F a * F c) 0 : Nat) : Int)) 11 ((y + r11 F E a b c e : Nat) : Int)) 12 ((x + r12 F O E a b c e : Nat) : Int))) := by
    rintro v rfl
    exact row111 (d := d) (h0 := h0) (M := M) hA h ha hb hc he hB hB2 hB3 (by rw [upn_ne _ _ (by decide), upn_ne _ _ (by decide)]; exact hx) hx2 (by rw [upn_ne _ _ (by decide), upn_ne _ _ (by decide)]; exact hy) hy2
  have no : cond (E a b && E c e) (F a * F c) 0 = 0 → wp (d + 1) 376 (111, LR M fi a b c e, [], tw h0 M A (up sc 9 ((w + r9 F a b c e : Nat) : Int))) (fun r h' => r = .inl none ∧ h' = tw h0 M A (up (up (up (up sc 9 ((w + r9 F a b c e : Nat) : Int)) 10 ((z + cond (E a b && E c e) (F a * F c) 0 : Nat) : Int)) 11 ((y + r11 F E a b c e : Nat) : Int)) 12 ((x + r12 F O E a b c e : Nat) : Int))) := by
    intro q
    have k := fin 0 q
    rw [sc_self (k := 10) (by rw [upn_ne _ _ (by decide), hz]; rfl)] at k
    exact k
  refine wp.go [111] 100 fun W C hW hC => ?_
  refine ⟨_, _, _, _, twF, rfl, rfl, ?_⟩
  refine ⟨_, _, _, twI rfl rfl, rfl, (by omega), gt_at (a) (by omega) (lenlt (j := 39) (hA) (show (a) < 4 by omega)), ?_⟩
  rw [a2]
  refine ⟨_, _, _, _, twF, rfl, rfl, ?_⟩
  refine ⟨_, _, _, twI rfl rfl, rfl, (by omega), gt_at (b) (by omega) (lenlt (j := 39) (hA) (show (b) < 4 by omega)), ?_⟩
  rw [b2]
  refine ⟨_, _, _, _, twF, rfl, rfl, ?_⟩
  refine ⟨_, _, _, twI rfl rfl, rfl, (by omega), gt_at (c) (by omega) (lenlt (j := 39) (hA) (show (c) < 4 by omega)), ?_⟩
  rw [c2]
  refine ⟨_, _, _, _, twF, rfl, rfl, ?_⟩
  refine ⟨_, _, _, twI rfl rfl, rfl, (by omega), gt_at (e) (by omega) (lenlt (j := 39) (hA) (show (e) < 4 by omega)), ?_⟩
  rw [e2]
  refine ⟨_, _, _, _, twF, rfl, rfl, ?_⟩
  rw [hw]
  refine ⟨_, _, _, _, twF, rfl, rfl, ?_⟩
  refine ⟨_, _, _, twI rfl rfl, rfl, (by omega), gt_at (fi a) (by omega) (lenlt (j := 14) (hA) (show (fi a) < 64 by omega)), ?_⟩
  rw [a3]
  refine ⟨_, _, _, _, twF, rfl, rfl, ?_⟩
  refine ⟨_, _, _, twI rfl rfl, rfl, (by omega), gt_at (fi b) (by omega) (lenlt (j := 14) (hA) (show (fi b) < 64 by omega)), ?_⟩
  rw [b3]
  refine ⟨_, _, _, _, twF, rfl, rfl, ?_⟩
  conv => whnf
  rw [lmulN (by omega)]
  refine ⟨_, _, _, twI rfl rfl, rfl, (by omega), gt_at (fi c) (by omega) (lenlt (j := 14) (hA) (show (fi c) < 64 by omega)), ?_⟩
  rw [c3]
  refine ⟨_, _, _, _, twF, rfl, rfl, ?_⟩
  conv => whnf
  rw [lmulN (by omega)]
  refine ⟨_, _, _, twI rfl rfl, rfl, (by omega), gt_at (fi e) (by omega) (lenlt (j := 14) (hA) (show (fi e) < 64 by omega)), ?_⟩
  rw [e3]
  conv => whnf
  rw [lmulN (by omega), laddN (by omega)]
  (refine ⟨_, _, _, twF, rfl, (Nat.le_of_ble_eq_true rfl), ?_⟩; rw [twP9])
  refine ⟨fun z1 => ?_, fun z1 => ?_⟩
  · refine hW _ (no ?_)
    cases q : E a b with
    | false => rfl
    | true => exact absurd (congrArg Nat.cast (hE.mp q)) z1
  · refine ⟨fun z2 => ?_, fun z2 => ?_⟩
    · refine hW _ (no ?_)
      cases q : E c e with
      | false => rw [Bool.and_false]; rfl
      | true => exact absurd (congrArg Nat.cast (hE2.mp q)) z2
    · refine ⟨_, _, _, _, twF, rfl, rfl, ?_⟩
      rw [upn_ne _ _ (show (10 : Nat) ≠ 9 by decide), hz]
      refine ⟨_, _, _, _, twF, rfl, rfl, ?_⟩
      refine ⟨_, _, _, twI rfl rfl, rfl, (by omega), gt_at (fi a) (by omega) (lenlt (j := 14) (hA) (show (fi a) < 64 by omega)), ?_⟩
      rw [a3]
      refine ⟨_, _, _, _, twF, rfl, rfl, ?_⟩
      refine ⟨_, _, _, twI rfl rfl, rfl, (by omega), gt_at (fi c) (by omega) (lenlt (j := 14) (hA) (show (fi c) < 64 by omega)), ?_⟩
      rw [c3]
      conv => whnf
      rw [lmulN (by omega), laddN (by omega)]
      (refine ⟨_, _, _, twF, rfl, (Nat.le_of_ble_eq_true rfl), ?_⟩; rw [twP10])
      exact hW _ (fin _ (by rw [hE.mpr (by omega), hE2.mpr (by omega)]; rfl))
end ROWS
