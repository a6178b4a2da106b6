/-! TEXTS of the library: StringBuilder -/
theorem newI_setI {h : AH} {t : Nat} {x y : List Int} (e : y.length = x.length) : (h.newI t x).setI h.sz y = h.newI t y := by
  have e1 : va_up (h.newI t x).I h.sz (((h.newI t x).I h.sz).1, y) = (h.newI t y).I := by
    rw [newI_at]
    funext q
    show (if q = h.sz then _ else if q = h.sz then _ else h.I q) = if q = h.sz then _ else h.I q
    by_cases w : q = h.sz
    · rw [if_pos w, if_pos w]
    · rw [if_neg w, if_neg w, if_neg w]
  show (h.sz + 1, h.sl + x.length, va_up (h.newI t x).I h.sz (((h.newI t x).I h.sz).1, y), h.R, h.F, h.S) = _
  rw [e1, ← e]
  rfl
theorem newF_setF {h : AH} {t : Nat} {x y : List AV} (e : y.length = x.length) : (h.newF t x).setF h.sz y = h.newF t y := by
  have e1 : va_up (h.newF t x).F h.sz (((h.newF t x).F h.sz).1, y) = (h.newF t y).F := by
    rw [newF_at]
    funext q
    show (if q = h.sz then _ else if q = h.sz then _ else h.F q) = if q = h.sz then _ else h.F q
    by_cases w : q = h.sz
    · rw [if_pos w, if_pos w]
    · rw [if_neg w, if_neg w, if_neg w]
  show (h.sz + 1, h.sl + x.length, h.I, h.R, va_up (h.newF t x).F h.sz (((h.newF t x).F h.sz).1, y), h.S) = _
  rw [e1, ← e]
  rfl
/-- a text that grows: its bytes so far -/
def SbY (h : AH) (s v : Nat) (Y : List Int) (n : Nat) : Prop := (∃ w, h.F s = (13, [vR (some v), vI 0, w, vI ((n : Nat) : Int)])) ∧ h.I v = (3, Y)
def capG : Nat → Nat
  | 0 => 16
  | n + 1 => 2 * capG n + 2
def SbX (h : AH) (s v : Nat) (t : Tx) (G : Nat) : Prop := ∃ Y, SbY h s v Y t.length ∧ t.length ≤ Y.length ∧ Y.take t.length = t ∧ capG G ≤ Y.length ∧ (G = 0 ∨ capG (G - 1) < t.length) ∧ Y.length ≤ 400
/-- what its deeds change -/
def sbF (s v c σ : Nat) (h h' : AH) : Prop := h.sz ≤ h'.sz ∧ h'.sz ≤ h.sz + c ∧ h.sl ≤ h'.sl ∧ h'.sl ≤ h.sl + σ ∧ h'.S = h.S ∧ ∀ a, a < h.sz → (a ≠ v → h'.I a = h.I a) ∧ h'.R a = h.R a ∧ (a ≠ s → h'.F a = h.F a)
theorem sbF.refl {s v : Nat} {h : AH} : sbF s v 0 0 h h := ⟨Nat.le_refl _, Nat.le_refl _, Nat.le_refl _, Nat.le_refl _, rfl, fun _ _ => ⟨fun _ => rfl, rfl, fun _ => rfl⟩⟩
theorem sbF.trans {s v v1 c σ c' σ' : Nat} {h h1 h2 : AH} (a : sbF s v c σ h h1) (b : sbF s v1 c' σ' h1 h2) (hv : v1 = v ∨ h.sz ≤ v1) : sbF s v (c + c') (σ + σ') h h2 := by
  obtain ⟨a1, a2, a3, a4, a5, a6⟩ := a
  obtain ⟨b1, b2, b3, b4, b5, b6⟩ := b
  refine ⟨by omega, by omega, by omega, by omega, b5.trans a5, fun x hx => ?_⟩
  obtain ⟨p1, p2, p3⟩ := a6 x hx
  obtain ⟨q1, q2, q3⟩ := b6 x (by omega)
  exact ⟨fun w => (q1 (by omega)).trans (p1 w), q2.trans p2, fun w => (q3 w).trans (p3 w)⟩
theorem sbF.more {s v c σ c' σ' : Nat} {h h' : AH} (a : sbF s v c σ h h') (hc : c ≤ c') (hs : σ ≤ σ') : sbF s v c' σ' h h' := ⟨a.1, by have := a.2.1; omega, a.2.2.1, by have := a.2.2.2.1; omega, a.2.2.2.2⟩
/-- of a text made since -/
theorem ext.sbF {s v c σ c' σ' : Nat} {h h1 h2 : AH} (a : ext c σ h h1) (b : sbF s v c' σ' h1 h2) (hs : h.sz ≤ s) (hv : h.sz ≤ v) : ext (c + c') (σ + σ') h h2 := by
  obtain ⟨a1, a2, a3, a4, a5, a6⟩ := a
  obtain ⟨b1, b2, b3, b4, b5, b6⟩ := b
  refine ⟨by omega, by omega, by omega, by omega, fun x hx => ?_, b5.trans a6⟩
  obtain ⟨p1, p2, p3⟩ := a5 x hx
  obtain ⟨q1, q2, q3⟩ := b6 x (by omega)
  exact ⟨(q1 (by omega)).trans p1, q2.trans p2, (q3 (by omega)).trans p3⟩
/-- a text of the library, old or new -/
def StrG (h : AH) (p : Nat) (t : List Int) : Prop := ∃ u v w1 w2 ti, h.F p = (u, [vR (some v), vI 0, w1, w2]) ∧ u % 200 = 14 ∧ h.I v = (ti, t) ∧ ti % 200 = 3
theorem StrV.g {h : AH} {s : Nat} {t : List Int} (k : StrV h s t) : StrG h s t := by
  obtain ⟨v, w1, w2, a1, a2⟩ := k
  exact ⟨14, v, w1, w2, 3, a1, rfl, a2, rfl⟩
/-- a call's end: the same text with a piece more -/
abbrev sbEnd (h : AH) (s v : Nat) (t p : Tx) (G : Nat) : Rs → AH → Prop := fun r h' => r = .inl (some (vR (some s))) ∧ ∃ v' G', SbX h' s v' (t ++ p) G' ∧ (v' = v ∨ h.sz ≤ v') ∧ G ≤ G' ∧ sbF s v (G' - G) (194 * (G' - G)) h h' ∧ v' < h'.sz
section SB
variable {d : Nat} {h : AH} {s v : Nat}
theorem sbInit_spec (HF : h.F s = (13, [vR none, vI 0, vI 0, vI 0])) : wp (d + 2) 54 (0, ent 1 [vR (some s)], [], h) (fun r h' => r = .inl none ∧ h' = (h.newI 3 (List.replicate 16 0)).setF s [vR (some h.sz), vI 0, vI 0, vI 0]) := by
  have HF2 : (h.newI 3 (List.replicate 16 0)).F s = (13, [vR none, vI 0, vI 0, vI 0]) := HF
  have c : wp (d + 1) 40 (0, ent 2 [vR (some s), vI 16], [], h) (fun r h' => r = .inl none ∧ h' = (h.newI 3 (List.replicate 16 0)).setF s [vR (some h.sz), vI 0, vI 0, vI 0]) := by
    refine wp.go [] 40 fun W C hW hC => ?_
    refine ⟨fun w => absurd w (by decide), fun _ => ?_⟩
    refine ⟨by decide, by decide, ?_⟩
    refine ⟨_, _, _, HF2, rfl, (Nat.le_of_ble_eq_true rfl), ?_⟩
    refine ⟨_, _, _, setF_at HF2, rfl, (Nat.le_of_ble_eq_true rfl), by decide, by decide, ?_⟩
    rw [setF_setF]
    exact ⟨rfl, rfl⟩
  refine wp.go [] 10 fun W C hW hC => ?_
  refine hC _ _ _ (useE (wpd.up (by omega) (c)) ?_)
  exact ⟨rfl, rfl⟩
/-- a builder is made -/
theorem sbX_new {h0 : AH} : SbX (((h0.newF 13 [vR none, vI 0, vI 0, vI 0]).newI 3 (List.replicate 16 0)).setF h0.sz [vR (some (h0.sz + 1)), vI 0, vI 0, vI 0]) h0.sz (h0.sz + 1) [] 0 ∧ ext 2 20 h0 (((h0.newF 13 [vR none, vI 0, vI 0, vI 0]).newI 3 (List.replicate 16 0)).setF h0.sz [vR (some (h0.sz + 1)), vI 0, vI 0, vI 0]) := by
  refine ⟨⟨List.replicate 16 0, ⟨⟨vI 0, setF_at (x := [vR none, vI 0, vI 0, vI 0]) newF_at⟩, newI_at (h := h0.newF 13 [vR none, vI 0, vI 0, vI 0])⟩, by simp, rfl, by simp [capG], Or.inl rfl, by simp⟩, ?_⟩
  exact ((ext_newF (h := h0) (t := 13) (x := [vR none, vI 0, vI 0, vI 0])).trans (ext_newI (t := 3) (x := List.replicate 16 0))).setF (Nat.le_refl _)
theorem cpOf_spec {Y : List Int} {n : Nat} (hv : v < h.sz) (hI : h.I v = (3, Y)) (hn : Y.length < n) (h1 : n ≤ 10000) : wp (d + 2) 4 (0, ent 3 [vR (some v), vI ((n : Nat) : Int)], [], h) (fun r h' => r = .inl (some (vR (some h.sz))) ∧ h' = h.newI 3 (Y ++ List.replicate (n - Y.length) 0)) := by
  have hI2 : ∀ x, (h.newI 3 x).I v = (3, Y) := fun x => (newI_ne (by omega)).trans hI
  refine wp.go [] 40 fun W C hW hC => ?_
  refine ⟨_, Or.inl ⟨_, _, hI, by decide, rfl⟩, ?_⟩
  refine ⟨fun _ => ?_, fun w => absurd w (by omega)⟩
  refine ⟨by omega, by omega, ?_⟩
  rw [Int.toNat_natCast]
  refine ⟨_, Or.inl ⟨_, _, hI2 _, by decide, rfl⟩, ?_⟩
  refine hC _ _ _ (useE (wpd.up (by omega) (min_spec (d := 0))) ?_)
  rw [show min ((Y.length : Nat) : Int) ((n : Nat) : Int) = ((Y.length : Nat) : Int) by omega]
  refine ⟨rfl, by omega, by decide, by decide, Or.inl ⟨_, _, _, _, hI2 _, newI_at, by decide, rfl, by omega, by rw [List.length_replicate]; omega, ?_⟩⟩
  rw [Int.toNat_natCast, show ((0 : Int).toNat) = 0 from rfl, cpy_take _ _ _ (by omega), newI_setI (by rw [List.length_append, List.length_replicate, List.length_replicate]; omega)]
  exact ⟨rfl, rfl⟩
/-- room for so many bytes -/
theorem ens_spec {Y : List Int} {n m : Nat} (k : SbY h s v Y n) (hv : v < h.sz) (hY : Y.length ≤ 400) (hm : m ≤ 96) : wp (d + 5) 42 (0, ent 3 [vR (some s), vI ((m : Nat) : Int)], [], h) (fun r h' => r = .inl none ∧ ∃ v' Z, SbY h' s v' (Y ++ Z) n ∧ v' < h'.sz ∧ m ≤ (Y ++ Z).length ∧ ((m ≤ Y.length ∧ v' = v ∧ Z = [] ∧ h' = h) ∨ (Y.length < m ∧ v' = h.sz ∧ 2 * Y.length + 2 ≤ (Y ++ Z).length ∧ (Y ++ Z).length ≤ max m (2 * Y.length + 2) ∧ h'.sz = h.sz + 1 ∧ sbF s v 1 194 h h'))) := by
  obtain ⟨⟨w, HF⟩, HI⟩ := k
  have sh0 : ∀ a : Nat, a ≤ 10000 → ishr ((a : Nat) : Int) 0 = ((a : Nat) : Int) := fun a ha => by
    have := ishr_eq (a := a) (k := 0) (by decide) (by omega)
    rw [Nat.pow_zero, Nat.div_one] at this
    exact this
  have sl0 : ∀ a : Nat, a ≤ 10000 → ishl ((a : Nat) : Int) 0 = ((a : Nat) : Int) := fun a ha => by
    have := ishl_eq (a := a) (k := 0) (by decide) (by omega)
    rw [Nat.pow_zero, Nat.mul_one] at this
    exact this
  by_cases q : m ≤ Y.length
  · refine wp.go [] 40 fun W C hW hC => ?_
    refine ⟨_, _, _, _, HF, rfl, rfl, ?_⟩
    refine ⟨_, Or.inl ⟨_, _, HI, by decide, rfl⟩, ?_⟩
    refine ⟨_, _, _, _, HF, rfl, rfl, ?_⟩
    conv => whnf
    rw [sh0 _ (by omega), isub_eq (by omega)]
    refine ⟨fun _ => ?_, fun c => absurd c (by omega)⟩
    exact ⟨rfl, v, [], by rw [List.append_nil]; exact ⟨⟨w, HF⟩, HI⟩, hv, by rw [List.append_nil]; exact q, Or.inl ⟨q, rfl, rfl, rfl⟩⟩
  · have cap : wp (d + 4) 43 (0, ent 6 [vR (some s), vI ((m : Nat) : Int)], [], h) (gives h ((max m (2 * Y.length + 2) : Nat) : Int)) := by
      refine wp.go [] 80 fun W C hW hC => ?_
      refine ⟨_, _, _, _, HF, rfl, rfl, ?_⟩
      refine ⟨_, Or.inl ⟨_, _, HI, by decide, rfl⟩, ?_⟩
      refine ⟨_, _, _, _, HF, rfl, rfl, ?_⟩
      conv => whnf
      rw [sl0 _ (by omega), isub_eq (by omega), show ((m : Nat) : Int) - ((Y.length : Nat) : Int) = ((m - Y.length : Nat) : Int) by omega]
      refine ⟨_, _, _, _, HF, rfl, rfl, ?_⟩
      conv => whnf
      rw [show ishl 2 0 = 2 by decide, iadd_eq (by omega), show ((Y.length : Nat) : Int) + 2 = ((Y.length + 2 : Nat) : Int) by omega]
      refine hC _ _ _ (useE (wpd.up (by omega) (newLen_spec (d := 0) (x := Y.length) (y := m - Y.length) (z := Y.length + 2) (by omega) (by omega) (by omega) (by omega))) ?_)
      rw [show Y.length + max (m - Y.length) (Y.length + 2) = max m (2 * Y.length + 2) by omega]
      refine ⟨fun _ => ?_, fun c => absurd c (by omega)⟩
      refine ⟨_, _, _, _, HF, rfl, rfl, ?_⟩
      conv => whnf
      rw [sh0 _ (by omega)]
      exact ⟨rfl, rfl⟩
    refine wp.go [] 60 fun W C hW hC => ?_
    refine ⟨_, _, _, _, HF, rfl, rfl, ?_⟩
    refine ⟨_, Or.inl ⟨_, _, HI, by decide, rfl⟩, ?_⟩
    refine ⟨_, _, _, _, HF, rfl, rfl, ?_⟩
    conv => whnf
    rw [sh0 _ (by omega), isub_eq (by omega)]
    refine ⟨fun c => absurd c (by omega), fun _ => ?_⟩
    refine ⟨_, _, _, _, HF, rfl, rfl, ?_⟩
    refine ⟨_, _, _, HF, rfl, ?_⟩
    refine hC _ _ _ (useE (wpd.up (by omega) (cap)) ?_)
    refine ⟨_, _, _, _, HF, rfl, rfl, ?_⟩
    conv => whnf
    rw [sl0 _ (by omega)]
    refine hC _ _ _ (useE (wpd.up (by omega) (cpOf_spec (d := 0) (n := max m (2 * Y.length + 2)) hv HI (by omega) (by omega))) ?_)
    have HF2 : (h.newI 3 (Y ++ List.replicate (max m (2 * Y.length + 2) - Y.length) 0)).F s = (13, [vR (some v), vI 0, w, vI ((n : Nat) : Int)]) := HF
    refine ⟨_, _, _, HF2, rfl, (Nat.le_of_ble_eq_true rfl), ?_⟩
    have hl : (Y ++ List.replicate (max m (2 * Y.length + 2) - Y.length) (0 : Int)).length = max m (2 * Y.length + 2) := by rw [List.length_append, List.length_replicate]; omega
    refine ⟨rfl, h.sz, List.replicate (max m (2 * Y.length + 2) - Y.length) 0, ⟨⟨w, setF_at HF2⟩, newI_at⟩, by show h.sz < h.sz + 1; omega, by omega, Or.inr ⟨by omega, rfl, by omega, by omega, rfl, ?_⟩⟩
    refine ⟨by show h.sz ≤ h.sz + 1; omega, Nat.le_refl _, by show h.sl ≤ h.sl + _; omega, by show h.sl + _ ≤ h.sl + 194; omega, rfl, fun a ha => ⟨fun _ => newI_ne (by omega), rfl, fun wa => setF_ne wa⟩⟩
theorem lat1_spec {Y : List Int} {n : Nat} (k : SbY h s v Y n) : wp (d + 1) 44 (0, ent 1 [vR (some s)], [], h) (gives h 1) := by
  obtain ⟨⟨w, HF⟩, HI⟩ := k
  refine wp.go [] 20 fun W C hW hC => ?_
  refine ⟨fun c => absurd c (by decide), fun _ => ?_⟩
  refine ⟨_, _, _, _, HF, rfl, rfl, ?_⟩
  refine ⟨fun c => absurd rfl c, fun _ => ?_⟩
  exact ⟨Or.inr rfl, rfl, rfl⟩
theorem i2b_low : ∀ c, c < 128 → i2b ((c : Nat) : Int) = ((c : Nat) : Int) := by decide +kernel
/-- of what ensures room: the text with a piece more -/
theorem sb_grown {Y Z Y' : List Int} {t p : Tx} {G v' : Nat} {h1 h' : AH} (k : SbX h s v t G) (hY : SbY h s v Y t.length) (hp : 1 ≤ p.length) (hl : t.length + p.length ≤ 96)
    (hd : (t.length + p.length ≤ Y.length ∧ v' = v ∧ Z = [] ∧ h1 = h) ∨ (Y.length < t.length + p.length ∧ v' = h.sz ∧ 2 * Y.length + 2 ≤ (Y ++ Z).length ∧ (Y ++ Z).length ≤ max (t.length + p.length) (2 * Y.length + 2) ∧ h1.sz = h.sz + 1 ∧ sbF s v 1 194 h h1)) (hm : t.length + p.length ≤ (Y ++ Z).length) (hY' : SbY h' s v' Y' (t ++ p).length) (hlen : Y'.length = (Y ++ Z).length) (ht : Y'.take (t ++ p).length = t ++ p) (hf : sbF s v' 0 0 h1 h') (hvv : v' < h1.sz) : ∃ v' G', SbX h' s v' (t ++ p) G' ∧ (v' = v ∨ h.sz ≤ v') ∧ G ≤ G' ∧ sbF s v (G' - G) (194 * (G' - G)) h h' ∧ v' < h'.sz := by
  obtain ⟨Y0, q1, q2, q3, q4, q5, q6⟩ := k
  have e : Y0 = Y := by
    obtain ⟨⟨w, a1⟩, a2⟩ := q1
    obtain ⟨-, b2⟩ := hY
    have := a2.symm.trans b2
    cases this
    rfl
  subst e
  rw [List.length_append] at hY' ht
  have z1 := hf.1
  rcases hd with ⟨d1, rfl, rfl, rfl⟩ | ⟨d1, rfl, d2, d3, d4, d5⟩
  · rw [List.append_nil] at hlen
    refine ⟨v', G, ⟨Y', by rw [List.length_append]; exact hY', by rw [List.length_append]; omega, by rw [List.length_append]; exact ht, by omega, ?_, by omega⟩, Or.inl rfl, Nat.le_refl _, hf.more (Nat.zero_le _) (Nat.zero_le _), by omega⟩
    rw [List.length_append]; omega
  · have dm : max (t.length + p.length) (2 * Y0.length + 2) ≤ 802 := by omega
    by_cases big : 2 * Y0.length + 2 ≤ 400
    · refine ⟨h.sz, G + 1, ⟨Y', by rw [List.length_append]; exact hY', by rw [List.length_append]; omega, by rw [List.length_append]; exact ht, by show 2 * capG G + 2 ≤ _; omega, Or.inr (by rw [List.length_append]; show capG G < _; omega), by omega⟩, Or.inr (Nat.le_refl _), by omega, ?_, by omega⟩
      rw [show G + 1 - G = 1 by omega]
      exact (d5.trans hf (Or.inr (Nat.le_refl _))).more (by omega) (by omega)
    · exfalso; omega
theorem appC_spec {t : Tx} {G c : Nat} (k : SbX h s v t G) (hv : v < h.sz) (hc : c < 128) (hl : t.length + 1 ≤ 96) : wp (d + 7) 55 (0, ent 2 [vR (some s), vI ((c : Nat) : Int)], [], h) (sbEnd h s v t [((c : Nat) : Int)] G) := by
  obtain ⟨Y, hY, q2, q3, q4, q5, q6⟩ := id k
  have cc : wp (d + 6) 41 (0, ent 2 [vR (some s), vI ((c : Nat) : Int)], [], h) (sbEnd h s v t [((c : Nat) : Int)] G) := by
    obtain ⟨⟨w, HF⟩, HI⟩ := id hY
    refine wp.go [] 80 fun W C hW hC => ?_
    refine ⟨_, _, _, _, HF, rfl, rfl, ?_⟩
    refine ⟨_, _, _, HF, rfl, ?_⟩
    conv => whnf
    rw [iadd_eq (by omega), show ((t.length : Nat) : Int) + 1 = ((t.length + 1 : Nat) : Int) by omega]
    refine hC _ _ _ (use (wpd.up (by omega) (ens_spec (d := 0) (m := t.length + 1) hY hv q6 (by omega))) ?_)
    rintro _ h1 ⟨rfl, v', Z, k1, k2, k3, k4⟩
    obtain ⟨⟨w', HF1⟩, HI1⟩ := id k1
    refine ⟨_, _, _, HF1, rfl, ?_⟩
    refine hC _ _ _ (useE (wpd.up (by omega) (lat1_spec (d := 0) k1)) ?_)
    refine ⟨fun c => absurd c (by decide), fun _ => ?_⟩
    have can : wp (1) 115 (0, ent 1 [vI ((c : Nat) : Int)], [], h1) (gives h1 1) := by
      refine wp.go [] 20 fun W C hW hC => ?_
      refine ⟨fun w => absurd w (by omega), fun _ => ?_⟩
      exact ⟨Or.inr rfl, rfl, rfl⟩
    refine hC _ _ _ (useE (wpd.up (by omega) (can)) ?_)
    refine ⟨fun c => absurd c (by decide), fun _ => ?_⟩
    refine ⟨_, _, _, _, HF1, rfl, rfl, ?_⟩
    refine ⟨_, _, _, _, HF1, rfl, rfl, ?_⟩
    refine ⟨_, _, _, HF1, rfl, (Nat.le_of_ble_eq_true rfl), ?_⟩
    rw [iadd_eq (x := ((t.length : Nat) : Int)) (y := 1) (by omega), show ((t.length : Nat) : Int) + 1 = ((t.length + 1 : Nat) : Int) by omega]
    refine ⟨_, _, HI1, by omega, by omega, Or.inl ⟨rfl, ?_⟩⟩
    rw [Int.toNat_natCast, show i2b (i2b ((c : Nat) : Int)) = ((c : Nat) : Int) by rw [i2b_low c hc, i2b_low c hc]]
    refine ⟨rfl, ?_⟩
    refine sb_grown (h1 := h1) (Z := Z) (Y := Y) (Y' := (Y ++ Z).set t.length ((c : Nat) : Int)) k hY (by simp) hl k4 k3 ⟨⟨w', ?_⟩, ?_⟩ (by rw [List.length_set]) ?_ ?_ k2
    · refine (setF_at (h := h1) HF1).trans ?_
      rw [List.length_append]
      rfl
    · exact setI_at (h := h1.setF s _) HI1
    · rw [List.length_append, List.length_singleton, List.take_succ, take_eq (b := Y ++ Z) (fun i hi => List.getElem?_set_ne (by omega)), List.getElem?_set_self (by omega), List.take_append_of_le_length q2, q3]
      rfl
    · exact ⟨Nat.le_refl _, Nat.le_refl _, Nat.le_refl _, Nat.le_refl _, rfl, fun a ha => ⟨fun wa => setI_ne wa, rfl, fun wa => setF_ne wa⟩⟩
  obtain ⟨⟨w, HF⟩, HI⟩ := id hY
  refine wp.go [] 20 fun W C hW hC => ?_
  refine ⟨_, _, _, HF, rfl, ?_⟩
  refine hC _ _ _ (use (wpd.up (by omega) cc) ?_)
  rintro _ h1 ⟨rfl, q⟩
  exact ⟨rfl, q⟩
theorem coderG {p v' u : Nat} {w1 w2 : AV} (hF : h.F p = (u, [vR (some v'), vI 0, w1, w2])) (hu : u % 200 = 14) : wp (d + 1) 68 (0, ent 1 [vR (some p)], [], h) (gives h 0) := by
  refine wp.go [] 20 fun W C hW hC => ?_
  refine ⟨fun c => absurd c (by decide), fun _ => ?_⟩
  refine ⟨_, _, _, _, hF, by rw [hu]; rfl, rfl, ?_⟩
  exact ⟨by decide, by decide, rfl, rfl⟩
theorem lenG_spec {p : Nat} {t : Tx} (k : StrG h p t) (hl : t.length ≤ 10000) : wp (d + 2) 74 (0, ent 1 [vR (some p)], [], h) (gives h ((t.length : Nat) : Int)) := by
  obtain ⟨u, v', w1, w2, ti, a1, a2, a3, a4⟩ := k
  refine wp.go [] 20 fun W C hW hC => ?_
  refine ⟨_, _, _, _, a1, by rw [a2]; rfl, rfl, ?_⟩
  refine ⟨_, Or.inl ⟨_, _, a3, by omega, rfl⟩, ?_⟩
  refine ⟨_, _, _, a1, by rw [a2]; rfl, ?_⟩
  refine hC _ _ _ (useE (wpd.up (by omega) (coderG (d := 0) a1 a2)) ?_)
  conv => whnf
  have := ishr_eq (a := t.length) (k := 0) (by decide) (by omega)
  rw [Nat.pow_zero, Nat.div_one] at this
  rw [show ishr ((t.length : Nat) : Int) 0 = ((t.length : Nat) : Int) from this]
  exact ⟨rfl, rfl⟩
theorem cpy_mid {α : Type} {xs ys : List α} {o : Nat} (h : o + xs.length ≤ ys.length) : (cpy xs ys 0 o xs.length).length = ys.length ∧ (cpy xs ys 0 o xs.length).take (o + xs.length) = ys.take o ++ xs := by
  unfold cpy
  have h1 : (ys.take o).length = o := by rw [List.length_take]; omega
  refine ⟨by simp; omega, ?_⟩
  rw [List.drop_zero, List.take_length, ← List.append_assoc]
  have : o + xs.length = (ys.take o ++ xs).length := by rw [List.length_append, h1]
  rw [this, List.take_left]
theorem appS_spec {t p : Tx} {G b : Nat} (k : SbX h s v t G) (hv : v < h.sz) (hb : StrG h b p) (hne : b ≠ s) (hbv : ∀ u v' w1 w2, h.F b = (u, [vR (some v'), vI 0, w1, w2]) → v' ≠ v ∧ v' < h.sz) (hbz : b < h.sz) (hp : 1 ≤ p.length) (hl : t.length + p.length ≤ 96) : wp (d + 8) 61 (0, ent 2 [vR (some s), vR (some b)], [], h) (sbEnd h s v t p G) := by
  obtain ⟨Y, hY, q2, q3, q4, q5, q6⟩ := id k
  have cc : wp (d + 7) 50 (0, ent 3 [vR (some s), vR (some b)], [], h) (sbEnd h s v t p G) := by
    obtain ⟨⟨w, HF⟩, HI⟩ := id hY
    obtain ⟨u, v2, w1, w2, ti, a1, a2, a3, a4⟩ := id hb
    obtain ⟨bv, bz⟩ := hbv _ _ _ _ a1
    refine wp.go [] 80 fun W C hW hC => ?_
    refine ⟨_, _, _, a1, by rw [a2]; rfl, ?_⟩
    refine hC _ _ _ (useE (wpd.up (by omega) (lenG_spec (d := 0) hb (by omega))) ?_)
    refine ⟨_, _, _, _, HF, rfl, rfl, ?_⟩
    refine ⟨_, _, _, HF, rfl, ?_⟩
    conv => whnf
    rw [iadd_eq (by omega), show ((t.length : Nat) : Int) + ((p.length : Nat) : Int) = ((t.length + p.length : Nat) : Int) by omega]
    refine hC _ _ _ (use (wpd.up (by omega) (ens_spec (d := 0) (m := t.length + p.length) hY hv q6 (by omega))) ?_)
    rintro _ h1 ⟨rfl, v', Z, k1, k2, k3, k4⟩
    obtain ⟨⟨w', HF1⟩, HI1⟩ := id k1
    have B1 : h1.F b = (u, [vR (some v2), vI 0, w1, w2]) ∧ h1.I v2 = (ti, p) ∧ v2 ≠ v' := by
      rcases k4 with ⟨d1, rfl, rfl, rfl⟩ | ⟨d1, rfl, d2, d3, d4, d5⟩
      · exact ⟨a1, a3, bv⟩
      · exact ⟨((d5.2.2.2.2.2 b hbz).2.2 hne).trans a1, ((d5.2.2.2.2.2 v2 bz).1 bv).trans a3, by omega⟩
    have inf : wp (2) 53 (0, ent 2 [vR (some s), vR (some b)], [], h1) (fun r h' => r = .inl none ∧ h' = h1) := by
      refine wp.go [] 20 fun W C hW hC => ?_
      refine ⟨fun c => absurd c (by decide), fun _ => ?_⟩
      refine ⟨_, _, _, _, HF1, rfl, rfl, ?_⟩
      refine ⟨_, _, _, B1.1, by rw [a2]; rfl, ?_⟩
      refine hC _ _ _ (useE (wpd.up (by omega) (coderG (d := 0) B1.1 a2)) ?_)
      exact ⟨fun _ => ⟨rfl, rfl⟩, fun w => absurd rfl w⟩
    have gb : wp (2) 75 (0, ent 4 [vR (some b), vR (some v'), vI ((t.length : Nat) : Int), vI 0], [], h1) (fun r h' => r = .inl none ∧ h' = h1.setI v' (cpy p (Y ++ Z) 0 t.length p.length)) := by
      refine wp.go [] 40 fun W C hW hC => ?_
      refine ⟨_, _, _, B1.1, by rw [a2]; rfl, ?_⟩
      refine hC _ _ _ (useE (wpd.up (by omega) (coderG (d := 0) B1.1 a2)) ?_)
      refine ⟨fun w => absurd rfl w, fun _ => ?_⟩
      refine ⟨_, _, _, _, B1.1, by rw [a2]; rfl, rfl, ?_⟩
      refine ⟨_, _, _, _, B1.1, by rw [a2]; rfl, rfl, ?_⟩
      refine ⟨_, Or.inl ⟨_, _, B1.2.1, by omega, rfl⟩, ?_⟩
      conv => whnf
      have := ishl_eq (a := t.length) (k := 0) (by decide) (by omega)
      rw [Nat.pow_zero, Nat.mul_one] at this
      rw [show ishl ((t.length : Nat) : Int) 0 = ((t.length : Nat) : Int) from this]
      refine ⟨rfl, by omega, by decide, by omega, Or.inl ⟨_, _, _, _, B1.2.1, HI1, by decide, a4, by omega, by omega, ?_⟩⟩
      rw [Int.toNat_natCast, Int.toNat_natCast, show ((0 : Int).toNat) = 0 from rfl]
      exact ⟨rfl, rfl⟩
    have put : wp (3) 52 (0, ent 3 [vR (some s), vI ((t.length : Nat) : Int), vR (some b)], [], h1) (fun r h' => r = .inl none ∧ h' = h1.setI v' (cpy p (Y ++ Z) 0 t.length p.length)) := by
      refine wp.go [] 40 fun W C hW hC => ?_
      refine ⟨_, _, _, HF1, rfl, ?_⟩
      refine hC _ _ _ (useE (wpd.up (by omega) (inf)) ?_)
      refine ⟨_, _, _, _, HF1, rfl, rfl, ?_⟩
      refine ⟨_, _, _, _, HF1, rfl, rfl, ?_⟩
      refine ⟨_, _, _, B1.1, by rw [a2]; rfl, ?_⟩
      refine hC _ _ _ (useE (wpd.up (by omega) (gb)) ?_)
      exact ⟨rfl, rfl⟩
    refine ⟨_, _, _, _, HF1, rfl, rfl, ?_⟩
    refine ⟨_, _, _, HF1, rfl, ?_⟩
    refine hC _ _ _ (useE (wpd.up (by omega) (put)) ?_)
    have HF2 : (h1.setI v' (cpy p (Y ++ Z) 0 t.length p.length)).F s = (13, [vR (some v'), vI 0, w', vI ((t.length : Nat) : Int)]) := HF1
    refine ⟨_, _, _, _, HF2, rfl, rfl, ?_⟩
    refine ⟨_, _, _, HF2, rfl, (Nat.le_of_ble_eq_true rfl), ?_⟩
    rw [iadd_eq (x := ((t.length : Nat) : Int)) (by omega), show ((t.length : Nat) : Int) + ((p.length : Nat) : Int) = ((t.length + p.length : Nat) : Int) by omega]
    refine ⟨rfl, ?_⟩
    obtain ⟨m1, m2⟩ := cpy_mid (xs := p) (ys := Y ++ Z) (o := t.length) k3
    refine sb_grown (h1 := h1) (Z := Z) (Y := Y) (Y' := cpy p (Y ++ Z) 0 t.length p.length) k hY hp hl k4 k3 ⟨⟨w', ?_⟩, ?_⟩ m1 ?_ ?_ k2
    · refine (setF_at HF2).trans ?_
      rw [List.length_append]
      rfl
    · exact setI_at (h := h1) HI1
    · rw [List.length_append, m2, List.take_append_of_le_length q2, q3]
    · exact ⟨Nat.le_refl _, Nat.le_refl _, Nat.le_refl _, Nat.le_refl _, rfl, fun a ha => ⟨fun wa => setI_ne wa, rfl, fun wa => setF_ne wa⟩⟩
  obtain ⟨⟨w, HF⟩, HI⟩ := id hY
  refine wp.go [] 20 fun W C hW hC => ?_
  refine ⟨_, _, _, HF, rfl, ?_⟩
  refine hC _ _ _ (use (wpd.up (by omega) cc) ?_)
  rintro _ h1 ⟨rfl, q⟩
  exact ⟨rfl, q⟩
/-- toString -/
theorem toS_spec {t : Tx} {G : Nat} (k : SbX h s v t G) (hv : v < h.sz) (hs : s < h.sz) (hl : t.length ≤ 200) : wp (d + 6) 56 (0, ent 1 [vR (some s)], [], h) (fun r h' => r = .inl (some (vR (some h.sz))) ∧ ext 2 (4 + t.length) h h' ∧ h'.sz = h.sz + 2 ∧ h'.F h.sz = (14, [vR (some (h.sz + 1)), vI 0, vI 0, vI 0]) ∧ h'.I (h.sz + 1) = (3, t)) := by
  obtain ⟨Y, hY, q2, q3, q4, q5, q6⟩ := k
  obtain ⟨⟨w, HF0⟩, HI0⟩ := hY
  obtain ⟨g, hg⟩ : ∃ g, g = h.newF 14 [vR none, vI 0, vI 0, vI 0] := ⟨_, rfl⟩
  have gs : g.sz = h.sz + 1 := by rw [hg]; rfl
  have GF : g.F s = (13, [vR (some v), vI 0, w, vI ((t.length : Nat) : Int)]) := by rw [hg]; exact (newF_ne (by omega)).trans HF0
  have GI : g.I v = (3, Y) := by rw [hg]; exact HI0
  have GN : g.F h.sz = (14, [vR none, vI 0, vI 0, vI 0]) := by rw [hg]; exact newF_at
  have GY : SbY g s v Y t.length := ⟨⟨w, GF⟩, GI⟩
  have GN1 : (g.setF h.sz [vR none, vI 0, vI 0, vI 0]).F h.sz = (14, [vR none, vI 0, vI 0, vI 0]) := setF_at GN
  have cr : wp (2 + 1) 5 (0, ent 3 [vR (some v), vI 0, vI ((t.length : Nat) : Int)], [], g.setF h.sz [vR none, vI 0, vI 0, vI 0]) (fun r h' => r = .inl (some (vR (some (h.sz + 1)))) ∧ h' = (g.setF h.sz [vR none, vI 0, vI 0, vI 0]).newI 3 t) := by
    have GI1 : (g.setF h.sz [vR none, vI 0, vI 0, vI 0]).I v = (3, Y) := GI
    have GI2 : ∀ x, ((g.setF h.sz [vR none, vI 0, vI 0, vI 0]).newI 3 x).I v = (3, Y) := fun x => (newI_ne (by show v ≠ g.sz; omega)).trans GI1
    refine wp.go [] 40 fun W C hW hC => ?_
    refine ⟨fun w => absurd rfl w, fun _ => ?_⟩
    refine ⟨_, Or.inl ⟨_, _, GI1, by decide, rfl⟩, ?_⟩
    refine ⟨fun e => ?_, fun e => ?_⟩
    · have ht : Y = t := by
        rw [← q3, List.take_of_length_le (by omega)]
      refine ⟨rfl, Or.inl ⟨Y, by decide, GI1, ?_⟩⟩
      refine ⟨fun b hb => ?_, ?_⟩
      · cases hb
        exact ⟨(1, 3), rfl, by decide, by show (((g.setF h.sz _).newI 3 Y).I (g.setF h.sz _).sz).1 = 3; rw [newI_at]⟩
      · rw [ht]
        exact ⟨by rw [← gs]; rfl, rfl⟩
    · have c2 : wp (2) 6 (0, ent 5 [vR (some v), vI 0, vI ((t.length : Nat) : Int)], [], g.setF h.sz [vR none, vI 0, vI 0, vI 0]) (fun r h' => r = .inl (some (vR (some (h.sz + 1)))) ∧ h' = (g.setF h.sz [vR none, vI 0, vI 0, vI 0]).newI 3 t) := by
        have ckl : wp (1) 7 (0, ent 2 [vI 0, vI ((t.length : Nat) : Int)], [], g.setF h.sz [vR none, vI 0, vI 0, vI 0]) (fun r h' => r = .inl none ∧ h' = g.setF h.sz [vR none, vI 0, vI 0, vI 0]) := by
          refine wp.go [] 20 fun W C hW hC => ?_
          exact ⟨fun _ => ⟨rfl, rfl⟩, fun w => absurd w (by omega)⟩
        refine wp.go [] 60 fun W C hW hC => ?_
        refine hC _ _ _ (useE (wpd.up (by omega) (ckl)) ?_)
        conv => whnf
        rw [isub_eq (by omega), Int.sub_zero]
        refine ⟨by omega, by omega, ?_⟩
        rw [Int.toNat_natCast]
        refine ⟨_, Or.inl ⟨_, _, GI2 _, by decide, rfl⟩, ?_⟩
        conv => whnf
        rw [isub_eq (by omega), Int.sub_zero]
        refine hC _ _ _ (useE (wpd.up (by omega) (min_spec (d := 0))) ?_)
        rw [show min ((Y.length : Nat) : Int) ((t.length : Nat) : Int) = ((t.length : Nat) : Int) by omega]
        refine ⟨rfl, by omega, by decide, by decide, Or.inl ⟨_, _, _, _, GI2 _, newI_at, by decide, rfl, by omega, by rw [List.length_replicate]; omega, ?_⟩⟩
        rw [Int.toNat_natCast, show ((0 : Int).toNat) = 0 from rfl, cpy_pre _ _ _ q2, q3, newI_setI (by rw [List.length_replicate])]
        exact ⟨by rw [← gs]; rfl, rfl⟩
      refine hC _ _ _ (useE (wpd.up (by omega) (c2)) ?_)
      exact ⟨rfl, rfl⟩
  have i2 : wp (d + 3 + 1) 65 (0, ent 5 [vR (some h.sz), vR (some s), vR none], [], g) (fun r h' => r = .inl none ∧ h' = ((g.setF h.sz [vR none, vI 0, vI 0, vI 0]).newI 3 t).setF h.sz [vR (some (h.sz + 1)), vI 0, vI 0, vI 0]) := by
    have gv : wp (1) 46 (0, ent 1 [vR (some s)], [], g) (fun r h' => r = .inl (some (vR (some v))) ∧ h' = g) := by
      refine wp.go [] 20 fun W C hW hC => ?_
      refine ⟨_, _, _, _, GF, rfl, rfl, ?_⟩
      exact ⟨rfl, rfl⟩
    have gl : wp (2) 57 (0, ent 1 [vR (some s)], [], g) (gives g ((t.length : Nat) : Int)) := by
      have gl1 : wp (1) 47 (0, ent 1 [vR (some s)], [], g) (gives g ((t.length : Nat) : Int)) := by
        refine wp.go [] 20 fun W C hW hC => ?_
        refine ⟨_, _, _, _, GF, rfl, rfl, ?_⟩
        exact ⟨rfl, rfl⟩
      refine wp.go [] 20 fun W C hW hC => ?_
      refine ⟨_, _, _, GF, rfl, ?_⟩
      refine hC _ _ _ (useE (wpd.up (by omega) (gl1)) ?_)
      exact ⟨rfl, rfl⟩
    refine wp.go [] 80 fun W C hW hC => ?_
    refine ⟨_, _, _, GF, rfl, ?_⟩
    refine hC _ _ _ (useE (wpd.up (by omega) (gv)) ?_)
    refine ⟨_, _, _, GF, rfl, ?_⟩
    refine hC _ _ _ (useE (wpd.up (by omega) (gl)) ?_)
    refine ⟨_, _, _, GF, rfl, ?_⟩
    refine hC _ _ _ (useE (wpd.up (by omega) (lat1_spec (d := 0) GY)) ?_)
    refine ⟨fun c => absurd c (by decide), fun _ => ?_⟩
    refine ⟨_, _, _, GN, rfl, (Nat.le_of_ble_eq_true rfl), by decide, by decide, ?_⟩
    rw [show ([vR none, vI 0, vI 0, vI 0] : List AV).set 1 (vI 0) = [vR none, vI 0, vI 0, vI 0] from rfl]
    refine hC _ _ _ (useE (wpd.up (by omega) (cr)) ?_)
    have GN2 : ((g.setF h.sz [vR none, vI 0, vI 0, vI 0]).newI 3 t).F h.sz = (14, [vR none, vI 0, vI 0, vI 0]) := GN1
    refine ⟨_, _, _, GN2, rfl, (Nat.le_of_ble_eq_true rfl), ?_⟩
    exact ⟨rfl, rfl⟩
  have i1 : wp (d + 4 + 1) 64 (0, ent 2 [vR (some h.sz), vR (some s)], [], g) (fun r h' => r = .inl none ∧ h' = ((g.setF h.sz [vR none, vI 0, vI 0, vI 0]).newI 3 t).setF h.sz [vR (some (h.sz + 1)), vI 0, vI 0, vI 0]) := by
    refine wp.go [] 20 fun W C hW hC => ?_
    refine hC _ _ _ (useE (wpd.up (by omega) (i2)) ?_)
    exact ⟨rfl, rfl⟩
  refine wp.go [] 20 fun W C hW hC => ?_
  conv => whnf
  rw [show h.newF 14 [vR none, vI 0, vI 0, vI 0] = g from hg.symm]
  refine hC _ _ _ (useE (wpd.up (by omega) (i1)) ?_)
  have E1 : ext 1 4 h g := by rw [hg]; exact ext_newF
  have E2 : ext (1 + 1) (4 + t.length) h (((g.setF h.sz [vR none, vI 0, vI 0, vI 0]).newI 3 t).setF h.sz [vR (some (h.sz + 1)), vI 0, vI 0, vI 0]) := ((E1.setF (Nat.le_refl _)).trans ext_newI).setF (Nat.le_refl _)
  refine ⟨rfl, E2, by show g.sz + 1 = _; omega, ?_, ?_⟩
  · exact setF_at (x := [vR none, vI 0, vI 0, vI 0]) GN1
  · show ((g.setF h.sz _).newI 3 t).I (h.sz + 1) = _
    rw [← gs]
    exact newI_at
end SB
