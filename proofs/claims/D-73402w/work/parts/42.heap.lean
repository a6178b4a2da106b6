/-! the heap's changes -/
theorem up_self {α : Type} (f : Nat → α) (a : Nat) (v : α) : va_up f a v a = v := by simp [va_up]
theorem up_ne {α : Type} (f : Nat → α) {a b : Nat} (v : α) (h : b ≠ a) : va_up f a v b = f b := by simp [va_up, h]
theorem WF.setI {h : AH} {a : Nat} {xs : List Int} (w : WF h) : WF (h.setI a xs) := by
  have e : ∀ b, ((h.setI a xs).I b).1 = (h.I b).1 := fun b => by
    show (va_up h.I a _ b).1 = _
    by_cases c : b = a
    · rw [c, up_self]
    · rw [up_ne _ _ c]
  exact ⟨fun b hb => by rw [e b]; exact w.1 b hb, fun b => by rw [e b]; exact w.2 b⟩
theorem WF.setR {h : AH} {a : Nat} {xs : List (Option Nat)} (w : WF h) : WF (h.setR a xs) := by
  have e : ∀ b, ((h.setR a xs).R b).1 = (h.R b).1 := fun b => by
    show (va_up h.R a _ b).1 = _
    by_cases c : b = a
    · rw [c, up_self]
    · rw [up_ne _ _ c]
  exact ⟨fun b hb => by rw [e b]; exact w.1 b hb, fun b => by rw [e b]; exact w.2 b⟩
theorem WF.setF {h : AH} {a : Nat} {xs : List AV} (w : WF h) : WF (h.setF a xs) := by
  have e : ∀ b, ((h.setF a xs).F b).1 = (h.F b).1 := fun b => by
    show (va_up h.F a _ b).1 = _
    by_cases c : b = a
    · rw [c, up_self]
    · rw [up_ne _ _ c]
  exact ⟨fun b hb => by rw [e b]; exact w.1 b hb, fun b => by rw [e b]; exact w.2 b⟩
theorem WF.newI {h : AH} {t : Nat} {xs : List Int} (w : WF h) : WF (h.newI t xs) := by
  refine ⟨fun b hb => ?_, fun b => ?_⟩
  · have hb : h.sz + 1 ≤ b := hb
    have w1 := w.1 b (by omega)
    refine ⟨?_, w1.2.1, w1.2.2⟩
    show (va_up h.I h.sz _ b).1 = 0
    rw [up_ne _ _ (by omega)]
    exact w1.1
  · by_cases c : b = h.sz
    · have w1 := w.1 b (by omega)
      exact ⟨fun _ => w1.2, fun z => absurd w1.2.1 z.1, fun z => absurd w1.2.2 z.1⟩
    · have e : (h.newI t xs).I b = h.I b := up_ne _ _ c
      rw [e]
      exact w.2 b
theorem WF.newR {h : AH} {t : Nat} {xs : List (Option Nat)} (w : WF h) : WF (h.newR t xs) := by
  refine ⟨fun b hb => ?_, fun b => ?_⟩
  · have hb : h.sz + 1 ≤ b := hb
    have w1 := w.1 b (by omega)
    refine ⟨w1.1, ?_, w1.2.2⟩
    show (va_up h.R h.sz _ b).1 = 0
    rw [up_ne _ _ (by omega)]
    exact w1.2.1
  · by_cases c : b = h.sz
    · have w1 := w.1 b (by omega)
      exact ⟨fun z => absurd w1.1 z.1, fun _ => ⟨w1.1, w1.2.2⟩, fun z => absurd w1.2.2 z.1⟩
    · have e : (h.newR t xs).R b = h.R b := up_ne _ _ c
      rw [e]
      exact w.2 b
theorem WF.newF {h : AH} {t : Nat} {xs : List AV} (w : WF h) : WF (h.newF t xs) := by
  refine ⟨fun b hb => ?_, fun b => ?_⟩
  · have hb : h.sz + 1 ≤ b := hb
    have w1 := w.1 b (by omega)
    refine ⟨w1.1, w1.2.1, ?_⟩
    show (va_up h.F h.sz _ b).1 = 0
    rw [up_ne _ _ (by omega)]
    exact w1.2.2
  · by_cases c : b = h.sz
    · have w1 := w.1 b (by omega)
      exact ⟨fun z => absurd w1.1 z.1, fun z => absurd w1.2.1 z.1, fun _ => ⟨w1.1, w1.2.1⟩⟩
    · have e : (h.newF t xs).F b = h.F b := up_ne _ _ c
      rw [e]
      exact w.2 b
section HR
variable {D : GD} {s : State} {h : AH} {H H' : Heap} {a : Nat}
theorem hrel.setI {t : Nat} {xs xs' : List Int} {cell : Cell} (k : hrel D s h H) (w : WF h) (e : h.I a = (t, xs)) (ht : t ≠ 0) (ht2 : t < 200) (h1 : H'[a]? = some cell) (h2 : H'.size = H.size) (h3 : ∀ q, q ≠ a → H'[q]? = H[q]?) (hc : cokI D s t xs' cell) : hrel D s (h.setI a xs') H' := by
  obtain ⟨k1, k2, k3, k4, k5, k6⟩ := k
  have hb0 : D.b ≤ a := (k4 a t xs e ht).1 ht2
  have w2 := (w.2 a).1 (by rw [e]; exact ⟨ht, ht2⟩)
  refine ⟨h2.trans k1, ⟨k2.1, fun x hx => (h3 x (by omega)).trans (k2.2 x hx)⟩, k3, fun b u ys hb hu => ?_, fun b u ys hb hu => ?_, fun b u ys hb hu => ?_⟩
  · have hb : va_up h.I a ((h.I a).1, xs') b = (u, ys) := hb
    by_cases c : b = a
    · subst c
      rw [up_self, e] at hb
      cases hb
      exact ⟨(k4 b _ _ e ht).1, cell, h1, hc⟩
    · rw [up_ne _ _ c] at hb
      rw [h3 b c]
      exact k4 b u ys hb hu
  · have hb : h.R b = (u, ys) := hb
    have c : b ≠ a := fun c => hu (by rw [c] at hb; rw [hb] at w2; exact w2.1)
    rw [h3 b c]
    exact k5 b u ys hb hu
  · have hb : h.F b = (u, ys) := hb
    have c : b ≠ a := fun c => hu (by rw [c] at hb; rw [hb] at w2; exact w2.2)
    rw [h3 b c]
    exact k6 b u ys hb hu
theorem hrel.setR {t : Nat} {xs xs' : List (Option Nat)} {cell : Cell} (k : hrel D s h H) (w : WF h) (e : h.R a = (t, xs)) (ht : t ≠ 0) (ht2 : t < 200) (h1 : H'[a]? = some cell) (h2 : H'.size = H.size) (h3 : ∀ q, q ≠ a → H'[q]? = H[q]?) (hc : cokR D s t xs' cell) : hrel D s (h.setR a xs') H' := by
  obtain ⟨k1, k2, k3, k4, k5, k6⟩ := k
  have hb0 : D.b ≤ a := (k5 a t xs e ht).1 ht2
  have w2 := ((w.2 a).2.1 (by rw [e]; exact ⟨ht, ht2⟩)).2
  have w3 := ((w.2 a).2.1 (by rw [e]; exact ⟨ht, ht2⟩)).1
  refine ⟨h2.trans k1, ⟨k2.1, fun x hx => (h3 x (by omega)).trans (k2.2 x hx)⟩, k3, fun b u ys hb hu => ?_, fun b u ys hb hu => ?_, fun b u ys hb hu => ?_⟩
  · have hb : h.I b = (u, ys) := hb
    have c : b ≠ a := fun c => hu (by rw [c] at hb; rw [hb] at w3; exact w3)
    rw [h3 b c]
    exact k4 b u ys hb hu
  · have hb : va_up h.R a ((h.R a).1, xs') b = (u, ys) := hb
    by_cases c : b = a
    · subst c
      rw [up_self, e] at hb
      cases hb
      exact ⟨(k5 b _ _ e ht).1, cell, h1, hc⟩
    · rw [up_ne _ _ c] at hb
      rw [h3 b c]
      exact k5 b u ys hb hu
  · have hb : h.F b = (u, ys) := hb
    have c : b ≠ a := fun c => hu (by rw [c] at hb; rw [hb] at w2; exact w2)
    rw [h3 b c]
    exact k6 b u ys hb hu
theorem hrel.setF {t : Nat} {xs xs' : List AV} {cell : Cell} (k : hrel D s h H) (w : WF h) (e : h.F a = (t, xs)) (ht : t ≠ 0) (ht2 : t < 200) (h1 : H'[a]? = some cell) (h2 : H'.size = H.size) (h3 : ∀ q, q ≠ a → H'[q]? = H[q]?) (hc : cokF D t xs' cell) : hrel D s (h.setF a xs') H' := by
  obtain ⟨k1, k2, k3, k4, k5, k6⟩ := k
  have hb0 : D.b ≤ a := (k6 a t xs e ht).1 ht2
  have w3 := ((w.2 a).2.2 (by rw [e]; exact ⟨ht, ht2⟩)).1
  have w2 := ((w.2 a).2.2 (by rw [e]; exact ⟨ht, ht2⟩)).2
  refine ⟨h2.trans k1, ⟨k2.1, fun x hx => (h3 x (by omega)).trans (k2.2 x hx)⟩, k3, fun b u ys hb hu => ?_, fun b u ys hb hu => ?_, fun b u ys hb hu => ?_⟩
  · have hb : h.I b = (u, ys) := hb
    have c : b ≠ a := fun c => hu (by rw [c] at hb; rw [hb] at w3; exact w3)
    rw [h3 b c]
    exact k4 b u ys hb hu
  · have hb : h.R b = (u, ys) := hb
    have c : b ≠ a := fun c => hu (by rw [c] at hb; rw [hb] at w2; exact w2)
    rw [h3 b c]
    exact k5 b u ys hb hu
  · have hb : va_up h.F a ((h.F a).1, xs') b = (u, ys) := hb
    by_cases c : b = a
    · subst c
      rw [up_self, e] at hb
      cases hb
      exact ⟨(k6 b _ _ e ht).1, cell, h1, hc⟩
    · rw [up_ne _ _ c] at hb
      rw [h3 b c]
      exact k6 b u ys hb hu
theorem hrel.lt {h : AH} {H : Heap} (k : hrel D s h H) : (∀ b u ys, h.I b = (u, ys) → u ≠ 0 → b < h.sz) ∧ (∀ b u ys, h.R b = (u, ys) → u ≠ 0 → b < h.sz) ∧ (∀ b u ys, h.F b = (u, ys) → u ≠ 0 → b < h.sz) := by
  obtain ⟨k1, k2, k3, k4, k5, k6⟩ := k
  refine ⟨fun b u ys hb hu => ?_, fun b u ys hb hu => ?_, fun b u ys hb hu => ?_⟩
  · obtain ⟨-, cell, g, -⟩ := k4 b u ys hb hu
    rw [← k1]
    exact (Array.getElem?_eq_some_iff.mp g).1
  · obtain ⟨-, cell, g, -⟩ := k5 b u ys hb hu
    rw [← k1]
    exact (Array.getElem?_eq_some_iff.mp g).1
  · obtain ⟨-, cell, g, -⟩ := k6 b u ys hb hu
    rw [← k1]
    exact (Array.getElem?_eq_some_iff.mp g).1
theorem hrel.newI {t : Nat} {xs : List Int} {cell : Cell} (k : hrel D s h H) (h1 : H'[h.sz]? = some cell) (h2 : H'.size = h.sz + 1) (h3 : ∀ q, q < h.sz → H'[q]? = H[q]?) (hc : cokI D s t xs cell) : hrel D s (h.newI t xs) H' := by
  have kl := k.lt
  obtain ⟨k1, k2, k3, k4, k5, k6⟩ := k
  refine ⟨h2, ⟨by show D.b ≤ h.sz + 1; omega, fun x hx => (h3 x (by omega)).trans (k2.2 x hx)⟩, k3, fun b u ys hb hu => ?_, fun b u ys hb hu => ?_, fun b u ys hb hu => ?_⟩
  · have hb : va_up h.I h.sz (t, xs) b = (u, ys) := hb
    by_cases c : b = h.sz
    · rw [c, up_self] at hb
      cases hb
      rw [c]
      exact ⟨fun _ => k2.1, cell, h1, hc⟩
    · rw [up_ne _ _ c] at hb
      rw [h3 b (kl.1 b u ys hb hu)]
      exact k4 b u ys hb hu
  · have hb : h.R b = (u, ys) := hb
    rw [h3 b (kl.2.1 b u ys hb hu)]
    exact k5 b u ys hb hu
  · have hb : h.F b = (u, ys) := hb
    rw [h3 b (kl.2.2 b u ys hb hu)]
    exact k6 b u ys hb hu
theorem hrel.newR {t : Nat} {xs : List (Option Nat)} {cell : Cell} (k : hrel D s h H) (h1 : H'[h.sz]? = some cell) (h2 : H'.size = h.sz + 1) (h3 : ∀ q, q < h.sz → H'[q]? = H[q]?) (hc : cokR D s t xs cell) : hrel D s (h.newR t xs) H' := by
  have kl := k.lt
  obtain ⟨k1, k2, k3, k4, k5, k6⟩ := k
  refine ⟨h2, ⟨by show D.b ≤ h.sz + 1; omega, fun x hx => (h3 x (by omega)).trans (k2.2 x hx)⟩, k3, fun b u ys hb hu => ?_, fun b u ys hb hu => ?_, fun b u ys hb hu => ?_⟩
  · have hb : h.I b = (u, ys) := hb
    rw [h3 b (kl.1 b u ys hb hu)]
    exact k4 b u ys hb hu
  · have hb : va_up h.R h.sz (t, xs) b = (u, ys) := hb
    by_cases c : b = h.sz
    · rw [c, up_self] at hb
      cases hb
      rw [c]
      exact ⟨fun _ => k2.1, cell, h1, hc⟩
    · rw [up_ne _ _ c] at hb
      rw [h3 b (kl.2.1 b u ys hb hu)]
      exact k5 b u ys hb hu
  · have hb : h.F b = (u, ys) := hb
    rw [h3 b (kl.2.2 b u ys hb hu)]
    exact k6 b u ys hb hu
theorem hrel.newF {t : Nat} {xs : List AV} {cell : Cell} (k : hrel D s h H) (h1 : H'[h.sz]? = some cell) (h2 : H'.size = h.sz + 1) (h3 : ∀ q, q < h.sz → H'[q]? = H[q]?) (hc : cokF D t xs cell) : hrel D s (h.newF t xs) H' := by
  have kl := k.lt
  obtain ⟨k1, k2, k3, k4, k5, k6⟩ := k
  refine ⟨h2, ⟨by show D.b ≤ h.sz + 1; omega, fun x hx => (h3 x (by omega)).trans (k2.2 x hx)⟩, k3, fun b u ys hb hu => ?_, fun b u ys hb hu => ?_, fun b u ys hb hu => ?_⟩
  · have hb : h.I b = (u, ys) := hb
    rw [h3 b (kl.1 b u ys hb hu)]
    exact k4 b u ys hb hu
  · have hb : h.R b = (u, ys) := hb
    rw [h3 b (kl.2.1 b u ys hb hu)]
    exact k5 b u ys hb hu
  · have hb : va_up h.F h.sz (t, xs) b = (u, ys) := hb
    by_cases c : b = h.sz
    · rw [c, up_self] at hb
      cases hb
      rw [c]
      exact ⟨fun _ => k2.1, cell, h1, hc⟩
    · rw [up_ne _ _ c] at hb
      rw [h3 b (kl.2.2 b u ys hb hu)]
      exact k6 b u ys hb hu
/-- an element changes -/
theorem cokI.set {t : Nat} {xs : List Int} {cell : Cell} {ty : FieldType} {j : Nat} {y : Int} {v : Value} (k : cokI D s t xs cell) (hty : iof (t % 200) = some ty) (hv : aV v = eV (t % 200) y) (hf : fits ty v = true) : cokI D s t (xs.set j y) (cell.setSlot j v) := by
  obtain ⟨ty', k1, k2, k3, k4, k5, k6, k7⟩ := k
  cases hty.symm.trans k1
  refine ⟨ty, k1, k2, k3, k4, by rw [k2_slotsz, k5, List.length_set], by rw [List.length_set]; exact k6, fun i z hz => ?_⟩
  by_cases c : j = i
  · subst c
    have hlt : j < xs.length := by
      have := (List.getElem?_eq_some_iff.mp hz).1
      rwa [List.length_set] at this
    rw [List.getElem?_set_self hlt] at hz
    cases hz
    exact ⟨v, Cell.slots_setSlot_self v (by rw [k5]; exact hlt), hf, hv⟩
  · rw [List.getElem?_set_ne c] at hz
    rw [slot_ne cell v c]
    exact k7 i z hz
theorem cokR.set {t : Nat} {xs : List (Option Nat)} {cell : Cell} {j : Nat} {y : Option Nat} (k : cokR D s t xs cell) : cokR D s t (xs.set j y) (cell.setSlot j (va_rf y)) := by
  obtain ⟨ty, k1, k2, k3, k4, k8, k5, k6, k7⟩ := k
  refine ⟨ty, k1, k2, k3, k4, k8, by rw [k2_slotsz, k5, List.length_set], by rw [List.length_set]; exact k6, fun i z hz => ?_⟩
  by_cases c : j = i
  · subst c
    have hlt : j < xs.length := by
      have := (List.getElem?_eq_some_iff.mp hz).1
      rwa [List.length_set] at this
    rw [List.getElem?_set_self hlt] at hz
    cases hz
    exact Cell.slots_setSlot_self _ (by rw [k5]; exact hlt)
  · rw [List.getElem?_set_ne c] at hz
    rw [slot_ne cell _ c]
    exact k7 i z hz
theorem idx_in {j : Int32} {n : Nat} (h0 : 0 ≤ j.toInt) (h1 : j.toInt < n) : ¬ (j < 0 ∨ n ≤ j.toNatClampNeg) := by
  rintro (q | q)
  · rw [Int32.lt_iff_toInt_lt, Int32.toInt_zero] at q
    omega
  · have : j.toNatClampNeg = j.toInt.toNat := rfl
    omega
end HR
