/-! THE COMPONENT's OBJECT and what it holds; the twin lies behind it, at x + 42 -/
abbrev skOk (x s : Nat) : Prop := s = x + 6 ∨ x + 87 < s
abbrev gdA (x : Nat) (h : AH) (v : Nat) : Prop := x + 87 < v ∧ v < h.sz
def flC (x : Nat) (ld : Int) (nw : Nat) (wh nm : Option Nat) (tp : Nat) : List AV := [vR (some (x + 1)), vR (some (x + 2)), vR (some (x + 3)), vR (some (x + 4)), vR (some (x + 5)), vI ld, vR (some nw), vR (some (x + 25)), vR (some (x + 26)), vR wh, vR nm, vR (some (x + 27)), vI ((tp : Nat) : Int), vR (some (x + 29))]
/-- a text of the library: bytes -/
def StrAt (P : Nat → Prop) (h : AH) (s : Nat) (t : List Int) : Prop := ∃ v w1 w2, P s ∧ P v ∧ h.F s = (14, [vR (some v), vI 0, w1, w2]) ∧ h.I v = (3, t)
def cPast (h : AH) (x ep : Nat) (S : AS) : Prop := (ep < h.sz ∧ (x + 87 < ep ∨ ep < x)) ∧ ∃ m pl k, AL h (x + 26) ep m pl k ∧ pl.length = S.2.1.length ∧ ∀ (i s : Nat) (G : Gr), pl[i]? = some s → S.2.1[i]? = some G → skOk x s ∧ SkAt h s G
def cShelf (h : AH) (x : Nat) (S : AS) : Prop := ∃ sl, h.R (x + 25) = (4, sl) ∧ sl.length = 3 ∧ ∀ k, k < 3 → match S.2.2.1 k with
  | none => sl[k]? = some none
  | some G => ∃ s, sl[k]? = some (some s) ∧ skOk x s ∧ SkAt h s G
def cTape (h : AH) (x tp : Nat) (S : AS) : Prop := ∃ T, h.I (x + 27) = (3, T) ∧ T.length = 120 ∧ tp = S.2.2.2.length ∧ ∀ i, i < S.2.2.2.length → gt T i = gt S.2.2.2 i
def Base (h : AH) (x : Nat) (ld : Int) (nw : Nat) (wh nm : Option Nat) (tp ep : Nat) (S : AS) : Prop :=
  x + 87 < h.sz ∧ h.F x = (1, flC x ld nw wh nm tp) ∧ (skOk x nw ∧ SkAt h nw S.1) ∧ cPast h x ep S ∧ cShelf h x S ∧ cTape h x tp S ∧ (∀ w, wh = some w → WhAt (gdA x h) h w (whG S.1 (dst S.1))) ∧ (∀ s, nm = some s → StrAt (gdA x h) h s (nameG S.1 (dst S.1)))
/-- by kinds, what may change: the tape; the shelf, the row of the past; the object, the list of the past -/
def frB (x ep : Nat) (h h' : AH) : Prop := h.sz ≤ h'.sz ∧ h'.S = h.S ∧ ∀ v, v < h.sz → (v ≠ x + 27 → h'.I v = h.I v) ∧ (v ≠ x + 25 → (v = ep → (h.R v).1 = 206) → h'.R v = h.R v) ∧ (v ≠ x → v ≠ x + 26 → h'.F v = h.F v)
theorem frB.of {x ep c s : Nat} {h h' : AH} (e : ext c s h h') : frB x ep h h' := by
  obtain ⟨a1, a2, a3, a4, a5, a6⟩ := e
  exact ⟨a1, a6, fun v hv => ⟨fun _ => (a5 v hv).1, fun _ _ => (a5 v hv).2.1, fun _ _ => (a5 v hv).2.2⟩⟩
theorem frB.trans {x ep ep' : Nat} {h h1 h2 : AH} (k1 : frB x ep h h1) (k2 : frB x ep' h1 h2) (he : ep' = ep ∨ h.sz ≤ ep') : frB x ep h h2 := by
  obtain ⟨a1, a2, a3⟩ := k1
  obtain ⟨b1, b2, b3⟩ := k2
  refine ⟨by omega, b2.trans a2, fun v hv => ?_⟩
  obtain ⟨p1, p2, p3⟩ := a3 v hv
  obtain ⟨q1, q2, q3⟩ := b3 v (by omega)
  exact ⟨fun w => (q1 w).trans (p1 w), fun w1 w2 => (q2 w1 (fun w => by rw [p2 w1 w2]; exact w2 (by omega))).trans (p2 w1 w2), fun w1 w2 => (q3 w1 w2).trans (p3 w1 w2)⟩
theorem SkAt.fr {x ep s : Nat} {h h' : AH} {G : Gr} (k : SkAt h s G) (f : frB x ep h h') (ho : skOk x s) (h6 : (h.R ep).1 % 200 = 6) : SkAt h' s G := by
  obtain ⟨k1, k2, k3, ⟨W, k4, k5⟩, k6⟩ := k
  obtain ⟨f1, f2, f3⟩ := f
  have hep : s + 1 = ep → (h.R (s + 1)).1 = 206 := fun w => by rw [← w, k3] at h6; cases h6
  refine ⟨by omega, ((f3 s (by omega)).2.2 (by omega) (by omega)).trans k2, ((f3 (s + 1) (by omega)).2.1 (by omega) hep).trans k3, ⟨W, ((f3 _ (by omega)).1 (by omega)).trans k4, k5⟩, fun c hc => ?_⟩
  obtain ⟨X, x1, x2⟩ := k6 c hc
  exact ⟨X, ((f3 _ (by omega)).1 (by omega)).trans x1, x2⟩
theorem BrI.fr {x ep : Nat} {h h' : AH} (f : frB x ep h h') (h6 : (h.R ep).1 % 200 = 6) : ∀ {t : Tr} {rs : List (Option Nat)}, BrI (gdA x h) h t rs → BrI (gdA x h') h' t rs
  | .var _, _, k => k
  | .op a b, rs, ⟨y, p, r, qs, k1, ⟨k2, k3, k4, k5, k6⟩, k7⟩ => by
    have hep : p = ep → (h.R p).1 = 206 := fun w => by rw [← w, k5] at h6; cases h6
    have f1 := f.1
    have q1 : x + 87 < y ∧ y < h.sz := k2
    have q2 : x + 87 < p ∧ p < h.sz := k4
    exact ⟨y, p, r, qs, k1, ⟨⟨q1.1, by omega⟩, ((f.2.2 y q1.2).2.2 (by omega) (by omega)).trans k3, ⟨q2.1, by omega⟩, ((f.2.2 p q2.2).2.1 (by omega) hep).trans k5, BrI.fr f h6 k6⟩, BrI.fr f h6 k7⟩
theorem BrA.fr {x ep y : Nat} {h h' : AH} {t : Tr} (k : BrA (gdA x h) h y t) (f : frB x ep h h') (h6 : (h.R ep).1 % 200 = 6) : BrA (gdA x h') h' y t := by
  obtain ⟨p, qs, k2, k3, k4, k5, k6⟩ := k
  have hep : p = ep → (h.R p).1 = 206 := fun w => by rw [← w, k5] at h6; cases h6
  have f1 := f.1
  have q1 : x + 87 < y ∧ y < h.sz := k2
  have q2 : x + 87 < p ∧ p < h.sz := k4
  exact ⟨p, qs, ⟨q1.1, by omega⟩, ((f.2.2 y q1.2).2.2 (by omega) (by omega)).trans k3, ⟨q2.1, by omega⟩, ((f.2.2 p q2.2).2.1 (by omega) hep).trans k5, BrI.fr f h6 k6⟩
theorem WhAt.fr {x ep w : Nat} {h h' : AH} {W : Wh} (k : WhAt (gdA x h) h w W) (f : frB x ep h h') (h6 : (h.R ep).1 % 200 = 6) : WhAt (gdA x h') h' w W := by
  have f1 := f.1
  obtain ⟨t, o⟩ := W
  cases o with
  | none =>
    obtain ⟨r, k1, k2, k3⟩ := k
    have q1 : x + 87 < w ∧ w < h.sz := k1
    exact ⟨r, ⟨q1.1, by omega⟩, ((f.2.2 w q1.2).2.2 (by omega) (by omega)).trans k2, k3.fr f h6⟩
  | some u =>
    obtain ⟨r, q, k1, k2, k3, k4⟩ := k
    have q1 : x + 87 < w ∧ w < h.sz := k1
    exact ⟨r, q, ⟨q1.1, by omega⟩, ((f.2.2 w q1.2).2.2 (by omega) (by omega)).trans k2, k3.fr f h6, k4.fr f h6⟩
theorem StrAt.fr {x ep s : Nat} {h h' : AH} {t : List Int} (k : StrAt (gdA x h) h s t) (f : frB x ep h h') : StrAt (gdA x h') h' s t := by
  obtain ⟨v, w1, w2, k1, k2, k3, k4⟩ := k
  have f1 := f.1
  have q1 : x + 87 < s ∧ s < h.sz := k1
  have q2 : x + 87 < v ∧ v < h.sz := k2
  exact ⟨v, w1, w2, ⟨q1.1, by omega⟩, ⟨q2.1, by omega⟩, ((f.2.2 s q1.2).2.2 (by omega) (by omega)).trans k3, ((f.2.2 v q2.2).1 (by omega)).trans k4⟩
section BASE
variable {d : Nat} {h : AH} {x : Nat} {ld : Int} {nw : Nat} {wh nm : Option Nat} {tp ep : Nat} {S : AS}
theorem Base.six (b : Base h x ld nw wh nm tp ep S) : (h.R ep).1 % 200 = 6 := by
  obtain ⟨-, -, -, ⟨-, m, pl, k, a, -⟩, -⟩ := b
  rcases a.2 with q | ⟨-, -, -, q⟩
  · rw [q]; rfl
  · rw [q]; rfl
theorem Base.lt (b : Base h x ld nw wh nm tp ep S) : x + 87 < h.sz := b.1
/-- the object's fields change, all else that was there is as it was -/
theorem Base.re {h' : AH} {wh' nm' : Option Nat} (b : Base h x ld nw wh nm tp ep S) (f : frB x ep h h') (hF : h'.F x = (1, flC x ld nw wh' nm' tp)) (h26 : h'.F (x + 26) = h.F (x + 26)) (h25 : h'.R (x + 25) = h.R (x + 25)) (hep : h'.R ep = h.R ep) (h27 : h'.I (x + 27) = h.I (x + 27))
    (hw : ∀ w, wh' = some w → wh = some w ∨ WhAt (gdA x h') h' w (whG S.1 (dst S.1))) (hs : ∀ s, nm' = some s → nm = some s ∨ StrAt (gdA x h') h' s (nameG S.1 (dst S.1))) : Base h' x ld nw wh' nm' tp ep S := by
  have h6 := b.six
  obtain ⟨b1, b2, ⟨b3, b4⟩, ⟨⟨p1, p2⟩, m, pl, k, p3, p4, p5⟩, ⟨sl, s1, s2, s3⟩, ⟨T, t1, t2⟩, b7, b8⟩ := b
  have f1 := f.1
  refine ⟨by omega, hF, ⟨b3, b4.fr f b3 h6⟩, ⟨⟨by omega, p2⟩, m, pl, k, ⟨h26.trans p3.1, ?_⟩, p4, fun i s G h1 h2 => ?_⟩, ⟨sl, h25.trans s1, s2, fun k hk => ?_⟩, ⟨T, h27.trans t1, t2⟩, fun w e => ?_, fun s e => ?_⟩
  · rcases p3.2 with q | ⟨q1, q2, q3, q4⟩
    · exact Or.inl (hep.trans q)
    · exact Or.inr ⟨q1, q2, by rw [f.2.1]; exact q3, hep.trans q4⟩
  · have := p5 i s G h1 h2
    exact ⟨this.1, this.2.fr f this.1 h6⟩
  · have := s3 k hk
    revert this
    cases S.2.2.1 k with
    | none => exact id
    | some G =>
      rintro ⟨s, g1, g2, g3⟩
      exact ⟨s, g1, g2, g3.fr f g2 h6⟩
  · rcases hw w e with q | q
    · exact (b7 w q).fr f h6
    · exact q
  · rcases hs s e with q | q
    · exact (b8 s q).fr f
    · exact q
theorem Base.grown {c s : Nat} {h' : AH} (b : Base h x ld nw wh nm tp ep S) (e : ext c s h h') : Base h' x ld nw wh nm tp ep S := by
  have hl := b.1
  have hp := b.2.2.2.1.1.1
  have e5 := e.2.2.2.2.1
  exact b.re (frB.of e) (((e5 x (by omega)).2.2).trans b.2.1) (e5 _ (by omega)).2.2 (e5 _ (by omega)).2.1 (e5 _ hp).2.1 (e5 _ (by omega)).1 (fun w h => Or.inl h) (fun s h => Or.inl h)
/-- what a call of the component comes to: an answer, the state behind; the rest of the heap is as it was -/
abbrev cEnd (h : AH) (x : Nat) (ld : Int) (ep : Nat) (v : AV) (S : AS) (c s : Nat) (N : Option Nat → Prop) : Rs → AH → Prop := fun r h' => r = .inl (some v) ∧ ∃ nw' wh' nm' tp' ep', Base h' x ld nw' wh' nm' tp' ep' S ∧ frB x ep h h' ∧ (ep' = ep ∨ h.sz ≤ ep') ∧ h'.sz ≤ h.sz + c ∧ h.sl ≤ h'.sl ∧ h'.sl ≤ h.sl + s ∧ N nm'
theorem Base.same (b : Base h x ld nw wh nm tp ep S) {v : AV} : cEnd h x ld ep v S 0 0 (fun n => n = nm) (.inl (some v)) h :=
  ⟨rfl, nw, wh, nm, tp, ep, b, frB.of ext.refl, Or.inl rfl, Nat.le_refl _, Nat.le_refl _, Nat.le_refl _, rfl⟩
theorem Base.more (b : Base h x ld nw wh nm tp ep S) {h' : AH} {v : AV} {c s : Nat} (e : ext c s h h') : cEnd h x ld ep v S c s (fun n => n = nm) (.inl (some v)) h' :=
  ⟨rfl, nw, wh, nm, tp, ep, b.grown e, frB.of e, Or.inl rfl, e.2.1, e.2.2.1, e.2.2.2.1, rfl⟩
theorem cEnd.wide {v : AV} {c s c' s' : Nat} {N N' : Option Nat → Prop} {r : Rs} {h' : AH} (k : cEnd h x ld ep v S c s N r h') (hc : c ≤ c') (hs : s ≤ s') (hN : ∀ n, N n → N' n) : cEnd h x ld ep v S c' s' N' r h' := by
  obtain ⟨rfl, nw', wh', nm', tp', ep', a1, a2, a3, a4, a5, a6, a7⟩ := k
  exact ⟨rfl, nw', wh', nm', tp', ep', a1, a2, a3, by omega, a5, by omega, hN _ a7⟩
theorem cin_spec {v lo hi : Int} : wp (d + 1) 174 (0, ent 6 [vL v, vL lo, vL hi], [], h) (gives h (z01 (decide (lo ≤ v ∧ v ≤ hi)))) := by
  refine use in_spec ?_
  rintro _ _ ⟨rfl, rfl⟩
  by_cases q : lo ≤ v ∧ v ≤ hi
  · rw [if_pos q, decide_eq_true q]; exact ⟨rfl, rfl⟩
  · rw [if_neg q, decide_eq_false q]; exact ⟨rfl, rfl⟩
theorem cisC_spec (b : Base h x ld nw wh nm tp ep S) (ho : S.ok) {c : Int} : wp (d + 2) 194 (0, ent 2 [vR (some x), vI c], [], h) (gives h (z01 (decide (isC S c)))) := by
  have hn := ho.1.1.2.1
  obtain ⟨b1, b2, ⟨b3, b4⟩, -⟩ := b
  refine wp.go [] 20 fun W C hW hC => ?_
  refine ⟨_, _, _, _, b2, rfl, rfl, ?_⟩
  refine ⟨_, _, _, _, b4.2.1, rfl, rfl, ?_⟩
  conv => whnf
  rw [isub_eq (by omega)]
  refine hC _ _ _ (useE (wpd.up (by omega) (cin_spec (d := 0))) ?_)
  have e : (0 ≤ c ∧ c ≤ ((S.1.1 : Nat) : Int) - 1) ↔ isC S c := by show _ ↔ 0 ≤ c ∧ c < ((S.1.1 : Nat) : Int); omega
  rw [decide_eq_decide.mpr e]
  cases decide (isC S c) with
  | true => exact ⟨Or.inr rfl, rfl, rfl⟩
  | false => exact ⟨Or.inl rfl, rfl, rfl⟩
theorem cbound_spec (b : Base h x ld nw wh nm tp ep S) (ho : S.ok) {c o : Int} : wp (d + 3) 198 (0, ent 3 [vR (some x), vI c, vI o], [], h) (gives h (z01 (decide (isB S c o)))) := by
  have hb := b
  obtain ⟨b1, b2, ⟨b3, b4⟩, -⟩ := b
  have fin : ∀ q : Bool, q = decide (isB S c o) → wp (d + 3) 198 (33, [some (vR (some x)), some (vI c), some (vI o)], [vI (z01 q)], h) (gives h (z01 (decide (isB S c o)))) := by
    intro q hq
    rw [← hq]
    refine wp.go [] 10 fun W C hW hC => ?_
    cases q with
    | true => exact ⟨Or.inr rfl, rfl, rfl⟩
    | false => exact ⟨Or.inl rfl, rfl, rfl⟩
  refine wp.go [33] 40 fun W C hW hC => ?_
  refine ⟨_, _, _, b2, rfl, ?_⟩
  refine hC _ _ _ (useE (wpd.up (by omega) (cisC_spec (d := 0) hb ho)) ?_)
  by_cases q1 : isC S c
  · rw [decide_eq_true q1]
    refine ⟨fun w => absurd w (by decide), fun _ => ?_⟩
    refine ⟨_, _, _, b2, rfl, ?_⟩
    refine hC _ _ _ (useE (wpd.up (by omega) (cisC_spec (d := 0) hb ho)) ?_)
    by_cases q2 : isC S o
    · rw [decide_eq_true q2]
      refine ⟨fun w => absurd w (by decide), fun _ => ?_⟩
      refine ⟨_, _, _, _, b2, rfl, rfl, ?_⟩
      refine ⟨_, _, _, b4.2.1, rfl, ?_⟩
      obtain ⟨c', rfl⟩ : ∃ k : Nat, c = (k : Int) := ⟨c.toNat, by have := q1.1; omega⟩
      obtain ⟨o', rfl⟩ : ∃ k : Nat, o = (k : Int) := ⟨o.toNat, by have := q2.1; omega⟩
      have hc' : c' < S.1.1 := by have := q1.2; omega
      refine hC _ _ _ (useE (wpd.up (by omega) (isBound_spec (d := 0) (e := o') b4 ho.1.1 ho.1.2.1 hc')) ?_)
      cases e : S.1.2 c' o' with
      | true =>
        refine ⟨fun w => absurd w (by decide), fun _ => ?_⟩
        exact hW _ (fin true (decide_eq_true ⟨q1, q2, e⟩).symm)
      | false =>
        refine ⟨fun _ => ?_, fun w => absurd rfl w⟩
        exact hW _ (fin false (decide_eq_false (fun w => by have := w.2.2; rw [show S.1.2 ((c' : Int).toNat) ((o' : Int).toNat) = S.1.2 c' o' from rfl, e] at this; cases this)).symm)
    · rw [decide_eq_false q2]
      refine ⟨fun _ => ?_, fun w => absurd rfl w⟩
      exact hW _ (fin false (decide_eq_false (fun w => q2 w.2.1)).symm)
  · rw [decide_eq_false q1]
    refine ⟨fun _ => ?_, fun w => absurd rfl w⟩
    exact hW _ (fin false (decide_eq_false (fun w => q1 w.1)).symm)
end BASE
