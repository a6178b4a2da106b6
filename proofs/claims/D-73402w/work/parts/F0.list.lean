/-! LISTS of the library: ArrayList -/
def AL (h : AH) (a e : Nat) (m : Int) (l : List Nat) (k : Nat) : Prop := h.F a = (10, [vI m, vR (some e), vI ((l.length : Nat) : Int)]) ∧ (h.R e = (6, l.map some ++ List.replicate k none) ∨ (l = [] ∧ k = 0 ∧ h.S 4 = some e ∧ h.R e = (206, [])))
/-- what may lie in a list -/
def okE (h : AH) (x : Nat) : Prop := (h.F x).1 % 200 = 2 ∨ (h.F x).1 % 200 = 7 ∨ (h.F x).1 % 200 = 10
theorem okE.isk {h : AH} {x : Nat} (k : okE h x) : isk h (eok 6) (some x) := by
  intro b hb
  cases hb
  rcases k with k | k | k
  · exact ⟨(0, 2), rfl, by decide, k⟩
  · exact ⟨(0, 7), rfl, by decide, k⟩
  · exact ⟨(0, 10), rfl, by decide, k⟩
/-- all is as it was but for some places; at most so much more -/
def chg (M : Nat → Prop) (c s : Nat) (h h' : AH) : Prop := h.sz ≤ h'.sz ∧ h'.sz ≤ h.sz + c ∧ h.sl ≤ h'.sl ∧ h'.sl ≤ h.sl + s ∧ h'.S = h.S ∧ ∀ v, v < h.sz → ¬ M v → h'.I v = h.I v ∧ h'.R v = h.R v ∧ h'.F v = h.F v
theorem chg.refl {M : Nat → Prop} {h : AH} : chg M 0 0 h h := ⟨Nat.le_refl _, Nat.le_refl _, Nat.le_refl _, Nat.le_refl _, rfl, fun _ _ _ => ⟨rfl, rfl, rfl⟩⟩
theorem chg.trans {M N : Nat → Prop} {c s c' s' : Nat} {h h1 h2 : AH} (k1 : chg M c s h h1) (k2 : chg N c' s' h1 h2) (hN : ∀ v, v < h.sz → N v → M v) : chg M (c + c') (s + s') h h2 := by
  obtain ⟨a1, a2, a3, a4, a5, a6⟩ := k1
  obtain ⟨b1, b2, b3, b4, b5, b6⟩ := k2
  refine ⟨by omega, by omega, by omega, by omega, b5.trans a5, fun v hv hm => ?_⟩
  have p := a6 v hv hm
  have q := b6 v (by omega) (fun w => hm (hN v hv w))
  exact ⟨q.1.trans p.1, q.2.1.trans p.2.1, q.2.2.trans p.2.2⟩
theorem chg.more {M N : Nat → Prop} {c s c' s' : Nat} {h h' : AH} (k : chg M c s h h') (hM : ∀ v, M v → N v) (hc : c ≤ c') (hs : s ≤ s') : chg N c' s' h h' := by
  obtain ⟨a1, a2, a3, a4, a5, a6⟩ := k
  exact ⟨a1, by omega, a3, by omega, a5, fun v hv hn => a6 v hv fun w => hn (hM v w)⟩
theorem ext.chg {M : Nat → Prop} {c s : Nat} {h h' : AH} (k : ext c s h h') : chg M c s h h' := by
  obtain ⟨a1, a2, a3, a4, a5, a6⟩ := k
  exact ⟨a1, a2, a3, a4, a6, fun v hv _ => a5 v hv⟩
theorem chg.ext {M : Nat → Prop} {c s : Nat} {h h' : AH} (k : chg M c s h h') (hM : ∀ v, v < h.sz → ¬ M v) : ext c s h h' := by
  obtain ⟨a1, a2, a3, a4, a5, a6⟩ := k
  exact ⟨a1, a2, a3, a4, fun v hv => a6 v hv (hM v hv), a5⟩
theorem chg.setF {M : Nat → Prop} {c s a : Nat} {h h' : AH} {x : List AV} (k : chg M c s h h') (ha : M a ∨ h.sz ≤ a) : chg M c s h (h'.setF a x) := by
  obtain ⟨a1, a2, a3, a4, a5, a6⟩ := k
  refine ⟨a1, a2, a3, a4, a5, fun v hv hm => ⟨(a6 v hv hm).1, (a6 v hv hm).2.1, ?_⟩⟩
  rw [setF_ne (fun w => by subst w; rcases ha with ha | ha; exact hm ha; omega)]
  exact (a6 v hv hm).2.2
theorem chg.setR {M : Nat → Prop} {c s a : Nat} {h h' : AH} {x : List (Option Nat)} (k : chg M c s h h') (ha : M a ∨ h.sz ≤ a) : chg M c s h (h'.setR a x) := by
  obtain ⟨a1, a2, a3, a4, a5, a6⟩ := k
  refine ⟨a1, a2, a3, a4, a5, fun v hv hm => ⟨(a6 v hv hm).1, ?_, (a6 v hv hm).2.2⟩⟩
  rw [setR_ne (fun w => by subst w; rcases ha with ha | ha; exact hm ha; omega)]
  exact (a6 v hv hm).2.1
theorem chg.setI {M : Nat → Prop} {c s a : Nat} {h h' : AH} {x : List Int} (k : chg M c s h h') (ha : M a ∨ h.sz ≤ a) : chg M c s h (h'.setI a x) := by
  obtain ⟨a1, a2, a3, a4, a5, a6⟩ := k
  refine ⟨a1, a2, a3, a4, a5, fun v hv hm => ⟨?_, (a6 v hv hm).2.1, (a6 v hv hm).2.2⟩⟩
  rw [setI_ne (fun w => by subst w; rcases ha with ha | ha; exact hm ha; omega)]
  exact (a6 v hv hm).1
section ALIST
variable {d : Nat} {h : AH} {a e k : Nat} {m : Int} {l : List Nat}
theorem AL.len (hA : AL h a e m l k) : ∃ u rs, h.R e = (u, rs) ∧ u ≠ 0 ∧ rs.length = l.length + k := by
  rcases hA.2 with q | ⟨q1, q2, q3, q4⟩
  · exact ⟨_, _, q, by decide, by rw [List.length_append, List.length_map, List.length_replicate]⟩
  · exact ⟨_, _, q4, by decide, by rw [q1, q2]; rfl⟩
theorem AL.at (hA : AL h a e m l k) {i x : Nat} (hi : l[i]? = some x) : ∃ u rs, h.R e = (u, rs) ∧ u ≠ 0 ∧ rs[i]? = some (some x) := by
  rcases hA.2 with q | ⟨q1, q2, q3, q4⟩
  · refine ⟨_, _, q, by decide, ?_⟩
    rw [List.getElem?_append_left (by rw [List.length_map]; exact (List.getElem?_eq_some_iff.mp hi).1), List.getElem?_map, hi]
    rfl
  · rw [q1] at hi; cases hi
theorem AL.mono {c s : Nat} {M : Nat → Prop} {h' : AH} (hA : AL h a e m l k) (u : chg M c s h h') (h1 : a < h.sz) (h2 : e < h.sz) (h3 : ¬ M a) (h4 : ¬ M e) : AL h' a e m l k := by
  obtain ⟨u1, u2, u3, u4, u5, u6⟩ := u
  have p := (u6 a h1 h3).2.2
  have q := (u6 e h2 h4).2.1
  refine ⟨p.trans hA.1, ?_⟩
  rcases hA.2 with w | ⟨w1, w2, w3, w4⟩
  · exact Or.inl (q.trans w)
  · exact Or.inr ⟨w1, w2, by rw [u5]; exact w3, q.trans w4⟩
theorem alInit_spec {v0 : Int} {v1 : Option Nat} {z : Nat} (HF : h.F a = (10, [vI v0, vR v1, vI 0])) (hS : h.S 4 = some z) (hz : h.R z = (206, [])) : wp (d + 3) 104 (0, ent 1 [vR (some a)], [], h) (fun r h' => r = .inl none ∧ h' = h.setF a [vI 0, vR (some z), vI 0] ∧ AL h' a z 0 [] 0) := by
  have i0 : wp (d + 1) 0 (0, ent 1 [vR (some a)], [], h) (fun r h' => r = .inl none ∧ h' = h) := by
    refine wp.go [] 10 fun W C hW hC => ?_
    exact ⟨rfl, rfl⟩
  have i1 : wp (d + 2) 1 (0, ent 1 [vR (some a)], [], h) (fun r h' => r = .inl none ∧ h' = h.setF a [vI 0, vR v1, vI 0]) := by
    refine wp.go [] 10 fun W C hW hC => ?_
    refine hC _ _ _ (use i0 ?_)
    rintro _ _ ⟨rfl, rfl⟩
    refine ⟨_, _, _, HF, rfl, (Nat.le_of_ble_eq_true rfl), ?_⟩
    exact ⟨rfl, rfl⟩
  refine wp.go [] 10 fun W C hW hC => ?_
  refine hC _ _ _ (use i1 ?_)
  rintro _ _ ⟨rfl, rfl⟩
  refine ⟨_, _, _, setF_at HF, rfl, (Nat.le_of_ble_eq_true rfl), ?_⟩
  have e : ((h.setF a [vI 0, vR v1, vI 0]).setF a (([vI 0, vR v1, vI 0] : List AV).set 1 (vR ((h.setF a [vI 0, vR v1, vI 0]).S 4)))) = h.setF a [vI 0, vR (some z), vI 0] := by
    rw [setF_setF, ← hS]
    rfl
  refine ⟨rfl, e, ?_⟩
  rw [e]
  exact ⟨setF_at HF, Or.inr ⟨rfl, rfl, hS, hz⟩⟩
theorem size_spec' (hA : AL h a e m l k) : wp (d + 1) 105 (0, ent 1 [vR (some a)], [], h) (gives h ((l.length : Nat) : Int)) := by
  refine wp.go [] 10 fun W C hW hC => ?_
  refine ⟨_, _, _, _, hA.1, rfl, rfl, ?_⟩
  exact ⟨rfl, rfl⟩
theorem ckIdx_spec {i n : Int} {h : AH} (h0 : 0 ≤ i) (h1 : i < n) : wp (d + 2) 163 (0, ent 2 [vI i, vI n], [], h) (gives h i) := by
  have c : wp (d + 1) 165 (0, ent 3 [vI i, vI n, vR none], [], h) (gives h i) := by
    refine wp.go [] 20 fun W C hW hC => ?_
    refine ⟨fun q => absurd q (by omega), fun _ => ?_⟩
    refine ⟨fun _ => ⟨rfl, rfl⟩, fun q => absurd q (by omega)⟩
  refine wp.go [] 10 fun W C hW hC => ?_
  refine hC _ _ _ (use (c) ?_); rintro _ _ ⟨rfl, rfl⟩
  exact ⟨rfl, rfl⟩
theorem get_spec (hA : AL h a e m l k) {i x : Nat} (hi : l[i]? = some x) : wp (d + 3) 112 (0, ent 2 [vR (some a), vI ((i : Nat) : Int)], [], h) (fun r h' => r = .inl (some (vR (some x))) ∧ h' = h) := by
  have hil := (List.getElem?_eq_some_iff.mp hi).1
  obtain ⟨u, rs, r1, r2, r3⟩ := hA.at hi
  have c : wp (d + 1) 113 (0, ent 2 [vR (some a), vI ((i : Nat) : Int)], [], h) (fun r h' => r = .inl (some (vR (some x))) ∧ h' = h) := by
    refine wp.go [] 20 fun W C hW hC => ?_
    refine ⟨_, _, _, _, hA.1, rfl, rfl, ?_⟩
    refine ⟨_, _, _, r1, r2, by omega, by rw [Int.toNat_natCast]; exact r3, ?_⟩
    exact ⟨rfl, rfl⟩
  refine wp.go [] 20 fun W C hW hC => ?_
  refine ⟨_, _, _, _, hA.1, rfl, rfl, ?_⟩
  refine hC _ _ _ (useE (wpd.up (by omega) (ckIdx_spec (d := 0) (i := ((i : Nat) : Int)) (n := ((l.length : Nat) : Int)) (by omega) (by omega))) ?_)
  refine ⟨_, _, _, hA.1, rfl, ?_⟩
  refine hC _ _ _ (useE (wpd.up (by omega) (c)) ?_)
  exact ⟨rfl, rfl⟩
theorem newLen_spec {x y z : Nat} (h1 : x ≤ 10000) (h2 : y ≤ 10000) (h3 : z ≤ 10000) (h0 : 1 ≤ x + max y z) {h : AH} : wp (d + 2) 168 (0, ent 4 [vI ((x : Nat) : Int), vI ((y : Nat) : Int), vI ((z : Nat) : Int)], [], h) (gives h ((x + max y z : Nat) : Int)) := by
  refine wp.go [] 20 fun W C hW hC => ?_
  refine hC _ _ _ (useE (wpd.up (by omega) (max_spec (d := 0))) ?_)
  conv => whnf
  rw [show max ((y : Nat) : Int) ((z : Nat) : Int) = ((max y z : Nat) : Int) by omega, iaddN (by omega)]
  refine ⟨fun q => absurd q (by omega), fun _ => ?_⟩
  refine ⟨fun q => absurd q (by omega), fun _ => ?_⟩
  exact ⟨rfl, rfl⟩
theorem cpy_take {α : Type} (xs : List α) (n : Nat) (y : α) (h : xs.length ≤ n) : cpy xs (List.replicate n y) 0 0 xs.length = xs ++ List.replicate (n - xs.length) y := by
  unfold cpy
  simp
theorem copyO_spec {rs : List (Option Nat)} {n : Nat} (hR : h.R e = (6, rs)) (he : e < h.sz) (hl : rs.length ≤ n) (hn : n ≤ 10000) (hk : ∀ x, some x ∈ rs → okE h x) : wp (d + 3) 2 (0, ent 2 [vR (some e), vI ((n : Nat) : Int)], [], h) (fun r h' => r = .inl (some (vR (some h.sz))) ∧ h' = h.newR 6 (rs ++ List.replicate (n - rs.length) none)) := by
  have c : wp (d + 2) 3 (0, ent 4 [vR (some e), vI ((n : Nat) : Int), vR (h.S 0)], [], h) (fun r h' => r = .inl (some (vR (some h.sz))) ∧ h' = h.newR 6 (rs ++ List.replicate (n - rs.length) none)) := by
    have h1 : ∀ x, (h.newR 6 x).R e = (6, rs) := fun x => by rw [newR_ne (by omega)]; exact hR
    refine wp.go [] 40 fun W C hW hC => ?_
    refine ⟨fun q => absurd rfl q, fun _ => ?_⟩
    refine ⟨by omega, by omega, ?_⟩
    rw [Int.toNat_natCast]
    refine ⟨_, Or.inr ⟨_, _, h1 _, by decide, rfl⟩, ?_⟩
    refine hC _ _ _ (useE (wpd.up (by omega) (min_spec (d := 0))) ?_)
    rw [show min ((rs.length : Nat) : Int) ((n : Nat) : Int) = ((rs.length : Nat) : Int) by omega]
    refine ⟨rfl, by omega, by decide, by decide, Or.inr ⟨_, _, _, _, h1 _, newR_at, by decide, rfl, by omega, by rw [List.length_replicate]; omega, fun z hz => (by cases z with | none => exact fun b hb => (by cases hb) | some y => exact okE.isk (show okE h y from hk y (List.mem_of_mem_drop (List.mem_of_mem_take hz)))), ?_⟩⟩
    rw [Int.toNat_natCast, show ((0 : Int).toNat) = 0 from rfl, cpy_take _ _ _ hl]
    refine ⟨rfl, ?_⟩
    have e1 : va_up (h.newR 6 (List.replicate n none)).R h.sz (((h.newR 6 (List.replicate n none)).R h.sz).1, rs ++ List.replicate (n - rs.length) none) = (h.newR 6 (rs ++ List.replicate (n - rs.length) none)).R := by
      rw [newR_at]
      funext q
      show (if q = h.sz then _ else if q = h.sz then _ else h.R q) = if q = h.sz then _ else h.R q
      by_cases w : q = h.sz
      · rw [if_pos w, if_pos w]
      · rw [if_neg w, if_neg w, if_neg w]
    show (h.sz + 1, h.sl + (List.replicate n (none : Option Nat)).length, h.I, va_up (h.newR 6 (List.replicate n none)).R h.sz (((h.newR 6 (List.replicate n none)).R h.sz).1, rs ++ List.replicate (n - rs.length) none), h.F, h.S) = _
    rw [e1]
    show (h.sz + 1, h.sl + (List.replicate n (none : Option Nat)).length, _, _, _, _) = (h.sz + 1, h.sl + (rs ++ List.replicate (n - rs.length) (none : Option Nat)).length, _, _, _, _)
    rw [List.length_append, List.length_replicate, List.length_replicate, show rs.length + (n - rs.length) = n by omega]
    rfl
  refine wp.go [] 20 fun W C hW hC => ?_
  refine ⟨_, _, rfl, hR, rfl, ?_⟩
  refine hC _ _ _ (useE (wpd.up (by omega) (c)) ?_)
  exact ⟨rfl, rfl⟩
theorem grow_spec' (hA : AL h a e m l 0) (ha : a < h.sz) (he : e < h.sz) (hl : l.length ≤ 5000) (hk : ∀ x, x ∈ l → okE h x) : wp (d + 5) 110 (0, ent 1 [vR (some a)], [], h) (fun r h' => r = .inl (some (vR (some h.sz))) ∧ ∃ k', 1 ≤ k' ∧ k' ≤ 10 + l.length ∧ h' = (h.newR 6 (l.map some ++ List.replicate k' none)).setF a [vI m, vR (some h.sz), vI ((l.length : Nat) : Int)]) := by
  obtain ⟨hF, hR⟩ := hA
  have fin : ∀ k', (h.newR 6 (l.map some ++ List.replicate k' none)).F a = (10, [vI m, vR (some e), vI ((l.length : Nat) : Int)]) := fun k' => hF
  have c : wp (d + 4) 111 (0, ent 4 [vR (some a), vI ((l.length + 1 : Nat) : Int)], [], h) (fun r h' => r = .inl (some (vR (some h.sz))) ∧ ∃ k', 1 ≤ k' ∧ k' ≤ 10 + l.length ∧ h' = (h.newR 6 (l.map some ++ List.replicate k' none)).setF a [vI m, vR (some h.sz), vI ((l.length : Nat) : Int)]) := by
    rcases hR with hR | ⟨rfl, -, hS, hR⟩
    · rw [List.replicate_zero, List.append_nil] at hR
      by_cases h0 : l.length = 0
      · have hl0 : l = [] := List.length_eq_zero_iff.mp h0
        subst hl0
        refine wp.go [] 60 fun W C hW hC => ?_
        refine ⟨_, _, _, _, hF, rfl, rfl, ?_⟩
        refine ⟨_, Or.inr ⟨_, _, hR, by decide, rfl⟩, ?_⟩
        refine ⟨fun q => absurd q (by decide), fun _ => ?_⟩
        refine ⟨_, _, _, _, hF, rfl, rfl, ?_⟩
        refine ⟨fun q => ?_, fun q => ?_⟩
        · refine hC _ _ _ (useE (wpd.up (by omega) (max_spec (d := 0))) ?_)
          refine ⟨by decide, by decide, ?_⟩
          refine ⟨_, _, _, fin 10, rfl, (Nat.le_of_ble_eq_true rfl), ?_⟩
          exact ⟨rfl, 10, by decide, by decide, rfl⟩
        · refine hC _ _ _ (useE (wpd.up (by omega) (newLen_spec (d := 0) (x := 0) (y := 1) (z := 0) (by decide) (by decide) (by decide) (by decide))) ?_)
          refine ⟨_, _, _, _, hF, rfl, rfl, ?_⟩
          refine hC _ _ _ (useE (wpd.up (by omega) (copyO_spec (d := 0) (n := 1) hR he (by decide) (by decide) (fun z hz => (nomatch hz)))) ?_)
          refine ⟨_, _, _, fin 1, rfl, (Nat.le_of_ble_eq_true rfl), ?_⟩
          exact ⟨rfl, 1, by decide, by decide, rfl⟩
      · have hsh : ishr ((l.length : Nat) : Int) 1 = ((l.length / 2 : Nat) : Int) := ishr_eq (k := 1) (by decide) (by omega)
        have tail : wp (d + 4) 111 (20, [some (vR (some a)), some (vI ((l.length + 1 : Nat) : Int)), some (vI ((l.length : Nat) : Int)), none], [], h) (fun r h' => r = .inl (some (vR (some h.sz))) ∧ ∃ k', 1 ≤ k' ∧ k' ≤ 10 + l.length ∧ h' = (h.newR 6 (l.map some ++ List.replicate k' none)).setF a [vI m, vR (some h.sz), vI ((l.length : Nat) : Int)]) := by
          refine wp.go [] 60 fun W C hW hC => ?_
          conv => whnf
          rw [hsh, isub_eq (by omega), show ((l.length + 1 : Nat) : Int) - ((l.length : Nat) : Int) = ((1 : Nat) : Int) by omega]
          refine hC _ _ _ (useE (wpd.up (by omega) (newLen_spec (d := 0) (x := l.length) (y := 1) (z := l.length / 2) (by omega) (by decide) (by omega) (by omega))) ?_)
          refine ⟨_, _, _, _, hF, rfl, rfl, ?_⟩
          refine hC _ _ _ (useE (wpd.up (by omega) (copyO_spec (d := 0) (n := l.length + max 1 (l.length / 2)) hR he (by rw [List.length_map]; omega) (by omega) (fun z hz => by obtain ⟨y, hy, e⟩ := List.mem_map.mp hz; rw [← Option.some.inj e]; exact hk y hy))) ?_)
          rw [List.length_map, Nat.add_sub_cancel_left]
          refine ⟨_, _, _, fin _, rfl, (Nat.le_of_ble_eq_true rfl), ?_⟩
          exact ⟨rfl, _, by omega, by omega, rfl⟩
        refine wp.go [20] 20 fun W C hW hC => ?_
        refine ⟨_, _, _, _, hF, rfl, rfl, ?_⟩
        refine ⟨_, Or.inr ⟨_, _, hR, by decide, rfl⟩, ?_⟩
        rw [List.length_map]
        refine ⟨fun _ => hW _ tail, fun q => absurd q (by omega)⟩
    · refine wp.go [] 60 fun W C hW hC => ?_
      refine ⟨_, _, _, _, hF, rfl, rfl, ?_⟩
      refine ⟨_, Or.inr ⟨_, _, hR, by decide, rfl⟩, ?_⟩
      refine ⟨fun q => absurd q (by decide), fun _ => ?_⟩
      refine ⟨_, _, _, _, hF, rfl, rfl, ?_⟩
      refine ⟨fun q => ?_, fun q => absurd hS.symm q⟩
      refine hC _ _ _ (useE (wpd.up (by omega) (max_spec (d := 0))) ?_)
      refine ⟨by decide, by decide, ?_⟩
      refine ⟨_, _, _, fin 10, rfl, (Nat.le_of_ble_eq_true rfl), ?_⟩
      exact ⟨rfl, 10, by decide, by decide, rfl⟩
  refine wp.go [] 20 fun W C hW hC => ?_
  refine ⟨_, _, _, _, hF, rfl, rfl, ?_⟩
  refine ⟨_, _, _, hF, rfl, ?_⟩
  rw [iadd_eq (by omega), show ((l.length : Nat) : Int) + 1 = ((l.length + 1 : Nat) : Int) by omega]
  refine hC _ _ _ (use (wpd.up (by omega) (c)) ?_)
  rintro _ _ ⟨rfl, k', g1, g2, rfl⟩
  exact ⟨rfl, k', g1, g2, rfl⟩
theorem al_add (hA : AL h a e m l k) (ha : a < h.sz) (he : e < h.sz) (hae : a ≠ e) (hl : l.length ≤ 5000) (hk : ∀ x, x ∈ l → okE h x) {x : Nat} (hx : okE h x) : wp (d + 7) 108 (0, ent 2 [vR (some a), vR (some x)], [], h) (fun r h' => r = .inl (some (vI 1)) ∧ ∃ e' m' k', AL h' a e' m' (l ++ [x]) k' ∧ e' < h'.sz ∧ (e' = e ∨ h.sz ≤ e') ∧ chg (fun v => v = a ∨ v = e) 1 (10 + 2 * l.length) h h' ∧ (h'.I e = h.I e ∧ h'.F e = h.F e) ∧ (h'.I a = h.I a ∧ h'.R a = h.R a) ∧ ((h.R e).1 = 206 → h'.R e = h.R e)) := by
  obtain ⟨H, hH⟩ : ∃ H, H = h.setF a [vI (iadd m 1), vR (some e), vI ((l.length : Nat) : Int)] := ⟨_, rfl⟩
  have HF : H.F a = (10, [vI (iadd m 1), vR (some e), vI ((l.length : Nat) : Int)]) := by rw [hH]; exact setF_at hA.1
  have hokE : ∀ y, okE h y → okE H y := by
    intro y hy
    unfold okE at hy ⊢
    rw [hH]
    by_cases w : y = a
    · rw [w] at hy ⊢
      rw [setF_at hA.1, hA.1] at *
      exact hy
    · rw [setF_ne w]; exact hy
  have hcg : chg (fun v => v = a ∨ v = e) 0 0 h H := by rw [hH]; exact chg.refl.setF (Or.inl (Or.inl rfl))
  have c : wp (d + 6) 109 (0, ent 4 [vR (some a), vR (some x), vR (some e), vI ((l.length : Nat) : Int)], [], H) (fun r h' => r = .inl none ∧ ∃ e' m' k', AL h' a e' m' (l ++ [x]) k' ∧ e' < h'.sz ∧ (e' = e ∨ h.sz ≤ e') ∧ chg (fun v => v = a ∨ v = e) 1 (10 + 2 * l.length) h h' ∧ (h'.I e = h.I e ∧ h'.F e = h.F e) ∧ (h'.I a = h.I a ∧ h'.R a = h.R a) ∧ ((h.R e).1 = 206 → h'.R e = h.R e)) := by
    have HI : H.I = h.I := by rw [hH]; rfl
    have HRR : H.R = h.R := by rw [hH]; rfl
    have HS : H.S = h.S := by rw [hH]; rfl
    have Hsz : H.sz = h.sz := by rw [hH]; rfl
    have Hsl : H.sl = h.sl := by rw [hH]; rfl
    have HFe : H.F e = h.F e := by rw [hH]; exact setF_ne (Ne.symm hae)
    obtain ⟨u, rs, r1, r2, r3⟩ := hA.len
    have r1' : H.R e = (u, rs) := by rw [HRR]; exact r1
    by_cases h0 : k = 0
    · subst h0
      have hA' : AL H a e (iadd m 1) l 0 := by
        refine ⟨HF, ?_⟩
        rw [HRR, HS]
        exact hA.2
      refine wp.go [] 40 fun W C hW hC => ?_
      refine ⟨_, Or.inr ⟨_, _, r1', r2, rfl⟩, ?_⟩
      rw [r3]
      refine ⟨fun q => absurd rfl q, fun _ => ?_⟩
      refine ⟨_, _, _, HF, rfl, ?_⟩
      refine hC _ _ _ (use (wpd.up (by omega) (grow_spec' (d := 0) hA' (by omega) (by omega) hl (fun y hy => hokE y (hk y hy)))) ?_)
      rintro _ _ ⟨rfl, k', g1, g2, rfl⟩
      have hRn : ((H.newR 6 (l.map some ++ List.replicate k' none)).setF a [vI (iadd m 1), vR (some H.sz), vI ((l.length : Nat) : Int)]).R H.sz = (6, l.map some ++ List.replicate k' none) := newR_at
      have hFn : ((H.newR 6 (l.map some ++ List.replicate k' none)).setF a [vI (iadd m 1), vR (some H.sz), vI ((l.length : Nat) : Int)]).F a = (10, [vI (iadd m 1), vR (some H.sz), vI ((l.length : Nat) : Int)]) := setF_at (h := H.newR 6 (l.map some ++ List.replicate k' none)) (x := [vI (iadd m 1), vR (some e), vI ((l.length : Nat) : Int)]) HF
      have hokn : okE ((H.newR 6 (l.map some ++ List.replicate k' none)).setF a [vI (iadd m 1), vR (some H.sz), vI ((l.length : Nat) : Int)]) x := by
        have := hokE x hx
        unfold okE at this ⊢
        by_cases w : x = a
        · rw [w] at this ⊢
          rw [hFn]
          rw [HF] at this
          exact this
        · rw [setF_ne w]; exact this
      refine ⟨_, _, hRn, by decide, by decide, by omega, by rw [List.length_append, List.length_map, List.length_replicate]; omega, hokn.isk, fun q => (by cases q), ?_⟩
      rw [Int.toNat_natCast, show (l.map some ++ List.replicate k' (none : Option Nat)).set l.length (some x) = (l ++ [x]).map some ++ List.replicate (k' - 1) none by
        have h1 : List.replicate k' (none : Option Nat) = none :: List.replicate (k' - 1) none := by
          rw [show k' = (k' - 1) + 1 by omega]; rfl
        have := set_mid (L1 := l.map some) (L2 := List.replicate (k' - 1) none) (w := none) (v := some x)
        rw [List.length_map] at this
        rw [h1, this]
        simp]
      refine ⟨_, _, _, hFn, rfl, (Nat.le_of_ble_eq_true rfl), ?_⟩
      rw [iadd_eq (x := ((l.length : Nat) : Int)) (y := 1) (by omega)]
      refine ⟨rfl, H.sz, iadd m 1, k' - 1, ⟨?_, Or.inl ?_⟩, by show H.sz < H.sz + 1; omega, Or.inr (by omega), ?_, ⟨?_, ?_⟩, ⟨?_, ?_⟩, fun _ => ?_⟩
      · refine (setF_at (x := [vI (iadd m 1), vR (some H.sz), vI ((l.length : Nat) : Int)]) hFn).trans ?_
        rw [List.length_append, List.length_singleton]
        rfl
      · exact setR_at hRn
      · refine (((hcg.trans (N := fun v => v = a ∨ v = e) (ext_newR (t := 6) (x := l.map some ++ List.replicate k' none)).chg (fun v _ w => w)).setF (Or.inl (Or.inl rfl))).setR (Or.inr (by omega))).setF (Or.inl (Or.inl rfl)) |>.more (fun v w => w) (by omega) ?_
        rw [List.length_append, List.length_map, List.length_replicate]
        omega
      · show H.I e = _
        rw [HI]
      · rw [setF_ne (Ne.symm hae)]
        show ((H.newR 6 (l.map some ++ List.replicate k' none)).setF a _).F e = _
        rw [setF_ne (Ne.symm hae)]
        exact HFe
      · show H.I a = _
        rw [HI]
      · show (((H.newR 6 (l.map some ++ List.replicate k' none)).setF a _).setR H.sz _).R a = _
        rw [setR_ne (by omega)]
        show (H.newR 6 _).R a = _
        rw [newR_ne (by omega), HRR]
      · show (((H.newR 6 (l.map some ++ List.replicate k' none)).setF a _).setR H.sz _).R e = _
        rw [setR_ne (by omega)]
        show (H.newR 6 _).R e = _
        rw [newR_ne (by omega), HRR]
    · have hRe : h.R e = (6, l.map some ++ List.replicate k none) := by
        rcases hA.2 with q | ⟨-, q, -⟩
        · exact q
        · exact absurd q h0
      have hRe' : H.R e = (6, l.map some ++ List.replicate k none) := by rw [HRR]; exact hRe
      refine wp.go [] 40 fun W C hW hC => ?_
      refine ⟨_, Or.inr ⟨_, _, r1', r2, rfl⟩, ?_⟩
      rw [r3]
      refine ⟨fun _ => ?_, fun q => absurd q (by omega)⟩
      refine ⟨_, _, hRe', by decide, by decide, by omega, by rw [List.length_append, List.length_map, List.length_replicate]; omega, (hokE x hx).isk, fun q => (by cases q), ?_⟩
      rw [Int.toNat_natCast, show (l.map some ++ List.replicate k (none : Option Nat)).set l.length (some x) = (l ++ [x]).map some ++ List.replicate (k - 1) none by
        have h1 : List.replicate k (none : Option Nat) = none :: List.replicate (k - 1) none := by
          rw [show k = (k - 1) + 1 by omega]; rfl
        have := set_mid (L1 := l.map some) (L2 := List.replicate (k - 1) none) (w := none) (v := some x)
        rw [List.length_map] at this
        rw [h1, this]
        simp]
      refine ⟨_, _, _, HF, rfl, (Nat.le_of_ble_eq_true rfl), ?_⟩
      rw [iadd_eq (x := ((l.length : Nat) : Int)) (y := 1) (by omega)]
      refine ⟨rfl, e, iadd m 1, k - 1, ⟨?_, Or.inl ?_⟩, by show e < H.sz; omega, Or.inl rfl, ?_, ⟨?_, ?_⟩, ⟨?_, ?_⟩, fun w => (by rw [hRe] at w; cases w)⟩
      · rw [setF_at (h := H.setR e _) HF, List.length_append, List.length_singleton]
        rfl
      · exact setR_at hRe'
      · exact ((hcg.setR (Or.inl (Or.inr rfl))).setF (Or.inl (Or.inl rfl))).more (fun v w => w) (by omega) (by omega)
      · show H.I e = _
        rw [HI]
      · rw [setF_ne (Ne.symm hae)]
        exact HFe
      · show H.I a = _
        rw [HI]
      · show (H.setR e _).R a = _
        rw [setR_ne hae, HRR]
  refine wp.go [] 30 fun W C hW hC => ?_
  refine ⟨_, _, _, _, hA.1, rfl, rfl, ?_⟩
  refine ⟨_, _, _, hA.1, rfl, (Nat.le_of_ble_eq_true rfl), ?_⟩
  rw [show ([vI m, vR (some e), vI ((l.length : Nat) : Int)] : List AV).set 0 (vI (iadd m 1)) = [vI (iadd m 1), vR (some e), vI ((l.length : Nat) : Int)] from rfl, ← hH]
  refine ⟨_, _, _, _, HF, rfl, rfl, ?_⟩
  refine ⟨_, _, _, _, HF, rfl, rfl, ?_⟩
  refine ⟨_, _, _, HF, rfl, ?_⟩
  refine hC _ _ _ (use (wpd.up (by omega) (c)) ?_)
  rintro _ h' ⟨rfl, q⟩
  exact ⟨Or.inr rfl, rfl, q⟩
end ALIST
