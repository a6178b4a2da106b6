/-! codesOf -/
abbrev hsK (hs : AH) (z u : Nat) : Prop := WF hs ∧ hs.S 4 = some z ∧ hs.R z = (206, []) ∧ hs.S 7 = some u ∧ hs.F u = (228, [])
theorem hsK.ok {hs h : AH} {x z u : Nat} (q : hsK hs z u) (o : Old hs h x) : hsOk h x z u := by
  obtain ⟨w, q1, q2, q3, q4⟩ := q
  obtain ⟨o1, o2, o3⟩ := o
  have hz : z < hs.sz := w.R (by rw [q2]; simp)
  have hu : u < hs.sz := w.F (by rw [q4]; simp)
  exact ⟨⟨by rw [o2]; exact q1, (o3 z hz).2.1.trans q2, by omega⟩, by rw [o2]; exact q3, (o3 u hu).2.2.trans q4, by omega⟩
section CALL
variable {d x z u : Nat} {hs h : AH} {ld : Int} {nw : Nat} {wh nm : Option Nat} {tp ep : Nat} {S ST : AS} {fd : Nat → Nat → Bool} {n : Nat}
/-- how many sizes were not asked for yet: each costs its cells once -/
def nnL : List (Option Nat) → Nat
  | [] => 0
  | none :: r => nnL r + 1
  | some _ :: r => nnL r
theorem nnL_set {a : Nat} : ∀ {cs : List (Option Nat)} {n : Nat}, cs[n]? = some none → nnL (cs.set n (some a)) + 1 = nnL cs
  | [], n, h => by simp at h
  | none :: r, 0, _ => rfl
  | some b :: r, 0, h => by simp at h
  | none :: r, n + 1, h => by
    have := nnL_set (a := a) (cs := r) (n := n) (by simpa using h)
    show nnL (r.set n (some a)) + 1 + 1 = nnL r + 1
    rw [this]
  | some b :: r, n + 1, h => by
    have := nnL_set (a := a) (cs := r) (n := n) (by simpa using h)
    show nnL (r.set n (some a)) + 1 = nnL r
    rw [this]
abbrev cdN (h : AH) (x : Nat) : Nat := nnL (h.R (x + 2)).2
abbrev codEnd (hs h : AH) (x : Nat) (ld : Int) (nw : Nat) (wh nm : Option Nat) (tp ep : Nat) (S ST : AS) (fd : Nat → Nat → Bool) (n : Nat) : Rs → AH → Prop := fun r h' => ∃ rr, r = .inl (some (vR (some rr))) ∧ codAtC h' x rr n ∧ Base h' x ld nw wh nm tp ep S ∧ Cache hs h' x ld ep fd ∧ Twn h' x ST ∧ h.sz ≤ h'.sz ∧ h'.sz + 2500 * cdN h' x ≤ h.sz + 2500 * cdN h x ∧ h.sl ≤ h'.sl ∧ h'.sl + 85000 * cdN h' x ≤ h.sl + 85000 * cdN h x ∧ (∀ v, v < h.sz → h'.I v = h.I v) ∧ ∃ cs, h'.R (x + 2) = (3, cs) ∧ cs[n]? = some (some rr)
/-- a size that was asked for before -/
theorem codesOf_hit {rr : Nat} {cs : List (Option Nat)} (b : Base h x ld nw wh nm tp ep S) (e1 : h.R (x + 2) = (3, cs)) (hn : cs[n]? = some (some rr)) : wp (d + 41) 189 (0, ent 8 [vR (some x), vI ((n : Nat) : Int)], [], h) (fun r h' => r = .inl (some (vR (some rr))) ∧ h' = h) := by
  refine wp.go [] 40 fun W C0 hW hC => ?_
  refine ⟨_, _, _, _, b.2.1, rfl, rfl, ?_⟩
  refine ⟨_, _, _, e1, by decide, by omega, by rw [Int.toNat_natCast]; exact hn, ?_⟩
  refine ⟨_, _, _, _, b.2.1, rfl, rfl, ?_⟩
  refine ⟨_, _, _, e1, by decide, by omega, by rw [Int.toNat_natCast]; exact hn, ?_⟩
  exact ⟨rfl, rfl⟩
theorem codesOf_spec (hk : hsK hs z u) (b : Base h x ld nw wh nm tp ep S) (k : Cache hs h x ld ep fd) (T : Twn h x ST) (h1 : 1 ≤ n) (h2 : n ≤ 11) :
    wp (d + 41) 189 (0, ent 8 [vR (some x), vI ((n : Nat) : Int)], [], h) (codEnd hs h x ld nw wh nm tp ep S ST fd n) := by
  refine wpd.wf fun hwf => ?_
  have hwf : WF h := hwf
  obtain ⟨c1, c2, c3, ⟨N, P, eB, mB, lB, kB, p1, p2, p3, p4⟩, ⟨cs, e1, e2, e3⟩, c6⟩ := id k
  subst p3
  rcases e3 n h2 with hn | ⟨-, rr, hn, hrr⟩
  · have ho := hk.ok c1
    have h6 : (h.R eB).1 = 6 ∨ (h.R eB).1 = 206 := by
      obtain ⟨-, q | ⟨-, -, -, q⟩⟩ := p4.1 <;> rw [q] <;> simp
    have hn1 : eB ≠ x + 1 := fun q => by
      have := ((hwf.2 (x + 1)).2.2 (by rw [p4.1.1]; exact ⟨by simp, by simp⟩)).2
      rw [q, this] at h6
      omega
    have hn2 : eB ≠ x + 2 := fun q => by
      rw [q, e1] at h6
      rcases h6 with w | w <;> cases w
    have hb : bL x z (flC x ld nw wh nm tp) P h eB mB lB kB := ⟨⟨b.2.1, b.1⟩, p4, fun v hv => (p1 v hv).1, p2.imp And.left id, hn1, ho.1⟩
    refine wpd.mono ?_ _ _ _ (miss_spec (d := d) h1 h2 ho hb e1 e2 hn hn2)
    rintro r h' ⟨P', eB', mB', lB', kB', ⟨rr, rfl, r2, r3, r4, r5, r6, r7, r8, r9, r10⟩, q2, q3⟩
    obtain ⟨a1, a2, a3⟩ := codes_asm (P0 := P) b k T r3 r7 r8 p1 p2 h6 p4.2.1 r9 q2 q3 e1 r10 h1 h2 r2
    have hN := nnL_set (a := rr) hn
    have hN1 : cdN h' x = nnL (cs.set n (some rr)) := by show nnL (h'.R (x + 2)).2 = _; rw [r10]
    have hN2 : cdN h x = nnL cs := by show nnL (h.R (x + 2)).2 = _; rw [e1]
    exact ⟨rr, rfl, r2, a1, a2, a3, r3, by omega, r5, by omega, fun v hv => (r8 v hv).1, _, r10, List.getElem?_set_self (by omega)⟩
  · refine wp.go [] 40 fun W C0 hW hC => ?_
    refine ⟨_, _, _, _, b.2.1, rfl, rfl, ?_⟩
    refine ⟨_, _, _, e1, by decide, by omega, by rw [Int.toNat_natCast]; exact hn, ?_⟩
    refine ⟨_, _, _, _, b.2.1, rfl, rfl, ?_⟩
    refine ⟨_, _, _, e1, by decide, by omega, by rw [Int.toNat_natCast]; exact hn, ?_⟩
    exact ⟨rr, rfl, hrr, b, k, T, Nat.le_refl _, Nat.le_refl _, Nat.le_refl _, Nat.le_refl _, fun _ _ => rfl, _, e1, hn⟩
end CALL
/-- all that holds between the calls; the name that is kept is told -/
def InvN (hs h : AH) (x : Nat) (SC ST : AS) (nm : Option Nat) (fd : Nat → Nat → Bool) : Prop := ∃ ld nw wh tp ep, Base h x ld nw wh nm tp ep SC ∧ Cache hs h x ld ep fd ∧ Twn h x ST
/-- what a call of the component comes to, the sizes asked for set aside -/
abbrev qEnd (hs h : AH) (x : Nat) (v : AV) (SC ST : AS) (c s : Nat) (N : Option Nat → Prop) (fd : Nat → Nat → Bool) : Rs → AH → Prop := fun r h' => r = .inl (some v) ∧ (∃ nm', N nm' ∧ InvN hs h' x SC ST nm' fd) ∧ h'.sz + 2500 * cdN h' x ≤ h.sz + 2500 * cdN h x + c ∧ h.sl ≤ h'.sl ∧ h'.sl + 85000 * cdN h' x ≤ h.sl + 85000 * cdN h x + s
theorem frB.cd {x ep : Nat} {h h' : AH} (f : frB x ep h h') (hx : x + 87 < h.sz) (hep : epOk h x ep) : cdN h' x = cdN h x :=
  congrArg (fun r => nnL r.2) ((f.2.2 (x + 2) (by omega)).2.1 (by omega) fun w => by
    rcases hep with q | q
    · omega
    · rw [w]; exact q)
theorem qEnd.of {hs h : AH} {x : Nat} {ld : Int} {nw : Nat} {wh nm : Option Nat} {tp ep : Nat} {S SC ST : AS} {v : AV} {c s : Nat} {N : Option Nat → Prop} {fd : Nat → Nat → Bool} (b : Base h x ld nw wh nm tp ep S) (k : Cache hs h x ld ep fd) (t : Twn h x ST) {r : Rs} {h' : AH} (e : cEnd h x ld ep v SC c s N r h') : qEnd hs h x v SC ST c s N fd r h' := by
  obtain ⟨rfl, nw', wh', nm', tp', ep', a1, a2, a3, a4, a5, a6, a7⟩ := e
  have hc := a2.cd b.1 k.2.1
  exact ⟨rfl, ⟨nm', a7, ld, nw', wh', tp', ep', a1, k.fr b.1 a2 b.six b.h25 a3, t.fr b.1 a2⟩, by omega, a5, by omega⟩
