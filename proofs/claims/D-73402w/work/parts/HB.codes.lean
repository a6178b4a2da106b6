/-! codesOf: what holds while the codes come into the map -/
def cS (x z : Nat) (fl : List AV) (h0 : AH) (eB0 tm : Nat) (P : Nat → Prop) (g : AH) (eB : Nat) (mB : Int) (lB : List Nat) (kB : Nat) (A : List Nat) (K : Nat → Option Nat × Option Nat) (kc : Nat → List Nat) (n : Nat) (mc : Int) (done : List (List Nat)) (c σ : Nat) : Prop :=
  bL x z fl P g eB mB lB kB ∧ (frH c σ (x + 1) (x + 1) eB0 h0 g ∧ (eB = eB0 ∨ h0.sz ≤ eB) ∧ eB0 ≠ x + 1 ∧ x + 87 < h0.sz) ∧ (MapAt g tm A K kc n none mc ∧ h0.sz ≤ tm ∧ tm < g.sz ∧ ∀ a, a ∈ A → h0.sz ≤ a ∧ a < g.sz) ∧ ((∀ L, L ∈ A.map kc ↔ L ∈ done) ∧ A.length = done.length) ∧ (∀ a, a ∈ A → ∃ f, (K a).2 = some f ∧ h0.sz ≤ f ∧ f < g.sz ∧ g.I f = (1, codR (kc a))) ∧ ∀ v, P v → v ∉ A ∧ v ≠ tm
/-- all stays but for one iterator; more cells -/
def stI (it c σ : Nat) (g g' : AH) : Prop := g.sz ≤ g'.sz ∧ g'.sz ≤ g.sz + c ∧ g.sl ≤ g'.sl ∧ g'.sl ≤ g.sl + σ ∧ g'.S = g.S ∧ ∀ a, a < g.sz → g'.I a = g.I a ∧ g'.R a = g.R a ∧ (a ≠ it → g'.F a = g.F a)
theorem stI.ofExt {it c σ : Nat} {g g' : AH} (k : ext c σ g g') : stI it c σ g g' := ⟨k.1, k.2.1, k.2.2.1, k.2.2.2.1, k.2.2.2.2.2, fun a ha => ⟨(k.2.2.2.2.1 a ha).1, (k.2.2.2.2.1 a ha).2.1, fun _ => (k.2.2.2.2.1 a ha).2.2⟩⟩
theorem stI.setF {it c σ : Nat} {g g' : AH} {y : List AV} (k : stI it c σ g g') : stI it c σ g (g'.setF it y) := ⟨k.1, k.2.1, k.2.2.1, k.2.2.2.1, k.2.2.2.2.1, fun a ha => ⟨(k.2.2.2.2.2 a ha).1, (k.2.2.2.2.2 a ha).2.1, fun w => (setF_ne w).trans ((k.2.2.2.2.2 a ha).2.2 w)⟩⟩
theorem stI.trans {it c σ c' σ' : Nat} {g g1 g2 : AH} (a : stI it c σ g g1) (b : stI it c' σ' g1 g2) : stI it (c + c') (σ + σ') g g2 := by
  obtain ⟨a1, a2, a3, a4, a5, a6⟩ := a
  obtain ⟨b1, b2, b3, b4, b5, b6⟩ := b
  refine ⟨by omega, by omega, by omega, by omega, b5.trans a5, fun v hv => ?_⟩
  have p := a6 v hv
  have q := b6 v (by omega)
  exact ⟨q.1.trans p.1, q.2.1.trans p.2.1, fun w => (q.2.2 w).trans (p.2.2 w)⟩
section CS
variable {d x z : Nat} {fl : List AV} {h0 : AH} {eB0 tm : Nat} {P : Nat → Prop} {g g' : AH} {eB : Nat} {mB : Int} {lB : List Nat} {kB : Nat} {A : List Nat} {K : Nat → Option Nat × Option Nat} {kc : Nat → List Nat} {n : Nat} {mc : Int} {done : List (List Nat)} {c σ c' σ' it : Nat}
theorem MapAt.st {v1 : Option Nat} (k : MapAt g tm A K kc n v1 mc) (w : WF g) (u : stI it c σ g g') (hit : (g.F it).1 = 11 ∨ g.sz ≤ it) : MapAt g' tm A K kc n v1 mc := by
  have ne : ∀ a t, (g.F a).1 = t → t ≠ 0 → t ≠ 11 → a ≠ it := fun a t h1 h2 h3 q => by
    rcases hit with w1 | w1
    · rw [← q, h1] at w1; exact h3 w1
    · have := w.F (a := a) (by rw [h1]; exact h2)
      omega
  obtain ⟨M, C, t, ⟨k1, k2, k3⟩, k4, k5, k6, k7, k8, k9⟩ := k
  obtain ⟨u1, u2, u3, u4, u5, u6⟩ := u
  refine ⟨M, C, t, ⟨fun a ha => ((u6 a (w.F (by rw [k1 a ha]; simp))).2.2 (ne a 15 (by rw [k1 a ha]) (by decide) (by decide))).trans (k1 a ha), ((u6 tm (w.F (by rw [k2]; simp))).2.2 (ne tm 12 (by rw [k2]) (by decide) (by decide))).trans k2, k3⟩, k4, k5, k6, k7, fun a ha => ?_, k9⟩
  obtain ⟨g1, g2, s, g3, g4, v, x1, x2, b1, b2⟩ := k8 a ha
  exact ⟨g1, g2, s, g3, by omega, v, x1, x2, ((u6 s g4).2.2 (ne s 14 (by rw [b1]) (by decide) (by decide))).trans b1, (u6 v (w.I (by rw [b2]; simp))).1.trans b2⟩
theorem bL.st (b : bL x z fl P g eB mB lB kB) (u : stI it c σ g g') (hP : ¬ P it) (h1 : it ≠ x) (h2 : it ≠ x + 1) : bL x z fl P g' eB mB lB kB := by
  obtain ⟨⟨b1, b1'⟩, b2, b3, b4, b5, ⟨b6, b7, b8⟩⟩ := b
  obtain ⟨u1, u2, u3, u4, u5, u6⟩ := u
  have R206 : ∀ v, v < g.sz → (g.R v).1 = 206 → g'.R v = g.R v := fun v hv _ => (u6 v hv).2.1
  refine ⟨⟨((u6 x (by omega)).2.2 (Ne.symm h1)).trans b1, by omega⟩, b2.to u1 u5 (fun v hv => ⟨hv, (u6 v (b3 v hv).2).2.1, (u6 v (b3 v hv).2).2.2 (fun w => hP (w ▸ hv))⟩) R206 ((u6 _ (by omega)).2.2 (Ne.symm h2)) (u6 _ b2.2.1).2.1 b2.2.2.1, fun v hv => ⟨(b3 v hv).1, by have := (b3 v hv).2; omega⟩, ?_, b5, by rw [u5]; exact b6, (u6 z (by omega)).2.1.trans b7, b8⟩
  rw [(u6 _ b2.2.1).2.1]
  exact b4
theorem cS.st (k : cS x z fl h0 eB0 tm P g eB mB lB kB A K kc n mc done c σ) (w : WF g) (u : stI it c' σ' g g') (hit : (g.F it).1 = 11 ∨ g.sz ≤ it) (hP : ¬ P it) (h0i : h0.sz ≤ it) : cS x z fl h0 eB0 tm P g' eB mB lB kB A K kc n mc done (c + c') (σ + σ') := by
  obtain ⟨k1, ⟨k2, k2b, k2c, k2d⟩, ⟨k3, k3b, k3c, k3d⟩, k4, k5, k6⟩ := k
  obtain ⟨u1, u2, u3, u4, u5, u6⟩ := id u
  obtain ⟨f1, f2, f3, f4, f5, f6⟩ := k2
  refine ⟨k1.st u hP (by omega) (by omega), ⟨⟨by omega, by omega, by omega, by omega, u5.trans f5, fun v hv => ?_⟩, k2b, k2c, k2d⟩, ⟨k3.st w u hit, k3b, by omega, fun a ha => ⟨(k3d a ha).1, by have := (k3d a ha).2; omega⟩⟩, k4, fun a ha => ?_, k6⟩
  · have p := f6 v hv
    have q := u6 v (by omega)
    exact ⟨q.1.trans p.1, fun w1 w2 => q.2.1.trans (p.2.1 w1 w2), fun w1 => (q.2.2 (by omega)).trans (p.2.2 w1)⟩
  · obtain ⟨f, g1, g2, g3, g4⟩ := k5 a ha
    exact ⟨f, g1, g2, by omega, (u6 f g3).1.trans g4⟩
/-- one whole's code comes in -/
theorem cS_put {u w : Nat} {Pw : Nat → Prop} {W0 : Wh} {L : List Nat} (k : cS x z fl h0 eB0 tm P g eB mB lB kB A K kc n mc done c σ) (hS : h0.S 7 = some u) (hU : h0.F u = (228, [])) (hux : u < x) (hw : WhAt Pw g w W0) (hPw : ∀ v, Pw v → v < g.sz) (hW0 : WhOk W0) (hL : preT (rootW W0) 0 = L) (hLn : L.length = n) (hn : n ≤ 11) (hL16 : ∀ v, v ∈ L → v < 16) (hl0 : done.length ≤ 1000) (hnew : L ∉ done) :
    wp (d + 26) 192 (0, ent 8 [vR (some tm), vR (some w)], [], g) (fun r g' => r = .inl none ∧ ∃ A' K' kc' mc', cS x z fl h0 eB0 tm P g' eB mB lB kB A' K' kc' n mc' (done ++ [L]) (c + 8) (σ + 80) ∧ frP A tm 8 80 g g' ∧ ∀ a, a ∈ A' → a ∈ A ∨ g.sz ≤ a) := by
  refine wpd.wf fun hwf => ?_
  obtain ⟨k1, ⟨k2, k2b, k2c, k2d⟩, ⟨k3, k3b, k3c, k3d⟩, ⟨k4, k4b⟩, k5, k6⟩ := k
  have f6 := k2.2.2.2.2.2
  refine use (cputs_spec (d := d) (u := u) hwf (by rw [k2.2.2.2.2.1]; exact hS) (((f6 u (by omega)).2.2 (by omega)).trans hU) k3 hw hPw hW0 hL hLn hn hL16 (by omega) (fun a ha e => hnew ((k4 L).mp (List.mem_map.mpr ⟨a, ha, e⟩)))) ?_
  rintro r g' ⟨rfl, A1, A2, e, f, ks, mc', q1, q2, q3, q4, q5, q6, q7, q8⟩
  obtain ⟨p1, p2, p3, p4, p5, p6⟩ := id q8
  have hk2 := k2
  obtain ⟨f1, f2, f3, f4, f5, -⟩ := hk2
  have memA : ∀ a, a ∈ A1 ++ e :: A2 ↔ a = e ∨ a ∈ A := by
    intro a
    rw [q1]
    simp only [List.mem_append, List.mem_cons]
    constructor <;> rintro (w | w | w) <;> simp [w]
  have neA : ∀ a, a ∈ A → a ≠ e := fun a ha w => by have := (k3d a ha).2; omega
  have PF : ∀ v, P v → g'.R v = g.R v ∧ g'.F v = g.F v := fun v hv => by
    have hv1 := (k1.2.2.1 v hv).2
    exact ⟨(p6 v hv1).2.1, (p6 v hv1).2.2 (k6 v hv).1 (k6 v hv).2⟩
  have xA : ∀ v, v < h0.sz → v ∉ A ∧ v ≠ tm := fun v hv => ⟨fun w => by have := (k3d v w).1; omega, by omega⟩
  refine ⟨rfl, _, _, _, mc', ⟨?_, ⟨⟨by omega, by omega, by omega, by omega, p5.trans f5, fun v hv => ?_⟩, k2b, k2c, k2d⟩, ⟨q2, k3b, by omega, fun a ha => ?_⟩, ⟨fun L' => ?_, ?_⟩, fun a ha => ?_, fun v hv => ?_⟩, q8, fun a ha => ?_⟩
  · obtain ⟨⟨b1, b1'⟩, b2, b3, b4, b5, ⟨b6, b7, b8⟩⟩ := k1
    have hx := xA x (by omega)
    have hx1 := xA (x + 1) (by omega)
    refine ⟨⟨((p6 x (by omega)).2.2 hx.1 hx.2).trans b1, by omega⟩, b2.to p1 p5 (fun v hv => ⟨hv, PF v hv⟩) (fun v hv _ => (p6 v hv).2.1) ((p6 _ (by omega)).2.2 hx1.1 hx1.2) (p6 _ b2.2.1).2.1 b2.2.2.1, fun v hv => ⟨(b3 v hv).1, by have := (b3 v hv).2; omega⟩, ?_, b5, by rw [p5]; exact b6, (p6 z (by omega)).2.1.trans b7, b8⟩
    rw [(p6 _ b2.2.1).2.1]
    exact b4
  · have a1 := f6 v hv
    have a2 := p6 v (by omega)
    have a3 := xA v hv
    exact ⟨a2.1.trans a1.1, fun w1 w2 => a2.2.1.trans (a1.2.1 w1 w2), fun w1 => (a2.2.2 a3.1 a3.2).trans (a1.2.2 w1)⟩
  · rcases (memA a).mp ha with w | w
    · exact ⟨by omega, by omega⟩
    · have := k3d a w; exact ⟨this.1, by omega⟩
  · rw [List.mem_map, List.mem_append, List.mem_singleton]
    constructor
    · rintro ⟨a, ha, rfl⟩
      rcases (memA a).mp ha with w | w
      · right; rw [w, up_eq]
      · left; rw [upn_ne _ _ (neA a w)]; exact (k4 _).mp (List.mem_map.mpr ⟨a, w, rfl⟩)
    · rintro (w | w)
      · obtain ⟨a, ha, e2⟩ := List.mem_map.mp ((k4 L').mpr w)
        exact ⟨a, (memA a).mpr (Or.inr ha), by rw [upn_ne _ _ (neA a ha)]; exact e2⟩
      · exact ⟨e, (memA e).mpr (Or.inl rfl), by rw [up_eq]; exact w.symm⟩
  · rw [List.length_append, List.length_cons, List.length_append, List.length_singleton, ← k4b, q1, List.length_append]
    omega
  · rcases (memA a).mp ha with w | w
    · rw [w, up_eq, up_eq]
      exact ⟨f, rfl, by omega, q6, q7⟩
    · rw [upn_ne _ _ (neA a w), upn_ne _ _ (neA a w)]
      obtain ⟨f', g1, g2, g3, g4⟩ := k5 a w
      exact ⟨f', g1, g2, by omega, (p6 f' g3).1.trans g4⟩
  · have hv1 := (k1.2.2.1 v hv).2
    refine ⟨fun w => ?_, (k6 v hv).2⟩
    rcases (memA v).mp w with w | w
    · omega
    · exact (k6 v hv).1 w
  · rcases (memA a).mp ha with w | w
    · exact Or.inr (by omega)
    · exact Or.inl w
end CS
