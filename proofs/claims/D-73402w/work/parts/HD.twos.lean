/-! codesOf: the skeletons of two middles come into the map -/
abbrev cod2 (a b : Tr) : List Nat := preT (rootW (a, some b)) 0
def twoK (a : Tr) (Bs : List Tr) : List (List Nat) := Bs.flatMap fun b => cond (decide (0 ≤ cmpT a b)) [cod2 a b] []
/-- since some heap: all stays but for the map, its entries, an iterator -/
def frQ (it tm : Nat) (A0 : List Nat) (g0 g : AH) : Prop := g0.sz ≤ g.sz ∧ g.S = g0.S ∧ ∀ v, v < g0.sz → g.I v = g0.I v ∧ g.R v = g0.R v ∧ (v ∉ A0 → v ≠ tm → v ≠ it → g.F v = g0.F v)
theorem frQ.refl {it tm : Nat} {A0 : List Nat} {g : AH} : frQ it tm A0 g g := ⟨Nat.le_refl _, rfl, fun _ _ => ⟨rfl, rfl, fun _ _ _ => rfl⟩⟩
theorem frQ.st {it tm c σ : Nat} {A0 : List Nat} {g0 g g' : AH} (a : frQ it tm A0 g0 g) (b : stI it c σ g g') : frQ it tm A0 g0 g' := by
  obtain ⟨a1, a2, a3⟩ := a
  obtain ⟨b1, b2, b3, b4, b5, b6⟩ := b
  refine ⟨by omega, b5.trans a2, fun v hv => ?_⟩
  have p := a3 v hv
  have q := b6 v (by omega)
  exact ⟨q.1.trans p.1, q.2.1.trans p.2.1, fun w1 w2 w3 => (q.2.2 w3).trans (p.2.2 w1 w2 w3)⟩
theorem frQ.pt {it tm c σ : Nat} {A0 A : List Nat} {g0 g g' : AH} (a : frQ it tm A0 g0 g) (b : frP A tm c σ g g') (hA : ∀ v, v ∈ A → v ∈ A0 ∨ g0.sz ≤ v) : frQ it tm A0 g0 g' := by
  obtain ⟨a1, a2, a3⟩ := a
  obtain ⟨b1, b2, b3, b4, b5, b6⟩ := b
  refine ⟨by omega, b5.trans a2, fun v hv => ?_⟩
  have p := a3 v hv
  have q := b6 v (by omega)
  refine ⟨q.1.trans p.1, q.2.1.trans p.2.1, fun w1 w2 w3 => (q.2.2 (fun w => ?_) w2).trans (p.2.2 w1 w2 w3)⟩
  rcases hA v w with w | w
  · exact w1 w
  · omega
theorem cS.wide {x z : Nat} {fl : List AV} {h0 : AH} {eB0 tm : Nat} {P : Nat → Prop} {g : AH} {eB : Nat} {mB : Int} {lB : List Nat} {kB : Nat} {A : List Nat} {K : Nat → Option Nat × Option Nat} {kc : Nat → List Nat} {n : Nat} {mc : Int} {done : List (List Nat)} {c σ c' σ' : Nat} (k : cS x z fl h0 eB0 tm P g eB mB lB kB A K kc n mc done c σ) (hc : c ≤ c') (hs : σ ≤ σ') : cS x z fl h0 eB0 tm P g eB mB lB kB A K kc n mc done c' σ' := ⟨k.1, ⟨k.2.1.1.more hc hs, k.2.1.2⟩, k.2.2⟩
theorem BrA.P0 {P : Nat → Prop} {h : AH} {y : Nat} {t : Tr} (k : BrA P h y t) : P y := by
  obtain ⟨p, qs, k2, -⟩ := k
  exact k2
section TWOS
variable {d x z : Nat} {ld : Int} {nw : Nat} {wh nm : Option Nat} {tp : Nat} {h0 : AH} {eB0 tm : Nat} {P : Nat → Prop} {eB : Nat} {mB : Int} {lB : List Nat} {kB : Nat} {n s u ι as es it it2 ks : Nat} {ms : Int} {bs : List Nat} {tail : List (List Nat)}
theorem two_in (h1 : 1 ≤ n) (h2 : n ≤ 11) (hs5 : s ≤ 5) (hS : h0.S 7 = some u) (hU : h0.F u = (228, [])) (hux : u < x) (hbl : bs.length = (brL s).length) (hitm : it ≠ tm) (hita : it ≠ as) (hP : ¬ P it) (h0i : h0.sz ≤ it) {a : Nat} {ta : Tr} (hta : ta ∈ brL s) (ha5 : it ≠ a) {gs : AH} {As : List Nat} (hPs : ∀ v, P v → v < gs.sz ∧ v ∉ As ∧ v ≠ tm) (hasz : P as) {Q : Rs → AH → Prop} {cF σF : Nat} {doneF : List (List Nat)}
    (hQ : ∀ g A K kc mc l7, cS x z (flC x ld nw wh nm tp) h0 eB0 tm P g eB mB lB kB A K kc n mc doneF cF σF → frQ it tm As gs g → (∀ v, v ∈ A → v ∈ As ∨ gs.sz ≤ v) → wp (d + 27) 189 (114, [some (vR (some x)), some (vI ((n : Nat) : Int)), some (vR (some ι)), some (vR (some tm)), some (vR (some it2)), some (vR (some a)), some (vR (some it)), l7], [], g) Q) :
    ∀ (rest : List Tr) (i : Nat) (g : AH) (A : List Nat) (K : Nat → Option Nat × Option Nat) (kc : Nat → List Nat) (mc : Int) (done : List (List Nat)) (c σ : Nat) (l7 : Option AV), (brL s).drop i = rest → i ≤ (brL s).length → cS x z (flC x ld nw wh nm tp) h0 eB0 tm P g eB mB lB kB A K kc n mc done c σ → AL g as es ms bs ks → (∀ (j b : Nat) (T : Tr), bs[j]? = some b → (brL s)[j]? = some T → BrA P g b T) → BrA P g a ta → ItAt g it as i ms → it ∉ A → it < g.sz → cdL n = done ++ (twoK ta rest ++ tail) → doneF = done ++ twoK ta rest → cF = c + 9 * rest.length → σF = σ + 82 * rest.length → frQ it tm As gs g → (∀ v, v ∈ A → v ∈ As ∨ gs.sz ≤ v) →
    wp (d + 27) 189 (148, [some (vR (some x)), some (vI ((n : Nat) : Int)), some (vR (some ι)), some (vR (some tm)), some (vR (some it2)), some (vR (some a)), some (vR (some it)), l7], [], g) Q := by
  intro rest
  induction rest with
  | nil =>
    intro i g A K kc mc done c σ l7 hdr hi hk hA hbr hBa hit hitA hitz hcd hdF hcF hσF hfq hAs
    have hie : i = bs.length := by
      have := congrArg List.length hdr
      rw [List.length_drop, List.length_nil] at this
      omega
    have e1 : doneF = done := by rw [hdF]; exact List.append_nil _
    have e2 : cF = c := hcF
    have e3 : σF = σ := hσF
    subst e1
    subst e2
    subst e3
    obtain ⟨y, hit'⟩ := id hit
    refine wp.go [148, 114] 40 fun W C0 hW hC => ?_
    refine ⟨_, _, _, hit', rfl, ?_⟩
    refine hC _ _ _ (useE (wpd.up (by omega) (hasNext_spec (d := 0) hit hA)) ?_)
    rw [hie, Nat.beq_refl]
    exact ⟨fun _ => hW _ (hQ g A K kc mc l7 hk hfq hAs), fun w => absurd rfl w⟩
  | cons T rest ih =>
    intro i g A K kc mc done c σ l7 hdr hi hk hA hbr hBa hit hitA hitz hcd hdF hcF hσF hfq hAs
    refine wpd.wf fun hwf => ?_
    have hwf : WF g := hwf
    have hil : i < (brL s).length := by
      have := congrArg List.length hdr
      rw [List.length_drop, List.length_cons] at this
      omega
    rw [List.drop_eq_getElem_cons hil] at hdr
    have hT0 : (brL s)[i] = T := by cases hdr; rfl
    have hrest : (brL s).drop (i + 1) = rest := by cases hdr; rfl
    have hget : (brL s)[i]? = some T := by rw [List.getElem?_eq_getElem hil, hT0]
    have hTm := List.mem_of_getElem? hget
    have hbb := List.getElem?_eq_getElem (show i < bs.length by omega)
    generalize bs[i] = b at hbb
    have hB := hbr i b T hbb hget
    obtain ⟨y, hit'⟩ := id hit
    have hPz := hk.1.2.2.1
    obtain ⟨G1, eG1⟩ : ∃ G, G = g.setF it [vI ((i + 1 : Nat) : Int), vI ((i : Nat) : Int), vI ms, vR (some as)] := ⟨_, rfl⟩
    have s1 : stI it 0 0 g G1 := by rw [eG1]; exact (stI.ofExt ext.refl).setF
    have z1 : G1.sz = g.sz := by rw [eG1]; rfl
    have PG1 : ∀ v, P v → P v ∧ G1.R v = g.R v ∧ G1.F v = g.F v := fun v hv => ⟨hv, (s1.2.2.2.2.2 v (hPz v hv).2).2.1, (s1.2.2.2.2.2 v (hPz v hv).2).2.2 (fun w => hP (w ▸ hv))⟩
    have B1 := hB.to PG1
    have Ba1 := hBa.to PG1
    have Pz1 : ∀ v, P v → v < G1.sz := fun v hv => by have := (hPz v hv).2; omega
    have hez : es < g.sz := by
      obtain ⟨u', rs', r1, r2, r3⟩ := hA.len
      exact hwf.R (by rw [r1]; exact r2)
    have hit1 : ItAt G1 it as (i + 1) ms := ⟨_, by rw [eG1]; exact setF_at hit'⟩
    have tb := br_ok hs5 hTm
    have tA := br_ok hs5 hta
    have e2C : twoK ta (T :: rest) = cond (decide (0 ≤ cmpT ta T)) [cod2 ta T] [] ++ twoK ta rest := rfl
    rw [e2C] at hcd hdF
    refine wp.go [148] 60 fun W C0 hW hC => ?_
    refine ⟨_, _, _, hit', rfl, ?_⟩
    refine hC _ _ _ (useE (wpd.up (by omega) (hasNext_spec (d := 0) hit hA)) ?_)
    rw [beq_ff (show i ≠ bs.length by omega)]
    refine ⟨fun w => absurd w (by decide), fun _ => ?_⟩
    refine ⟨_, _, _, hit', rfl, ?_⟩
    refine hC _ _ _ (useE (wpd.up (by omega) (next_spec (d := 0) hit hA hita hbb (by rw [hbl]; have := brL_len s; omega))) ?_)
    rw [← eG1]
    refine ⟨isk_brA B1, ?_⟩
    refine ⟨_, _, _, Ba1.choose_spec.choose_spec.2.1, rfl, ?_⟩
    refine hC _ _ _ (useE (wpd.up (by omega) (cmp16 (d := 0) (show OAt G1 (some a) (some ta) from ⟨Ba1.at Pz1, tA.1, by omega⟩) (show OAt G1 (some b) (some T) from ⟨B1.at Pz1, tb.1, by omega⟩))) ?_)
    refine ⟨fun q => ?_, fun q => ?_⟩
    · have hdec : decide (0 ≤ cmpT ta T) = false := decide_eq_false (by omega)
      rw [hdec, cond_false, List.nil_append] at hcd hdF
      refine hW _ (ih (i + 1) G1 A K kc mc done _ _ _ hrest (by omega) ((hk.st hwf s1 (Or.inl (by rw [hit'])) hP h0i).wide (c' := c + 9) (σ' := σ + 82) (by omega) (by omega)) (hA.to s1.2.2.2.2.1 (PG1 as hasz).2.2 (s1.2.2.2.2.2 es hez).2.1) (fun j b' T' w1 w2 => (hbr j b' T' w1 w2).to PG1) Ba1 hit1 hitA (by omega) hcd hdF ?_ ?_ (hfq.st s1) hAs)
      · rw [hcF, List.length_cons]; omega
      · rw [hσF, List.length_cons]; omega
    · have hdec : decide (0 ≤ cmpT ta T) = true := decide_eq_true q
      rw [hdec, cond_true] at hcd hdF
      obtain ⟨nd1, nd2, nd3, nd4⟩ := not_done h1 h2 (done := done) (L := cod2 ta T) (rest := twoK ta rest ++ tail) (by rw [hcd]; simp)
      obtain ⟨G3, eG3⟩ : ∃ G, G = (G1.newF 9 [vR none, vR none]).setF G1.sz [vR (some a), vR (some b)] := ⟨_, rfl⟩
      have E3 : ext 1 2 G1 G3 := by rw [eG3]; exact ext_newF.setF (Nat.le_refl _)
      have s3 : stI it 1 2 g G3 := (s1.trans (stI.ofExt E3)).trans (stI.ofExt ext.refl)
      have z3 : G3.sz = g.sz + 1 := by rw [eG3, ← z1]; rfl
      have hk3 := hk.st hwf s3 (Or.inl (by rw [hit'])) hP h0i
      have PG : ∀ v, P v → G3.R v = g.R v ∧ G3.F v = g.F v := fun v hv => ⟨(s3.2.2.2.2.2 v (hPz v hv).2).2.1, (s3.2.2.2.2.2 v (hPz v hv).2).2.2 (fun w => hP (w ▸ hv))⟩
      have F3w : G3.F g.sz = (9, [vR (some a), vR (some b)]) := by rw [eG3, ← z1]; exact setF_at newF_at
      have hw : WhAt (fun v => v < G3.sz) G3 g.sz (ta, some T) := ⟨a, b, by show g.sz < G3.sz; omega, F3w, hBa.to fun v hv => ⟨by have := (hPz v hv).2; omega, PG v hv⟩, hB.to fun v hv => ⟨by have := (hPz v hv).2; omega, PG v hv⟩⟩
      have call := cS_put (d := d) (L := cod2 ta T) hk3 hS hU hux hw (fun v hv => hv) (two_ok hs5 hta hTm) rfl nd2 h2 nd3 nd4 nd1
      refine hC _ _ _ (use (wpd.up (by omega) (twoInit (d := 0) newF_at)) ?_)
      rintro _ hx ⟨rfl, he⟩
      rw [he, ← eG3]
      rw [show G1.sz = g.sz from z1]
      refine hC _ _ _ (use call ?_)
      rintro _ g4 ⟨rfl, A', K', kc', mc', hk4, fp, hA'⟩
      obtain ⟨p1, p2, p3, p4, p5, p6⟩ := id fp
      have PG4 : ∀ v, P v → P v ∧ g4.R v = g.R v ∧ g4.F v = g.F v := fun v hv => by
        have hv1 := (hPz v hv).2
        have hv2 := hk.2.2.2.2.2 v hv
        exact ⟨hv, (p6 v (by omega)).2.1.trans (PG v hv).1, ((p6 v (by omega)).2.2 hv2.1 hv2.2).trans (PG v hv).2⟩
      have hit4 : ItAt g4 it as (i + 1) ms := by
        refine ⟨((i : Nat) : Int), ((p6 it (by omega)).2.2 hitA hitm).trans ?_⟩
        rw [eG3, setF_ne (by omega), newF_ne (by omega), eG1]
        exact setF_at hit'
      have hfq3 := hfq.st s3
      refine hW _ (ih (i + 1) g4 A' K' kc' mc' (done ++ [cod2 ta T]) _ _ _ hrest (by omega) hk4 (hA.to (p5.trans s3.2.2.2.2.1) (PG4 as hasz).2.2 ((p6 es (by have : es < g.sz := hez; omega)).2.1.trans (s3.2.2.2.2.2 es hez).2.1)) (fun j b' T' w1 w2 => (hbr j b' T' w1 w2).to PG4) (hBa.to PG4) hit4 (fun w => ?_) (by omega) ?_ ?_ ?_ ?_ (hfq3.pt fp hAs) (fun v hv => ?_))
      · rcases hA' it w with q | q
        · exact hitA q
        · omega
      · rw [hcd]; simp
      · rw [hdF]; simp
      · rw [hcF, List.length_cons]; omega
      · rw [hσF, List.length_cons]; omega
      · rcases hA' v hv with q | q
        · exact hAs v q
        · have := hfq3.1; exact Or.inr (by omega)
/-- each of the halves, with each that is not greater -/
theorem two_out (h1 : 1 ≤ n) (h2 : n ≤ 11) (hs5 : s ≤ 5) (hns : n / 2 = s) (hS : h0.S 7 = some u) (hU : h0.F u = (228, [])) (hux : u < x) (hbl : bs.length = (brL s).length) (hit2tm : it2 ≠ tm) (hit2a : it2 ≠ as) (hP2 : ¬ P it2) (h0i2 : h0.sz ≤ it2) (hasz : P as) (hlb : lB[s]? = some as) {Q : Rs → AH → Prop} {cF σF : Nat} {doneF : List (List Nat)}
    (hQ : ∀ g A K kc mc l5 l6 l7, cS x z (flC x ld nw wh nm tp) h0 eB0 tm P g eB mB lB kB A K kc n mc doneF cF σF → wp (d + 27) 189 (201, [some (vR (some x)), some (vI ((n : Nat) : Int)), some (vR (some ι)), some (vR (some tm)), some (vR (some it2)), l5, l6, l7], [], g) Q) :
    ∀ (rest : List Tr) (i : Nat) (g : AH) (A : List Nat) (K : Nat → Option Nat × Option Nat) (kc : Nat → List Nat) (mc : Int) (done : List (List Nat)) (c σ : Nat) (l5 l6 l7 : Option AV), (brL s).drop i = rest → i ≤ (brL s).length → cS x z (flC x ld nw wh nm tp) h0 eB0 tm P g eB mB lB kB A K kc n mc done c σ → AL g as es ms bs ks → (∀ (j b : Nat) (T : Tr), bs[j]? = some b → (brL s)[j]? = some T → BrA P g b T) → ItAt g it2 as i ms → it2 ∉ A → it2 < g.sz → cdL n = done ++ (rest.flatMap (fun a => twoK a (brL s)) ++ tail) → doneF = done ++ rest.flatMap (fun a => twoK a (brL s)) → cF = c + 80 * rest.length → σF = σ + 800 * rest.length →
    wp (d + 27) 189 (114, [some (vR (some x)), some (vI ((n : Nat) : Int)), some (vR (some ι)), some (vR (some tm)), some (vR (some it2)), l5, l6, l7], [], g) Q := by
  intro rest
  induction rest with
  | nil =>
    intro i g A K kc mc done c σ l5 l6 l7 hdr hi hk hA hbr hit hitA hitz hcd hdF hcF hσF
    have hie : i = bs.length := by
      have := congrArg List.length hdr
      rw [List.length_drop, List.length_nil] at this
      omega
    have e1 : doneF = done := by rw [hdF]; exact List.append_nil _
    have e2 : cF = c := hcF
    have e3 : σF = σ := hσF
    subst e1
    subst e2
    subst e3
    obtain ⟨y, hit'⟩ := id hit
    refine wp.go [114, 201] 40 fun W C0 hW hC => ?_
    refine ⟨_, _, _, hit', rfl, ?_⟩
    refine hC _ _ _ (useE (wpd.up (by omega) (hasNext_spec (d := 0) hit hA)) ?_)
    rw [hie, Nat.beq_refl]
    exact ⟨fun _ => hW _ (hQ g A K kc mc l5 l6 l7 hk), fun w => absurd rfl w⟩
  | cons T rest ih =>
    intro i g A K kc mc done c σ l5 l6 l7 hdr hi hk hA hbr hit hitA hitz hcd hdF hcF hσF
    refine wpd.wf fun hwf => ?_
    have hwf : WF g := hwf
    have hil : i < (brL s).length := by
      have := congrArg List.length hdr
      rw [List.length_drop, List.length_cons] at this
      omega
    rw [List.drop_eq_getElem_cons hil] at hdr
    have hT0 : (brL s)[i] = T := by cases hdr; rfl
    have hrest : (brL s).drop (i + 1) = rest := by cases hdr; rfl
    have hget : (brL s)[i]? = some T := by rw [List.getElem?_eq_getElem hil, hT0]
    have hTm := List.mem_of_getElem? hget
    have hbb := List.getElem?_eq_getElem (show i < bs.length by omega)
    generalize bs[i] = b at hbb
    have hB := hbr i b T hbb hget
    obtain ⟨y, hit'⟩ := id hit
    have hPz := hk.1.2.2.1
    obtain ⟨G1, eG1⟩ : ∃ G, G = g.setF it2 [vI ((i + 1 : Nat) : Int), vI ((i : Nat) : Int), vI ms, vR (some as)] := ⟨_, rfl⟩
    have s1 : stI it2 0 0 g G1 := by rw [eG1]; exact (stI.ofExt ext.refl).setF
    have z1 : G1.sz = g.sz := by rw [eG1]; rfl
    obtain ⟨G3, eG3⟩ : ∃ G, G = G1.newF 11 [vI 0, vI (-1), vI ms, vR (some as)] := ⟨_, rfl⟩
    have E3 : ext 1 4 G1 G3 := by rw [eG3]; exact ext_newF
    have s3 : stI it2 1 4 g G3 := s1.trans (stI.ofExt E3)
    have z3 : G3.sz = g.sz + 1 := by rw [eG3, ← z1]; rfl
    have hk1 := hk.st hwf s1 (Or.inl (by rw [hit'])) hP2 h0i2
    have hk3 := hk.st hwf s3 (Or.inl (by rw [hit'])) hP2 h0i2
    have PG1 : ∀ v, P v → P v ∧ G1.R v = g.R v ∧ G1.F v = g.F v := fun v hv => ⟨hv, (s1.2.2.2.2.2 v (hPz v hv).2).2.1, (s1.2.2.2.2.2 v (hPz v hv).2).2.2 (fun w => hP2 (w ▸ hv))⟩
    have PG3 : ∀ v, P v → P v ∧ G3.R v = g.R v ∧ G3.F v = g.F v := fun v hv => ⟨hv, (s3.2.2.2.2.2 v (hPz v hv).2).2.1, (s3.2.2.2.2.2 v (hPz v hv).2).2.2 (fun w => hP2 (w ▸ hv))⟩
    have hez : es < g.sz := by
      obtain ⟨u', rs', r1, r2, r3⟩ := hA.len
      exact hwf.R (by rw [r1]; exact r2)
    have hAL1 : AL G1 as es ms bs ks := hA.to s1.2.2.2.2.1 (PG1 as hasz).2.2 (s1.2.2.2.2.2 es hez).2.1
    have hAL3 : AL G3 as es ms bs ks := hA.to s3.2.2.2.2.1 (PG3 as hasz).2.2 (s3.2.2.2.2.2 es hez).2.1
    have hit3 : ItAt G3 G1.sz as 0 ms := ⟨_, by rw [eG3]; exact newF_at⟩
    have hitN : ItAt G3 it2 as (i + 1) ms := by
      refine ⟨((i : Nat) : Int), ?_⟩
      rw [eG3, newF_ne (by omega), eG1]
      exact setF_at hit'
    have hcd2 : cdL n = done ++ (twoK T (brL s) ++ (rest.flatMap (fun a => twoK a (brL s)) ++ tail)) := by
      rw [hcd, List.flatMap_cons, List.append_assoc]
    have hdF2 : doneF = (done ++ twoK T (brL s)) ++ rest.flatMap (fun a => twoK a (brL s)) := by rw [hdF, List.flatMap_cons, List.append_assoc]
    have h8 := brL_len s
    have hAz : ∀ v, v ∈ A → v < g.sz := fun v hv => (hk.2.2.1.2.2.2 v hv).2
    have htmz := hk.2.2.1.2.2.1
    have key := two_in (d := d) (x := x) (z := z) (ld := ld) (nw := nw) (wh := wh) (nm := nm) (tp := tp) (h0 := h0) (eB0 := eB0) (tm := tm) (P := P) (eB := eB) (mB := mB) (lB := lB) (kB := kB) (n := n) (s := s) (u := u) (ι := ι) (as := as) (es := es) (it := G1.sz) (it2 := it2) (ks := ks) (ms := ms) (bs := bs) (tail := rest.flatMap (fun a => twoK a (brL s)) ++ tail) h1 h2 hs5 hS hU hux hbl (by omega) (by have := (hPz as hasz).2; omega) (fun w => by have := (hPz _ w).2; omega) (by have := hk.2.1.1.1; omega) (a := b) (ta := T) hTm (by
        intro w
        have := (BrA.P0 hB)
        have := (hPz b this).2
        omega) (gs := G3) (As := A) (fun v hv => ⟨by have := (hPz v hv).2; omega, hk.2.2.2.2.2 v hv⟩) hasz (Q := Q) (cF := c + 1 + 9 * (brL s).length) (σF := σ + 4 + 82 * (brL s).length) (doneF := done ++ twoK T (brL s))
      (fun g' A' K' kc' mc' l7 kk fq hA' => ih (i + 1) g' A' K' kc' mc' (done ++ twoK T (brL s)) _ _ _ _ _ hrest (by omega) (kk.wide (c' := c + 80) (σ' := σ + 800) (by omega) (by omega)) (hAL3.to fq.2.1 ((fq.2.2 as (by have := (hPz as hasz).2; omega)).2.2 (hk.2.2.2.2.2 as hasz).1 (hk.2.2.2.2.2 as hasz).2 (by have := (hPz as hasz).2; omega)) (fq.2.2 es (by omega)).2.1) (fun j b' T' w1 w2 => (hbr j b' T' w1 w2).to fun v hv => ⟨hv, ((fq.2.2 v (by have := (hPz v hv).2; omega)).2.1).trans (PG3 v hv).2.1, ((fq.2.2 v (by have := (hPz v hv).2; omega)).2.2 (hk.2.2.2.2.2 v hv).1 (hk.2.2.2.2.2 v hv).2 (by have := (hPz v hv).2; omega)).trans (PG3 v hv).2.2⟩)
        (by
          obtain ⟨y2, hy2⟩ := hitN
          exact ⟨y2, ((fq.2.2 it2 (by omega)).2.2 hitA hit2tm (by omega)).trans hy2⟩)
        (fun w => by
          rcases hA' it2 w with q | q
          · exact hitA q
          · omega) (by have := fq.1; omega) (by rw [hcd2, List.append_assoc]) hdF2 (by rw [hcF, List.length_cons]; omega) (by rw [hσF, List.length_cons]; omega))
      (brL s) 0 G3 A K kc mc done (c + 1) (σ + 4) l7 rfl (Nat.zero_le _) hk3 hAL3 (fun j b' T' w1 w2 => (hbr j b' T' w1 w2).to PG3) (hB.to PG3) hit3 (fun w => by have := hAz _ w; omega) (by omega) hcd2 rfl rfl rfl frQ.refl (fun v hv => Or.inl hv)
    refine wp.go [114, 148] 90 fun W C0 hW hC => ?_
    refine ⟨_, _, _, hit', rfl, ?_⟩
    refine hC _ _ _ (useE (wpd.up (by omega) (hasNext_spec (d := 0) hit hA)) ?_)
    rw [beq_ff (show i ≠ bs.length by omega)]
    refine ⟨fun w => absurd w (by decide), fun _ => ?_⟩
    refine ⟨_, _, _, hit', rfl, ?_⟩
    refine hC _ _ _ (useE (wpd.up (by omega) (next_spec (d := 0) hit hA hit2a hbb (by omega))) ?_)
    rw [← eG1]
    refine ⟨isk_brA (hB.to PG1), ?_⟩
    refine ⟨by decide, ?_⟩
    have hidiv : idiv ((n : Nat) : Int) 2 = ((s : Nat) : Int) := by rw [idiv_eq ⟨by omega, by omega⟩ ⟨by decide, by decide⟩]; omega
    conv => whnf
    rw [hidiv]
    refine ⟨_, _, _, hk1.1.1.1, rfl, ?_⟩
    refine hC _ _ _ (useE (wpd.up (by omega) (bhit_spec (d := 0) hk1.1.1.1 hk1.1.2.1.1 hlb (by rw [hAL1.1]; rfl))) ?_)
    refine ⟨_, _, _, hAL1.1, rfl, ?_⟩
    refine hC _ _ _ (useE (wpd.up (by omega) (iter_spec (d := 0) hAL1 (by have := (hPz as hasz).2; omega))) ?_)
    rw [← eG3]
    exact hW _ key
end TWOS
