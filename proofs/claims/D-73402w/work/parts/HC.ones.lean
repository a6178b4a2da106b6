/-! codesOf: the skeletons of one middle come into the map -/
section ONES
variable {d x z : Nat} {fl : List AV} {h0 : AH} {eB0 tm : Nat} {P : Nat → Prop} {eB : Nat} {mB : Int} {lB : List Nat} {kB : Nat} {n u ι eι it kι : Nat} {mι : Int} {bs : List Nat} {Ts : List Tr} {tail : List (List Nat)} {l6 l7 : Option AV}
theorem not_done {n : Nat} {done rest : List (List Nat)} {L : List Nat} (h1 : 1 ≤ n) (h2 : n ≤ 11) (h : cdL n = done ++ L :: rest) : L ∉ done ∧ L.length = n ∧ (∀ v, v ∈ L → v < 16) ∧ done.length ≤ 1000 := by
  obtain ⟨a1, a2, a3⟩ := cd_all h1 h2
  have hL := a3 L (by rw [h]; simp)
  have hn := a1
  rw [h] at hn
  have := List.nodup_append.mp hn
  refine ⟨fun w => this.2.2 L w L List.mem_cons_self rfl, hL.1, hL.2, ?_⟩
  have hl : (cdL n).length ≤ 200 := by
    rw [cd_per h1 h2]
    have : ∀ n, n ≤ 11 → (perL n).length ≤ 200 := by decide +kernel
    exact this n h2
  rw [h, List.length_append] at hl
  omega
theorem ones_loop (h1 : 1 ≤ n) (h2 : n ≤ 11) (hS : h0.S 7 = some u) (hU : h0.F u = (228, [])) (hux : u < x) (hbl : bs.length = Ts.length) (hTs : ∀ T, T ∈ Ts → WhOk (T, none)) (hitm : it ≠ tm) (hitι : it ≠ ι) (hιtm : ι ≠ tm) (hP : ¬ P it) (h0i : h0.sz ≤ it) (hl5 : bs.length ≤ 5000) {Q : Rs → AH → Prop} {cF σF : Nat} {doneF : List (List Nat)}
    (hQ : ∀ g A K kc mc l5, cS x z fl h0 eB0 tm P g eB mB lB kB A K kc n mc doneF cF σF → wp (d + 27) 189 (96, [some (vR (some x)), some (vI ((n : Nat) : Int)), some (vR (some ι)), some (vR (some tm)), some (vR (some it)), l5, l6, l7], [], g) Q) :
    ∀ (rest : List Tr) (i : Nat) (g : AH) (A : List Nat) (K : Nat → Option Nat × Option Nat) (kc : Nat → List Nat) (mc : Int) (done : List (List Nat)) (c σ : Nat) (l5 : Option AV), Ts.drop i = rest → i ≤ Ts.length → cS x z fl h0 eB0 tm P g eB mB lB kB A K kc n mc done c σ → AL g ι eι mι bs kι → (∀ (j b : Nat) (T : Tr), bs[j]? = some b → Ts[j]? = some T → BrA P g b T) → ItAt g it ι i mι → it ∉ A → ι ∉ A → it < g.sz → ι < g.sz → cdL n = done ++ (rest.map (fun T => preT T 0) ++ tail) → doneF = done ++ rest.map (fun T => preT T 0) → cF = c + 9 * rest.length → σF = σ + 81 * rest.length →
    wp (d + 27) 189 (58, [some (vR (some x)), some (vI ((n : Nat) : Int)), some (vR (some ι)), some (vR (some tm)), some (vR (some it)), l5, l6, l7], [], g) Q := by
  intro rest
  induction rest with
  | nil =>
    intro i g A K kc mc done c σ l5 hdr hi hk hA hbr hit hitA hιA hitz hιz hcd hdF hcF hσF
    have hie : i = bs.length := by
      have := congrArg List.length hdr
      rw [List.length_drop, List.length_nil] at this
      omega
    have e1 : doneF = done := by rw [hdF]; exact List.append_nil _
    have e2 : cF = c := hcF
    have e3 : σF = σ := hσF
    subst e1
    subst e2
    subst e3
    obtain ⟨y, hit'⟩ := id hit
    refine wp.go [58, 96] 40 fun W C0 hW hC => ?_
    refine ⟨_, _, _, hit', rfl, ?_⟩
    refine hC _ _ _ (useE (wpd.up (by omega) (hasNext_spec (d := 0) hit hA)) ?_)
    rw [hie, Nat.beq_refl]
    exact ⟨fun _ => hW _ (hQ g A K kc mc l5 hk), fun w => absurd rfl w⟩
  | cons T rest ih =>
    intro i g A K kc mc done c σ l5 hdr hi hk hA hbr hit hitA hιA hitz hιz hcd hdF hcF hσF
    refine wpd.wf fun hwf => ?_
    have hwf : WF g := hwf
    have hil : i < Ts.length := by
      have := congrArg List.length hdr
      rw [List.length_drop, List.length_cons] at this
      omega
    rw [List.drop_eq_getElem_cons hil] at hdr
    have hT0 : Ts[i] = T := by cases hdr; rfl
    have hrest : Ts.drop (i + 1) = rest := by cases hdr; rfl
    have hget : Ts[i]? = some T := by rw [List.getElem?_eq_getElem hil, hT0]
    have hbb := List.getElem?_eq_getElem (show i < bs.length by omega)
    generalize bs[i] = b at hbb
    have hB := hbr i b T hbb hget
    obtain ⟨nd1, nd2, nd3, nd4⟩ := not_done h1 h2 (L := preT T 0) (rest := rest.map (fun T => preT T 0) ++ tail) hcd
    obtain ⟨y, hit'⟩ := id hit
    have hPz := hk.1.2.2.1
    obtain ⟨G1, eG1⟩ : ∃ G, G = g.setF it [vI ((i + 1 : Nat) : Int), vI ((i : Nat) : Int), vI mι, vR (some ι)] := ⟨_, rfl⟩
    have s1 : stI it 0 0 g G1 := by rw [eG1]; exact (stI.ofExt ext.refl).setF
    obtain ⟨G3, eG3⟩ : ∃ G, G = (G1.newF 8 [vR none]).setF G1.sz [vR (some b)] := ⟨_, rfl⟩
    have E3 : ext 1 1 G1 G3 := by rw [eG3]; exact ext_newF.setF (Nat.le_refl _)
    have s3 : stI it 1 1 g G3 := (s1.trans (stI.ofExt E3)).trans (stI.ofExt ext.refl)
    have z1 : G1.sz = g.sz := by rw [eG1]; rfl
    have z3 : G3.sz = g.sz + 1 := by rw [eG3, ← z1]; rfl
    have hk3 := hk.st hwf s3 (Or.inl (by rw [hit'])) hP h0i
    have PG : ∀ v, P v → G3.R v = g.R v ∧ G3.F v = g.F v := fun v hv => ⟨(s3.2.2.2.2.2 v (hPz v hv).2).2.1, (s3.2.2.2.2.2 v (hPz v hv).2).2.2 (fun w => hP (w ▸ hv))⟩
    have F3w : G3.F g.sz = (8, [vR (some b)]) := by rw [eG3, ← z1]; exact setF_at newF_at
    have hw : WhAt (fun v => v < G3.sz) G3 g.sz (T, none) := ⟨some b |>.getD 0, by show g.sz < G3.sz; omega, F3w, hB.to fun v hv => ⟨by have := (hPz v hv).2; omega, PG v hv⟩⟩
    have call := cS_put (d := d) (L := preT T 0) hk3 hS hU hux hw (fun v hv => hv) (hTs T (List.mem_of_getElem? hget)) rfl nd2 h2 nd3 nd4 nd1
    have B1 : BrA (fun v => v < g.sz) G1 b T := hB.to fun v hv => ⟨(hPz v hv).2, (s1.2.2.2.2.2 v (hPz v hv).2).2.1, (s1.2.2.2.2.2 v (hPz v hv).2).2.2 (fun w => hP (w ▸ hv))⟩
    refine wp.go [58] 60 fun W C0 hW hC => ?_
    refine ⟨_, _, _, hit', rfl, ?_⟩
    refine hC _ _ _ (useE (wpd.up (by omega) (hasNext_spec (d := 0) hit hA)) ?_)
    rw [beq_ff (show i ≠ bs.length by omega)]
    refine ⟨fun w => absurd w (by decide), fun _ => ?_⟩
    refine ⟨_, _, _, hit', rfl, ?_⟩
    refine hC _ _ _ (useE (wpd.up (by omega) (next_spec (d := 0) hit hA hitι hbb hl5)) ?_)
    rw [← eG1]
    refine ⟨isk_brA B1, ?_⟩
    refine hC _ _ _ (use (wpd.up (by omega) (oneInit (d := 0) newF_at)) ?_)
    rintro _ hx ⟨rfl, he⟩
    rw [he, ← eG3]
    rw [show G1.sz = g.sz from z1]
    refine hC _ _ _ (use call ?_)
    rintro _ g4 ⟨rfl, A', K', kc', mc', hk4, fp, hA'⟩
    obtain ⟨p1, p2, p3, p4, p5, p6⟩ := id fp
    have G3F : ∀ v, v < g.sz → v ≠ it → G3.F v = g.F v := fun v hv w => (s3.2.2.2.2.2 v hv).2.2 w
    have g4F : ∀ v, v < g.sz → v ∉ A → v ≠ tm → g4.F v = G3.F v := fun v hv w1 w2 => (p6 v (by omega)).2.2 w1 w2
    have hAL4 : AL g4 ι eι mι bs kι := by
      obtain ⟨u', rs', r1, r2, r3⟩ := hA.len
      have hez : eι < g.sz := hwf.R (by rw [r1]; exact r2)
      exact hA.to (p5.trans s3.2.2.2.2.1) ((g4F ι hιz hιA hιtm).trans (G3F ι hιz (Ne.symm hitι))) ((p6 eι (by omega)).2.1.trans (s3.2.2.2.2.2 eι hez).2.1)
    have hit4 : ItAt g4 it ι (i + 1) mι := by
      refine ⟨((i : Nat) : Int), (g4F it hitz hitA hitm).trans ?_⟩
      rw [eG3, setF_ne (by omega), newF_ne (by omega), eG1]
      exact setF_at hit'
    refine hW _ (ih (i + 1) g4 A' K' kc' mc' (done ++ [preT T 0]) _ _ _ hrest (by omega) hk4 hAL4 (fun j b' T' w1 w2 => (hbr j b' T' w1 w2).to fun v hv => ⟨hv, ?_, ?_⟩) hit4 (fun w => ?_) (fun w => ?_) (by omega) (by omega) ?_ ?_ ?_ ?_)
    · have := (hPz v hv).2
      exact (p6 v (by omega)).2.1.trans (PG v hv).1
    · have := (hPz v hv).2
      exact (g4F v this (hk.2.2.2.2.2 v hv).1 (hk.2.2.2.2.2 v hv).2).trans (PG v hv).2
    · rcases hA' it w with q | q
      · exact hitA q
      · omega
    · rcases hA' ι w with q | q
      · exact hιA q
      · omega
    · rw [hcd]; simp
    · rw [hdF]; simp
    · rw [hcF, List.length_cons]; omega
    · rw [hσF, List.length_cons]; omega
end ONES
