/-! puts: a whole's code comes into the map, told as a text -/
theorem WF.I {h : AH} (w : WF h) {a : Nat} (k : (h.I a).1 ≠ 0) : a < h.sz := by
  refine Classical.byContradiction fun q => k (w.1 a (by omega)).1
theorem WF.F {h : AH} (w : WF h) {a : Nat} (k : (h.F a).1 ≠ 0) : a < h.sz := by
  refine Classical.byContradiction fun q => k (w.1 a (by omega)).2.2
theorem WF.R {h : AH} (w : WF h) {a : Nat} (k : (h.R a).1 ≠ 0) : a < h.sz := by
  refine Classical.byContradiction fun q => k (w.1 a (by omega)).2.1
theorem MapAt.same {h h' : AH} {tm : Nat} {A : List Nat} {K : Nat → Option Nat × Option Nat} {kc : Nat → List Nat} {n : Nat} {v1 : Option Nat} {mc : Int} (k : MapAt h tm A K kc n v1 mc) (w : WF h) (hz : h.sz ≤ h'.sz) (hI : ∀ a, a < h.sz → h'.I a = h.I a) (hF : ∀ a, a < h.sz → h'.F a = h.F a) : MapAt h' tm A K kc n v1 mc := by
  obtain ⟨M, C, t, ⟨k1, k2, k3⟩, k4, k5, k6, k7, k8, k9⟩ := k
  refine ⟨M, C, t, ⟨fun a ha => (hF a (w.F (by rw [k1 a ha]; simp))).trans (k1 a ha), (hF tm (w.F (by rw [k2]; simp))).trans k2, k3⟩, k4, k5, k6, k7, fun a ha => ?_, k9⟩
  obtain ⟨g1, g2, s, g3, g4, v, x1, x2, b1, b2⟩ := k8 a ha
  exact ⟨g1, g2, s, g3, by omega, v, x1, x2, (hF s g4).trans b1, (hI v (w.I (by rw [b2]; simp))).trans b2⟩
theorem i2c_a : ∀ v, v < 16 → i2c (iadd 97 ((v : Nat) : Int)) = ((97 + v : Nat) : Int) := by decide +kernel
section PUTS
variable {d tm u : Nat} {h : AH} {K : Nat → Option Nat × Option Nat} {v1 : Option Nat} {mc : Int} {A : List Nat} {kc : Nat → List Nat} {n : Nat}
/-- what puts changes: entries, the map; all else that was there is as it was -/
def frP (A : List Nat) (tm c σ : Nat) (h h' : AH) : Prop := h.sz ≤ h'.sz ∧ h'.sz ≤ h.sz + c ∧ h.sl ≤ h'.sl ∧ h'.sl ≤ h.sl + σ ∧ h'.S = h.S ∧ ∀ a, a < h.sz → h'.I a = h.I a ∧ h'.R a = h.R a ∧ (a ∉ A → a ≠ tm → h'.F a = h.F a)
theorem cputs_spec {P : Nat → Prop} {w : Nat} {W0 : Wh} {L : List Nat} (hwf : WF h) (hS : h.S 7 = some u) (hU : h.F u = (228, [])) (hm : MapAt h tm A K kc n v1 mc) (hw : WhAt P h w W0) (hP : ∀ v, P v → v < h.sz) (hW0 : WhOk W0) (hL : preT (rootW W0) 0 = L) (hLn : L.length = n) (hn : n ≤ 11) (hL16 : ∀ v, v ∈ L → v < 16) (hl0 : A.length ≤ 1000) (hnew : ∀ a, a ∈ A → kc a ≠ L) :
    wp (d + 26) 192 (0, ent 8 [vR (some tm), vR (some w)], [], h) (fun r h' => r = .inl none ∧ ∃ A1 A2 e f ks mc', A = A1 ++ A2 ∧ MapAt h' tm (A1 ++ e :: A2) (up K e (some ks, some f)) (up kc e L) n v1 mc' ∧ h.sz ≤ e ∧ e < h'.sz ∧ h.sz ≤ f ∧ f < h'.sz ∧ h'.I f = (1, codR L) ∧ frP A tm 8 80 h h') := by
  obtain ⟨uw, fw, F1, l1⟩ := wh_code hw
  have hAlt : ∀ a, a ∈ A → a < h.sz := fun a ha => by
    obtain ⟨M, C, t, k1, -⟩ := hm
    exact hwf.F (by rw [k1.1 a ha]; simp)
  have htm : tm < h.sz := by
    obtain ⟨M, C, t, k1, -⟩ := hm
    exact hwf.F (by rw [k1.2.1]; simp)
  have huz : u < h.sz := hwf.F (by rw [hU]; simp)
  refine wp.go [26] 60 fun W C0 hW hC => ?_
  refine ⟨_, _, _, F1, l1, ?_⟩
  refine hC _ _ _ (use (wpd.up (by omega) (ccode_spec (d := 0) hP hw hW0)) ?_)
  rintro _ h1 ⟨f, rfl, e1, f1, f2, f3⟩
  rw [show codeI (rootW W0) = codR L by rw [← hL]] at f3
  refine hC _ _ _ (use (wpd.up (by omega) (sbInit_spec (d := 0) newF_at)) ?_)
  rintro _ h2 ⟨rfl, he2⟩
  obtain ⟨X2, E2⟩ : SbX h2 h1.sz (h1.sz + 1) [] 0 ∧ ext 2 20 h1 h2 := by
    rw [he2]
    exact sbX_new
  have E12 := e1.trans E2
  have f4 : h2.I f = (1, codR L) := (E2.2.2.2.2.1 f f2).1.trans f3
  have z2 : h2.sz = h1.sz + 2 := by rw [he2]; rfl
  refine ⟨_, Or.inl ⟨_, _, f4, by decide, rfl⟩, ?_⟩
  rw [List.length_map, hLn]
  refine hW _ ?_
  have loop : ∀ (j i : Nat) (g : AH) (v : Nat) (l7 : Option AV), j + i = n → SbX g h1.sz v (txtC (L.take i)) 0 → ext (3 + 2) (27 + 20) h g → v < g.sz → h.sz ≤ v → f < g.sz → h1.sz + 2 ≤ g.sz → g.I f = (1, codR L) → v ≠ f →
      wp (d + 26) 192 (26, [some (vR (some tm)), some (vR (some w)), some (vR (some f)), some (vR (some h1.sz)), some (vR (some f)), some (vI ((n : Nat) : Int)), some (vI ((i : Nat) : Int)), l7], [], g) (fun r h' => r = .inl none ∧ ∃ A1 A2 e f ks mc', A = A1 ++ A2 ∧ MapAt h' tm (A1 ++ e :: A2) (up K e (some ks, some f)) (up kc e L) n v1 mc' ∧ h.sz ≤ e ∧ e < h'.sz ∧ h.sz ≤ f ∧ f < h'.sz ∧ h'.I f = (1, codR L) ∧ frP A tm 8 80 h h') := by
    intro j
    induction j with
    | zero =>
      intro i g v l7 hj hX hE hv hhv hf hg hIf hvf
      have hi : L.take i = L := List.take_of_length_le (by omega)
      rw [hi] at hX
      have E5 := hE.2.2.2.2.1
      obtain ⟨Y, hY, -⟩ := id hX
      obtain ⟨⟨wx, sF⟩, -⟩ := id hY
      refine wp.go [26] 60 fun W C0 hW hC => ?_
      refine ⟨fun _ => ?_, fun c => absurd c (by omega)⟩
      refine ⟨_, _, _, sF, rfl, ?_⟩
      refine hC _ _ _ (use (wpd.up (by omega) (toS_spec (d := 0) hX hv (by omega) (by rw [List.length_map]; omega))) ?_)
      rintro _ g2 ⟨rfl, e2, z3, sF2, sI2⟩
      have EE := hE.trans e2
      have EE5 := EE.2.2.2.2.1
      have hm2 := hm.same hwf EE.1 (fun a ha => (EE5 a ha).1) (fun a ha => (EE5 a ha).2.2)
      obtain ⟨M, C, t, k1, -⟩ := id hm2
      refine ⟨_, _, _, k1.2.1, rfl, ?_⟩
      have hgz := hE.1
      refine hC _ _ _ (use (wpd.up (by omega) (put_spec (d := 0) (u := u) (by rw [EE.2.2.2.2.2]; exact hS) ((EE5 u huz).2.2.trans hU) hm2 (fun a ha => by have := hAlt a ha; omega) (by omega) hLn hL16 ⟨_, _, _, sF2, sI2⟩ (by omega) (by omega) hl0 hnew)) ?_)
      rintro _ g3 ⟨⟨o, rfl⟩, A1, A2, mc', q1, q2, q3, q4, q5, q6, q7, q8⟩
      have ez := e2.2.1
      have ez2 := e2.2.2.1
      have ez3 := e2.2.2.2.1
      rw [List.length_map] at ez3
      have hz1 := hE.2.1
      have hz2 := hE.2.2.1
      have hz3 := hE.2.2.2.1
      refine ⟨rfl, A1, A2, g2.sz, f, g.sz, mc', q1, q2, by omega, by omega, f1, by omega, by rw [q6, (e2.2.2.2.2.1 f hf).1]; exact hIf, by omega, by omega, by omega, by omega, by rw [q5]; exact EE.2.2.2.2.2, fun a ha => ⟨by rw [q6]; exact (EE5 a ha).1, by rw [q7]; exact (EE5 a ha).2.1, fun w1 w2 => (q8 a (by omega) w1 w2).trans (EE5 a ha).2.2⟩⟩
    | succ j ih =>
      intro i g v l7 hj hX hE hv hhv hf hg hIf hvf
      have hil : i < L.length := by omega
      have hget := List.getElem?_eq_getElem hil
      have hlt := hL16 _ (List.getElem_mem hil)
      have htk : txtC (L.take (i + 1)) = txtC (L.take i) ++ [((97 + L[i] : Nat) : Int)] := by
        show (L.take (i + 1)).map _ = _
        rw [List.take_succ, hget, List.map_append]
        rfl
      generalize L[i] = c at hget hlt htk
      have hgc : (codR L)[i]? = some ((c : Nat) : Int) := by rw [List.getElem?_map, hget]; rfl
      obtain ⟨Y, hY, -⟩ := id hX
      obtain ⟨⟨wx, sF⟩, -⟩ := id hY
      refine wp.go [26] 60 fun W C0 hW hC => ?_
      refine ⟨fun w => absurd w (by omega), fun _ => ?_⟩
      refine ⟨_, _, _, hIf, rfl, by omega, by rw [Int.toNat_natCast]; exact hgc, ?_⟩
      refine ⟨_, _, _, sF, rfl, ?_⟩
      conv => whnf
      rw [i2c_a c hlt]
      refine hC _ _ _ (use (wpd.up (by omega) (appC_spec (d := 0) (c := 97 + c) hX hv (by omega) (by rw [List.length_map, List.length_take]; omega))) ?_)
      rintro _ g2 ⟨rfl, v', G', X', v2, -, fr, vz⟩
      have hG : G' = 0 := by
        obtain ⟨Y', -, -, -, -, w1, -⟩ := X'
        rcases w1 with w1 | w1
        · exact w1
        · exfalso
          have hcap : ∀ m, 16 ≤ capG m := by
            intro m
            induction m with
            | zero => exact Nat.le_refl _
            | succ m ihm => show 16 ≤ 2 * capG m + 2; omega
          have := hcap (G' - 1)
          rw [← htk, List.length_map, List.length_take] at w1
          omega
      subst hG
      rw [← htk] at X'
      have fr0 : sbF h1.sz v 0 0 g g2 := fr
      have hs1 : h.sz ≤ h1.sz := e1.1
      have hE2 : ext (3 + 2) (27 + 20) h g2 := (hE.sbF fr0 hs1 hhv).more (by omega) (by omega)
      have zz := fr0.1
      have hvn : v' = v := by
        rcases v2 with q | q
        · exact q
        · have := fr0.2.1; omega
      (conv => whnf); simp (disch := omega) only [iadd_eq, isub_eq, imul_eq]
      refine hW _ (ih (i + 1) g2 v' _ (by omega) X' hE2 vz (by omega) (by omega) (by omega) ((((fr0.2.2.2.2.2 f hf).1 (Ne.symm hvf))).trans hIf) (by omega))
  have hh := loop n 0 h2 (h1.sz + 1) none (by omega) X2 E12 (by omega) (by have := e1.1; omega) (by omega) (by omega) f4 (by omega)
  exact hh
end PUTS
