/-! codesOf: the codes come into their row, rising; the whole of it -/
section VALS
variable {d x : Nat} {fl : List AV} {tm : Nat} {n rr it ι : Nat} {A : List Nat} {K : Nat → Option Nat × Option Nat} {M : Mp} {C : Nat → Int} {t : BT} {v1 : Option Nat} {mc : Int} {gB : AH} {cs : List (Option Nat)} {fv : Nat → Nat}
/-- only the row and the iterator have changed -/
def frV (it rr : Nat) (g g' : AH) : Prop := g'.sz = g.sz ∧ g'.sl = g.sl ∧ g'.S = g.S ∧ g'.I = g.I ∧ (∀ v, v ≠ rr → g'.R v = g.R v) ∧ ∀ v, v ≠ it → g'.F v = g.F v
theorem vals_loop (k : TM gB tm (· ∈ A) K M C v1 (rtB t) A.length mc) (hi : inT M [] t) (hA : flB t = A) (hx : gB.F x = (1, vR (some (x + 1)) :: vR (some (x + 2)) :: fl)) (hcs : gB.R (x + 2) = (3, cs)) (hcn : cs[n]? = some (some rr)) (hne : rr ≠ x + 2) (hitA : it ∉ A) (hittm : it ≠ tm) (hitx : it ≠ x) (hrz : rr < gB.sz) (hf : ∀ a, a ∈ A → (K a).2 = some (fv a) ∧ (gB.I (fv a)).1 = 1) (hl : A.length ≤ 1000) (hn : n ≤ 11) :
    ∀ (Y X : List Nat) (g : AH) (l6 l7 : Option AV), A = X ++ Y → frV it rr gB g → g.R rr = (2, X.map (fun a => some (fv a)) ++ List.replicate Y.length none) → ItV g it tm Y.head? mc →
    wp (d + 5) 189 (228, [some (vR (some x)), some (vI ((n : Nat) : Int)), some (vR (some ι)), some (vR (some tm)), some (vI ((X.length : Nat) : Int)), some (vR (some it)), l6, l7], [], g) (fun r h' => r = .inl (some (vR (some rr))) ∧ frV it rr gB h' ∧ h'.R rr = (2, A.map fun a => some (fv a))) := by
  intro Y
  induction Y with
  | nil =>
    intro X g l6 l7 hXY hfr hR hit
    obtain ⟨lr, hit'⟩ := id hit
    obtain ⟨q1, q2, q3, q4, q5, q6⟩ := id hfr
    have hXA : X = A := by rw [hXY, List.append_nil]
    rw [hXA] at hR
    refine wp.go [228] 60 fun W C0 hW hC => ?_
    refine ⟨_, _, _, hit', rfl, ?_⟩
    refine hC _ _ _ (useE (wpd.up (by omega) (vHas_spec (d := 0) hit)) ?_)
    refine ⟨fun _ => ?_, fun w => absurd rfl w⟩
    refine ⟨_, _, _, _, (q6 x (Ne.symm hitx)).trans hx, rfl, rfl, ?_⟩
    refine ⟨_, _, _, (q5 _ (Ne.symm hne)).trans hcs, by decide, by omega, by rw [Int.toNat_natCast]; exact hcn, ?_⟩
    refine ⟨rfl, hfr, ?_⟩
    rw [hR]
    simp
  | cons a Y ih =>
    intro X g l6 l7 hXY hfr hR hit
    obtain ⟨lr, hit'⟩ := id hit
    obtain ⟨q1, q2, q3, q4, q5, q6⟩ := id hfr
    have haA : a ∈ A := by rw [hXY]; simp
    obtain ⟨hf1, hf2⟩ := hf a haA
    have kg : TM g tm (· ∈ A) K M C v1 (rtB t) A.length mc := ⟨fun b hb => (q6 b (fun w => hitA (w ▸ hb))).trans (k.1 b hb), (q6 tm (Ne.symm hittm)).trans k.2.1, k.2.2⟩
    have hlen : X.length + (Y.length + 1) = A.length := by rw [hXY]; simp
    refine wp.go [228] 90 fun W C0 hW hC => ?_
    refine ⟨_, _, _, hit', rfl, ?_⟩
    refine hC _ _ _ (useE (wpd.up (by omega) (vHas_spec (d := 0) hit)) ?_)
    refine ⟨fun w => absurd (show (1 : Int) = 0 from w) (by decide), fun _ => ?_⟩
    refine ⟨_, _, _, hit', rfl, ?_⟩
    refine hC _ _ _ (useE (wpd.up (by omega) (vNext_spec (d := 0) kg hi hA (fun q hq => hq) hXY hit hitA hittm)) ?_)
    rw [hf1]
    obtain ⟨G1, eG1⟩ : ∃ G, G = g.setF it [vR Y.head?, vR (some a), vI mc, vR (some tm)] := ⟨_, rfl⟩
    rw [← eG1]
    have G1I : (G1.I (fv a)).1 = 1 := by rw [eG1]; show (g.I (fv a)).1 = 1; rw [q4]; exact hf2
    refine ⟨fun b hb => ?_, ?_⟩
    · cases hb
      exact ⟨(1, 1), rfl, by decide, G1I⟩
    have G1x : G1.F x = (1, vR (some (x + 1)) :: vR (some (x + 2)) :: fl) := by rw [eG1, setF_ne (Ne.symm hitx)]; exact (q6 x (Ne.symm hitx)).trans hx
    have G1c : G1.R (x + 2) = (3, cs) := by rw [eG1]; exact (q5 _ (Ne.symm hne)).trans hcs
    have G1r : G1.R rr = (2, X.map (fun a => some (fv a)) ++ List.replicate (Y.length + 1) none) := by rw [eG1]; exact hR
    refine ⟨_, _, _, _, G1x, rfl, rfl, ?_⟩
    refine ⟨_, _, _, G1c, by decide, by omega, by rw [Int.toNat_natCast]; exact hcn, ?_⟩
    refine ⟨_, _, G1r, by decide, by decide, by omega, by rw [List.length_append, List.length_map, List.length_replicate]; omega, fun b hb => (by cases hb; exact ⟨(1, 1), rfl, by decide, G1I⟩), fun q => (by cases q), ?_⟩
    rw [Int.toNat_natCast, show (X.map (fun a => some (fv a)) ++ List.replicate (Y.length + 1) (none : Option Nat)).set X.length (some (fv a)) = (X ++ [a]).map (fun a => some (fv a)) ++ List.replicate Y.length none by
      have := set_mid (L1 := X.map (fun a => some (fv a))) (L2 := List.replicate Y.length none) (w := none) (v := some (fv a))
      rw [List.length_map] at this
      rw [List.replicate_succ, this]
      simp]
    (conv => whnf); simp (disch := omega) only [iadd_eq, isub_eq, imul_eq]
    have hkey := ih (X ++ [a]) (G1.setR rr ((X ++ [a]).map (fun a => some (fv a)) ++ List.replicate Y.length none)) (some (vR (some (fv a)))) l7 (by rw [hXY]; simp) ⟨by rw [eG1]; exact q1, by rw [eG1]; exact q2, by rw [eG1]; exact q3, by rw [eG1]; exact q4, fun v hv => (setR_ne hv).trans (by rw [eG1]; exact q5 v hv), fun v hv => by rw [eG1]; exact (setF_ne hv).trans (q6 v hv)⟩ (setR_at G1r) ⟨some a, by rw [eG1]; exact setF_at hit'⟩
    rw [show (((X ++ [a]).length : Nat) : Int) = ((X.length : Nat) : Int) + 1 by simp] at hkey
    exact hW _ hkey
end VALS
