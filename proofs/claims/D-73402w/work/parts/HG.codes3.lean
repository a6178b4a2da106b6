/-! codesOf: the end of it -/
section FIN
variable {d x z : Nat} {ld : Int} {nw : Nat} {wh nm : Option Nat} {tp : Nat} {h0 : AH} {eB0 tm : Nat} {P : Nat → Prop} {g : AH} {eB : Nat} {mB : Int} {lB : List Nat} {kB : Nat} {A : List Nat} {K : Nat → Option Nat × Option Nat} {kc : Nat → List Nat} {n ι : Nat} {mc : Int} {done : List (List Nat)} {c σ : Nat} {cs : List (Option Nat)}
abbrev codFin (x z : Nat) (fl : List AV) (h0 : AH) (eB0 : Nat) (P : Nat → Prop) (eB : Nat) (mB : Int) (lB : List Nat) (kB n : Nat) (cs : List (Option Nat)) (c σ : Nat) : Rs → AH → Prop := fun r h' => ∃ rr, r = .inl (some (vR (some rr))) ∧ codAtC h' x rr n ∧ h0.sz ≤ h'.sz ∧ h'.sz ≤ h0.sz + c ∧ h0.sl ≤ h'.sl ∧ h'.sl ≤ h0.sl + σ ∧ h'.S = h0.S ∧ (∀ v, v < h0.sz → h'.I v = h0.I v ∧ (v ≠ x + 1 → v ≠ x + 2 → (v = eB0 → (h0.R eB0).1 = 206) → h'.R v = h0.R v) ∧ (v ≠ x + 1 → h'.F v = h0.F v)) ∧ bL x z fl P h' eB mB lB kB ∧ h'.R (x + 2) = (3, cs.set n (some rr))
theorem fin201 {l4 l5 l6 l7 : Option AV} (h1 : 1 ≤ n) (h2 : n ≤ 11) (k : cS x z (flC x ld nw wh nm tp) h0 eB0 tm P g eB mB lB kB A K kc n mc done c σ) (hcs : h0.R (x + 2) = (3, cs)) (hc12 : cs.length = 12) (he2 : eB0 ≠ x + 2) (heB2 : eB ≠ x + 2) (hP2 : ∀ v, P v → x + 87 < v) (hd : ∀ L, L ∈ done ↔ L ∈ codesL n) (hl : done.length ≤ 1000) :
    wp (d + 6) 189 (201, [some (vR (some x)), some (vI ((n : Nat) : Int)), some (vR (some ι)), some (vR (some tm)), l4, l5, l6, l7], [], g) (codFin x z (flC x ld nw wh nm tp) h0 eB0 P eB mB lB kB n cs (c + 3) (σ + 1005)) := by
  obtain ⟨k1, ⟨k2, k2b, k2c, k2d⟩, ⟨k3, k3b, k3c, k3d⟩, ⟨k4, k4b⟩, k5, k6⟩ := k
  obtain ⟨f1, f2, f3, f4, f5, f6⟩ := id k2
  obtain ⟨M, C, t, t1, t2, t3, t4, t5, t6, t7⟩ := k3
  have hgx := k1.1.1
  have hgc : g.R (x + 2) = (3, cs) := ((f6 _ (by omega)).2.1 (by omega) (fun w => absurd w.symm he2)).trans hcs
  obtain ⟨g1, e1⟩ : ∃ G, G = g.newR 2 (List.replicate A.length none) := ⟨_, rfl⟩
  have g1c : g1.R (x + 2) = (3, cs) := by rw [e1, newR_ne (by omega)]; exact hgc
  have g1n : g1.R g.sz = (2, List.replicate A.length none) := by rw [e1]; exact newR_at
  obtain ⟨g2, e2⟩ : ∃ G, G = g1.setR (x + 2) (cs.set n (some g.sz)) := ⟨_, rfl⟩
  have g2z : g2.sz = g.sz + 1 := by rw [e2, e1]; rfl
  have g2F : ∀ v, g2.F v = g.F v := fun v => by rw [e2, e1]; rfl
  have g2t : g2.F tm = (12, tmL none (rtB t) A.length mc) := (g2F tm).trans t1.2.1
  have hAz : ∀ a, a ∈ A → a < g.sz := fun a ha => (k3d a ha).2
  refine wp.go [228] 120 fun W C0 hW hC => ?_
  refine ⟨_, _, _, _, hgx, rfl, rfl, ?_⟩
  refine ⟨_, _, _, t1.2.1, rfl, ?_⟩
  refine hC _ _ _ (useE (wpd.up (by omega) (tmSize_spec (d := 0) t1.2.1)) ?_)
  refine ⟨by omega, by omega, ?_⟩
  rw [Int.toNat_natCast, ← e1]
  refine ⟨_, _, g1c, by decide, by decide, by omega, by omega, fun b hb => (by cases hb; exact ⟨(2, 2), rfl, by decide, by show (g1.R g.sz).1 % 200 = 2; rw [g1n]; rfl⟩), fun q => (by cases q), ?_⟩
  rw [Int.toNat_natCast, ← e2]
  refine ⟨_, _, _, g2t, rfl, ?_⟩
  refine hC _ _ _ (use (wpd.up (by omega) (vals_spec (d := 0) g2t (by omega))) ?_)
  rintro _ g3 ⟨rfl, he3⟩
  have g3z : g3.sz = g2.sz + 1 := by rw [he3]; rfl
  have g3v : g3.F g2.sz = (16, [vR (some tm)]) := by rw [he3, setF_ne (by omega)]; exact newF_at
  have g3F : ∀ v, v < g2.sz → v ≠ tm → g3.F v = g.F v := fun v hv w => by rw [he3, setF_ne w, newF_ne (by omega)]; exact g2F v
  have g3t : g3.F tm = (12, tmL (some g2.sz) (rtB t) A.length mc) := by rw [he3]; exact setF_at ((newF_ne (by omega)).trans g2t)
  have T3 : TM g3 tm (· ∈ A) K M C (some g2.sz) (rtB t) A.length mc := ⟨fun a ha => (g3F a (by have := hAz a ha; omega) (fun w => t1.2.2 (w ▸ ha))).trans (t1.1 a ha), g3t, t1.2.2⟩
  refine ⟨_, _, _, g3v, rfl, ?_⟩
  refine hC _ _ _ (use (wpd.up (by omega) (vIter_spec (d := 0) g3v T3 t2 (fun q hq => by rw [t3] at hq; exact hq) (fun q hq => by have := hAz q hq; omega) (by omega) (by omega))) ?_)
  rintro _ g4 ⟨rfl, he4⟩
  have g4z : g4.sz = g3.sz + 1 := by rw [he4]; rfl
  have g4F : ∀ v, v < g3.sz → g4.F v = g3.F v := fun v hv => by rw [he4]; exact newF_ne (by omega)
  have g4R : ∀ v, g4.R v = g2.R v := fun v => by rw [he4, he3]; rfl
  have g4I : ∀ v, g4.I v = g.I v := fun v => by rw [he4, he3, e2, e1]; rfl
  have g4c : g4.R (x + 2) = (3, cs.set n (some g.sz)) := by rw [g4R, e2]; exact setR_at g1c
  have g4n : g4.R g.sz = (2, List.replicate A.length none) := by rw [g4R, e2, setR_ne (by omega)]; exact g1n
  have T4 : TM g4 tm (· ∈ A) K M C (some g2.sz) (rtB t) A.length mc := ⟨fun a ha => (g4F a (by have := hAz a ha; omega)).trans (T3.1 a ha), (g4F tm (by omega)).trans T3.2.1, t1.2.2⟩
  have fvk : ∀ a, a ∈ A → (K a).2 = some (((K a).2).getD 0) ∧ h0.sz ≤ ((K a).2).getD 0 ∧ ((K a).2).getD 0 < g.sz ∧ g.I (((K a).2).getD 0) = (1, codR (kc a)) := fun a ha => by
    obtain ⟨f, a1, a2, a3, a4⟩ := k5 a ha
    rw [a1]
    exact ⟨rfl, a2, a3, a4⟩
  have hmap : A.map kc = codesL n := srt_same (List.pairwise_map.mpr t7) (srtB_pair (clS n h1 h2)) (fun L => (k4 L).trans (hd L))
  have key := vals_loop (d := d + 1) (x := x) (fl := (flC x ld nw wh nm tp).drop 2) (tm := tm) (n := n) (rr := g.sz) (it := g3.sz) (ι := ι) (fv := fun a => ((K a).2).getD 0) T4 t2 t3 (show g4.F x = (1, vR (some (x + 1)) :: vR (some (x + 2)) :: (flC x ld nw wh nm tp).drop 2) from ((g4F x (by omega)).trans (g3F x (by omega) (by omega))).trans hgx) g4c (List.getElem?_set_self (by omega)) (by omega) (fun w => by have := hAz _ w; omega) (by omega) (by omega) (by omega) (fun a ha => ⟨(fvk a ha).1, by rw [g4I, (fvk a ha).2.2.2]⟩) (by omega) h2 A [] g4 l6 l7 rfl ⟨rfl, rfl, rfl, rfl, fun _ _ => rfl, fun _ _ => rfl⟩ (by rw [g4n]; rfl) ⟨none, by rw [he4, ← t3]; exact newF_at⟩
  refine hW _ (wpd.mono ?_ _ _ _ key)
  rintro r h' ⟨rfl, ⟨q1, q2, q3, q4, q5, q6⟩, q7⟩
  have h4l : g4.sl = g.sl + A.length + 1 + 4 := by rw [he4, he3, e2, e1]; show g.sl + (List.replicate A.length (none : Option Nat)).length + 1 + 4 = _; rw [List.length_replicate]
  have hI' : ∀ v, h'.I v = g.I v := fun v => by rw [q4]; exact g4I v
  have hR' : ∀ v, v ≠ g.sz → v ≠ x + 2 → v < g.sz → h'.R v = g.R v := fun v w1 w2 w3 => by rw [q5 v w1, g4R, e2, setR_ne w2, e1]; exact newR_ne w1
  have hF' : ∀ v, v < g.sz → v ≠ tm → h'.F v = g.F v := fun v w1 w2 => by rw [q6 v (by omega), g4F v (by omega), g3F v (by omega) w2]
  refine ⟨g.sz, rfl, ⟨⟨by omega, by omega⟩, _, q7, by rw [List.length_map, ← hmap, List.length_map], fun j L hj => ?_⟩, by omega, by omega, by omega, by omega, ?_, fun v hv => ⟨(hI' v).trans (f6 v hv).1, fun w1 w2 w3 => (hR' v (by omega) w2 (by omega)).trans ((f6 v hv).2.1 w1 w3), fun w1 => (hF' v (by omega) (by omega)).trans ((f6 v hv).2.2 w1)⟩, ?_, by rw [q5 _ (by omega)]; exact g4c⟩
  · rw [← hmap, List.getElem?_map] at hj
    cases hja : A[j]? with
    | none => rw [hja] at hj; cases hj
    | some a =>
      rw [hja] at hj
      have hj : some (kc a) = some L := hj
      cases hj
      have haA := List.mem_of_getElem? hja
      obtain ⟨a1, a2, a3, a4⟩ := fvk a haA
      exact ⟨((K a).2).getD 0, by rw [List.getElem?_map, hja]; rfl, ⟨by omega, by omega⟩, by rw [hI']; exact a4⟩
  · rw [q3, he4, he3, e2, e1]
    exact f5
  · obtain ⟨⟨b1, b1'⟩, b2, b3, b4, b5, ⟨b6, b7, b8⟩⟩ := k1
    have hS' : h'.S = g.S := by rw [q3, he4, he3, e2, e1]; rfl
    have RB : h'.R eB = g.R eB := hR' eB (by have := b2.2.1; omega) heB2 b2.2.1
    refine ⟨⟨(hF' x (by omega) (by omega)).trans b1, by omega⟩, b2.to (by omega) hS' (fun v hv => ⟨hv, hR' v (by have := (b3 v hv).2; omega) (by have := hP2 v hv; omega) (b3 v hv).2, hF' v (b3 v hv).2 (k6 v hv).2⟩) (fun v hv w => hR' v (by omega) (fun q => by rw [q, hgc] at w; cases w) hv) (hF' _ (by omega) (by omega)) RB b2.2.2.1, fun v hv => ⟨(b3 v hv).1, by have := (b3 v hv).2; omega⟩, ?_, b5, by rw [hS']; exact b6, (hR' z (by omega) (by omega) (by omega)).trans b7, b8⟩
    rw [RB]
    exact b4
end FIN
