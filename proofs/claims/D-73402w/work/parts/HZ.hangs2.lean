/-! what hangs is written -/
/-- a text that grows since h0 -/
def sbS (h0 h : AH) (s v0 G0 : Nat) (t : Tx) (v G : Nat) : Prop := SbX h s v t G ∧ (v = v0 ∨ h0.sz ≤ v) ∧ G0 ≤ G ∧ sbF s v0 (G - G0) (194 * (G - G0)) h0 h ∧ v < h.sz
theorem sbS.start {h : AH} {s v G : Nat} {t : Tx} (k : SbX h s v t G) (hv : v < h.sz) : sbS h h s v G t v G := ⟨k, Or.inl rfl, Nat.le_refl _, by rw [Nat.sub_self]; exact sbF.refl, hv⟩
theorem sbS.step {h0 h h' : AH} {s v0 G0 v G : Nat} {t p : Tx} {r : Rs} (k : sbS h0 h s v0 G0 t v G) (e : sbEnd h s v t p G r h') : r = .inl (some (vR (some s))) ∧ ∃ v' G', sbS h0 h' s v0 G0 (t ++ p) v' G' := by
  obtain ⟨k1, k2, k3, k4, k5⟩ := k
  obtain ⟨rfl, v', G', e1, e2, e3, e4, e5⟩ := e
  have z := k4.1
  refine ⟨rfl, v', G', e1, by omega, by omega, (k4.trans e4 (by omega)).more (by omega) (by omega), e5⟩
theorem sbS.F {h0 h : AH} {s v0 G0 v G : Nat} {t : Tx} (k : sbS h0 h s v0 G0 t v G) : ∃ fs, h.F s = (13, fs) := by
  obtain ⟨⟨Y, ⟨⟨w, q⟩, -⟩, -⟩, -⟩ := k
  exact ⟨_, q⟩
section HANG2
variable {h : AH} {s sb c N : Nat} {G : Gr} {before next : Int}
/-- one piece: a minus, a place, a colon, a text -/
theorem hang_put {d : Nat} {h0 g : AH} {v0 G0 v Gc lo n k ι p pl : Nat} {t x : Tx} {refs : List (Option Nat)} {l9 l10 l11 : Option AV} (hN : nmC h0 N) (hsN : N ≤ sb) (hvN : N ≤ v0) (hF0 : ∃ fs, h0.F sb = (13, fs)) (hsb : sb < h0.sz) (hv0 : v0 < lo) (hlo : lo ≤ h0.sz) (hι : h0.R ι = (5, refs)) (hιz : ι < h0.sz) (hp : refs[k]? = some (some p)) (hx : tAt lo h0 p x) (hx1 : 1 ≤ x.length) (hpl1 : 1 ≤ pl) (hpl : pl ≤ 99) (hlen : t.length + x.length + 4 ≤ 94) (hkn : k < n) (hn4 : n ≤ 4) (hl4 : refs.length = 4) (hS : sbS h0 g sb v0 G0 t v Gc) {Q : Rs → AH → Prop}
    (hQ : ∀ (g' : AH) (v' G' : Nat), sbS h0 g' sb v0 G0 (t ++ oneT (pl - 1) x) v' G' → wp (d + 9) 245 (120, [some (vR (some s)), some (vR (some sb)), some (vI ((c : Nat) : Int)), some (vI before), some (vI next), some (vI ((pl : Nat) : Int)), some (vR (some ι)), some (vI ((n : Nat) : Int)), some (vI ((k + 1 : Nat) : Int)), l9, l10, l11], [], g') Q) :
    wp (d + 9) 245 (120, [some (vR (some s)), some (vR (some sb)), some (vI ((c : Nat) : Int)), some (vI before), some (vI next), some (vI ((pl : Nat) : Int)), some (vR (some ι)), some (vI ((n : Nat) : Int)), some (vI ((k : Nat) : Int)), l9, l10, l11], [], g) Q := by
  obtain ⟨hN0, ⟨zo, o1, o2, o3⟩, ⟨zt, u1, u2, u3⟩, -⟩ := id hN
  have old : ∀ {g : AH} {t : Tx} {v G : Nat}, sbS h0 g sb v0 G0 t v G → g.S = h0.S ∧ h0.sz ≤ g.sz ∧ ∀ a, a < h0.sz → (a ≠ v0 → g.I a = h0.I a) ∧ g.R a = h0.R a ∧ (a ≠ sb → g.F a = h0.F a) := fun q => ⟨q.2.2.2.1.2.2.2.2.1, q.2.2.2.1.1, q.2.2.2.1.2.2.2.2.2⟩
  obtain ⟨f0, F0⟩ := hS.F
  have hnl := (numT_len pl).2
  refine wp.go [120] 90 fun W C0 hW hC => ?_
  refine ⟨fun w => absurd w (by omega), fun _ => ?_⟩
  refine ⟨_, _, _, F0, rfl, ?_⟩
  refine hC _ _ _ (use (wpd.up (by omega) (appC_spec (d := 0) (c := 45) hS.1 hS.2.2.2.2 (by decide) (by omega))) ?_)
  rintro r1 g1 e1
  obtain ⟨rfl, v1, G1, S1⟩ := hS.step e1
  obtain ⟨f1, F1⟩ := S1.F
  obtain ⟨a1, a2, a3⟩ := old S1
  refine ⟨_, _, _, F1, rfl, ?_⟩
  refine hC _ _ _ (use (wpd.up (by omega) (appI_spec (d := 0) (n := pl) S1.1 S1.2.2.2.2 hpl1 hpl ⟨by rw [a1]; exact o1, ((a3 zo (by omega)).1 (by omega)).trans o3⟩ ⟨by rw [a1]; exact u1, ((a3 zt (by omega)).1 (by omega)).trans u3⟩ (by omega) (by omega) (by rw [List.length_append, List.length_singleton]; omega))) ?_)
  rintro r2 g2 e2
  obtain ⟨rfl, v2, G2, S2⟩ := S1.step e2
  obtain ⟨f2, F2⟩ := S2.F
  refine ⟨_, _, _, F2, rfl, ?_⟩
  refine hC _ _ _ (use (wpd.up (by omega) (appC_spec (d := 0) (c := 58) S2.1 S2.2.2.2.2 (by decide) (by rw [List.length_append, List.length_append, List.length_singleton]; omega))) ?_)
  rintro r3 g3 e3
  obtain ⟨rfl, v3, G3, S3⟩ := S2.step e3
  obtain ⟨f3, F3⟩ := S3.F
  obtain ⟨b1, b2, b3⟩ := old S3
  refine ⟨_, _, _, ((b3 ι hιz).2.1).trans hι, by decide, by omega, by rw [Int.toNat_natCast]; exact hp, ?_⟩
  refine ⟨_, _, _, F3, rfl, ?_⟩
  obtain ⟨xv, w1, w2, ⟨x1, x1'⟩, ⟨x2, x2'⟩, x3, x4⟩ := hx
  have hpsb : p ≠ sb := fun q => by
    obtain ⟨fs, q1⟩ := hF0
    rw [q, q1] at x3
    cases x3
  have Fp : g3.F p = (14, [vR (some xv), vI 0, w1, w2]) := ((b3 p x1').2.2 hpsb).trans x3
  have Ip : g3.I xv = (3, x) := ((b3 xv x2').1 (by omega)).trans x4
  have hSp : StrG g3 p x := StrV.g ⟨xv, w1, w2, Fp, Ip⟩
  have hv3 := S3.2.1
  refine hC _ _ _ (use (wpd.up (by omega) (appS_spec (d := 0) (b := p) S3.1 S3.2.2.2.2 hSp hpsb (fun u v' w1' w2' q => by rw [Fp] at q; cases q; exact ⟨by omega, by omega⟩) (by omega) hx1 (by rw [List.length_append, List.length_append, List.length_append, List.length_singleton, List.length_singleton]; omega))) ?_)
  rintro r4 g4 e4
  obtain ⟨rfl, v4, G4, S4⟩ := S3.step e4
  conv => whnf
  rw [iadd_eq (by omega)]
  have e : (((t ++ [((45 : Nat) : Int)]) ++ numT pl) ++ [((58 : Nat) : Int)]) ++ x = t ++ oneT (pl - 1) x := by
    unfold oneT
    rw [show pl - 1 + 1 = pl by omega]
    simp only [List.append_assoc, List.singleton_append, List.cons_append]
    rfl
  rw [e] at S4
  exact hW _ (hQ g4 v4 G4 S4)
theorem flat_len {i : Nat} : ∀ {T : List Tx}, ((T.flatMap (oneT i)).length) = (T.map fun t => (oneT i t).length).sum
  | [] => rfl
  | a :: r => by rw [List.flatMap_cons, List.length_append, flat_len (T := r), List.map_cons, List.sum_cons]
/-- hangs: what hangs at a carbon is written behind -/
theorem hangs_spec {D : Nat → Nat → Nat} {e vb Gc pl : Nat} {t : Tx} (he : 9 ≤ e) (hS : SkAt h s G) (hG : G.wf) (hd4 : ∀ a, deg G a ≤ 4) (hc : c < G.1) (hN : nmC h N) (hsN : N ≤ sb) (hvN : N ≤ vb) (hsb : sb < h.sz) (hvb : vb < h.sz) (hX : SbX h sb vb t Gc) (hpl1 : 1 ≤ pl) (hpl : pl ≤ 99)
    (hbr : ∀ o, o ∈ (nb G c).filter (hQ before next) → brSp e s N G D c o ∧ okX (brT G D c o) ∧ 1 ≤ (brT G D c o).length ∧ (brT G D c o).length ≤ 96) (hlen : (t ++ (hangT (brT G D c) ((nb G c).filter (hQ before next))).flatMap (oneT (pl - 1))).length ≤ 90) :
    wp (e + 1) 245 (0, ent 12 [vR (some s), vR (some sb), vI ((c : Nat) : Int), vI before, vI next, vI ((pl : Nat) : Int)], [], h) (fun r h' => r = .inl none ∧ ∃ vb' Gc', SbX h' sb vb' (t ++ (hangT (brT G D c) ((nb G c).filter (hQ before next))).flatMap (oneT (pl - 1))) Gc' ∧ (vb' = vb ∨ h.sz ≤ vb') ∧ vb' < h'.sz ∧ Gc ≤ Gc' ∧ sbF sb vb (1 + (((nb G c).filter (hQ before next)).map fun o => cT kC (TT G c o)).sum + (Gc' - Gc)) (4 + (((nb G c).filter (hQ before next)).map fun o => cT kS (TT G c o)).sum + 194 * (Gc' - Gc)) h h') := by
  obtain ⟨d, rfl⟩ : ∃ d, e = d + 8 := ⟨e - 8, by omega⟩
  have hdc := hd4 c
  obtain ⟨L, hL⟩ : ∃ L, L = (nb G c).filter (hQ before next) := ⟨_, rfl⟩
  obtain ⟨T, hT⟩ : ∃ T, T = hangT (brT G D c) L := ⟨_, rfl⟩
  have hLl : L.length ≤ 4 := by
    have := List.length_filter_le (hQ before next) (nb G c)
    rw [← hL] at this
    have h2 : (nb G c).length = deg G c := rfl
    omega
  have hTl : T.length = L.length := by rw [hT]; exact hangT_len _ _
  obtain ⟨fs0, hF0⟩ : ∃ fs, h.F sb = (13, fs) := by
    obtain ⟨Y, ⟨⟨w, q⟩, -⟩, -⟩ := id hX
    exact ⟨_, q⟩
  have fin : ∀ (g : AH) (l9 l10 l11 : Option AV), ext (1 + (L.map fun o => cT kC (TT G c o)).sum) (4 + (L.map fun o => cT kS (TT G c o)).sum) h g → itsA h.sz g h.sz T → h.sz < g.sz →
      wp (d + 8 + 1) 245 (117, [some (vR (some s)), some (vR (some sb)), some (vI ((c : Nat) : Int)), some (vI before), some (vI next), some (vI ((pl : Nat) : Int)), some (vR (some h.sz)), some (vI ((L.length : Nat) : Int)), some (vI ((deg G c : Nat) : Int)), l9, l10, l11], [], g) (fun r h' => r = .inl none ∧ ∃ vb' Gc', SbX h' sb vb' (t ++ T.flatMap (oneT (pl - 1))) Gc' ∧ (vb' = vb ∨ h.sz ≤ vb') ∧ vb' < h'.sz ∧ Gc ≤ Gc' ∧ sbF sb vb (1 + (L.map fun o => cT kC (TT G c o)).sum + (Gc' - Gc)) (4 + (L.map fun o => cT kS (TT G c o)).sum + 194 * (Gc' - Gc)) h h') := by
    intro g l9 l10 l11 E hI hz
    obtain ⟨refs, ps, r1, r2, r3, r4, r5⟩ := hI
    have e5 := E.2.2.2.2.1
    have X0 : SbX g sb vb t Gc := by
      obtain ⟨Y, ⟨⟨w, q1⟩, q2⟩, q3⟩ := hX
      exact ⟨Y, ⟨⟨w, (e5 sb hsb).2.2.trans q1⟩, (e5 vb hvb).1.trans q2⟩, q3⟩
    have hF0g : ∃ fs, g.F sb = (13, fs) := ⟨fs0, (e5 sb hsb).2.2.trans hF0⟩
    have loop : ∀ (j k : Nat) (g1 : AH) (v1 G1 : Nat), j + k = L.length → sbS g g1 sb vb Gc (t ++ (T.take k).flatMap (oneT (pl - 1))) v1 G1 →
        wp (d + 9) 245 (120, [some (vR (some s)), some (vR (some sb)), some (vI ((c : Nat) : Int)), some (vI before), some (vI next), some (vI ((pl : Nat) : Int)), some (vR (some h.sz)), some (vI ((L.length : Nat) : Int)), some (vI ((k : Nat) : Int)), l9, l10, l11], [], g1) (fun r h' => r = .inl none ∧ ∃ vb' Gc', SbX h' sb vb' (t ++ T.flatMap (oneT (pl - 1))) Gc' ∧ (vb' = vb ∨ h.sz ≤ vb') ∧ vb' < h'.sz ∧ Gc ≤ Gc' ∧ sbF sb vb (1 + (L.map fun o => cT kC (TT G c o)).sum + (Gc' - Gc)) (4 + (L.map fun o => cT kS (TT G c o)).sum + 194 * (Gc' - Gc)) h h') := by
      intro j
      induction j with
      | zero =>
        intro k g1 v1 G1 hj hS1
        rw [List.take_of_length_le (by omega)] at hS1
        obtain ⟨q1, q2, q3, q4, q5⟩ := hS1
        refine wp.go [120] 20 fun W C0 hW hC => ?_
        refine ⟨fun _ => ?_, fun w => absurd w (by omega)⟩
        exact ⟨rfl, v1, G1, q1, by omega, q5, q3, ((toSb_ext E).trans q4 (Or.inl rfl))⟩
      | succ j ih =>
        intro k g1 v1 G1 hj hS1
        have hkT : k < T.length := by omega
        have hkp : k < ps.length := by omega
        have hpk := List.getElem?_eq_getElem hkp
        have htk := List.getElem?_eq_getElem hkT
        have hmem := List.getElem_mem hkT
        have hsuc : (T.take (k + 1)).flatMap (oneT (pl - 1)) = (T.take k).flatMap (oneT (pl - 1)) ++ oneT (pl - 1) T[k] := by
          rw [List.take_succ, htk, List.flatMap_append]
          simp
        have htot : ((T.take k).flatMap (oneT (pl - 1))).length + (oneT (pl - 1) T[k]).length ≤ (T.flatMap (oneT (pl - 1))).length := by
          have h2 : ((T.take (k + 1) ++ T.drop (k + 1)).flatMap (oneT (pl - 1))).length = (T.flatMap (oneT (pl - 1))).length := by rw [List.take_append_drop]
          rw [List.flatMap_append, List.length_append, hsuc, List.length_append] at h2
          omega
        generalize ps[k] = p at hpk
        generalize T[k] = x at htk hmem hsuc htot
        have hox : okX x ∧ 1 ≤ x.length ∧ x.length ≤ 96 := by
          rw [hT] at hmem
          unfold hangT hangR at hmem
          rw [List.mem_reverse, hangR_mem] at hmem
          rcases hmem with q | ⟨o, ho, rfl⟩
          · cases q
          · rw [hL] at ho
            exact (hbr o ho).2
        have hol : (oneT (pl - 1) x).length = 2 + (numT (pl - 1 + 1)).length + x.length := by
          unfold oneT
          simp only [List.length_cons, List.length_append]
          omega
        have hn1 := (numT_len (pl - 1 + 1)).1
        rw [List.length_append] at hlen
        rw [← hL, ← hT] at hlen
        refine hang_put (d := d) (h0 := g) (lo := h.sz) (N := N) (p := p) (x := x) (refs := refs) (hN.ext E) hsN hvN hF0g (by omega) hvb E.1 r1 hz (r4 k p hpk) (r5 k p x hpk htk) hox.2.1 hpl1 hpl (by rw [List.length_append]; omega) (by omega) hLl r2 hS1 (fun g2 v2 G2 hS2 => ?_)
        rw [List.append_assoc, ← hsuc] at hS2
        exact ih (k + 1) g2 v2 G2 (by omega) hS2
    have hst : sbS g g sb vb Gc (t ++ (T.take 0).flatMap (oneT (pl - 1))) vb Gc := by
      have := sbS.start X0 (by omega : vb < g.sz)
      rw [show t ++ (T.take 0).flatMap (oneT (pl - 1)) = t from List.append_nil t]
      exact this
    refine wp.go [120] 20 fun W C0 hW hC => ?_
    exact hW _ (loop L.length 0 g vb Gc rfl hst)
  obtain ⟨h1, eh1⟩ : ∃ G, G = h.newR 5 (List.replicate 4 none) := ⟨_, rfl⟩
  have E1 : ext 1 4 h h1 := by rw [eh1]; exact ext_newR
  have z1 : h1.sz = h.sz + 1 := by rw [eh1]; rfl
  have key := hang_col (e := d + 8) (h := h) (s := s) (sb := sb) (c := c) (before := before) (next := next) (place := ((pl : Nat) : Int)) (D := D) (Q := fun r h' => r = .inl none ∧ ∃ vb' Gc', SbX h' sb vb' (t ++ T.flatMap (oneT (pl - 1))) Gc' ∧ (vb' = vb ∨ h.sz ≤ vb') ∧ vb' < h'.sz ∧ Gc ≤ Gc' ∧ sbF sb vb (1 + (L.map fun o => cT kC (TT G c o)).sum + (Gc' - Gc)) (4 + (L.map fun o => cT kS (TT G c o)).sum + 194 * (Gc' - Gc)) h h') he hS hG hd4 hc hN (fun o ho => by
    obtain ⟨q1, q2, -, q4⟩ := hbr o ho
    exact ⟨q1, q2, q4⟩) (fun g l9 l10 l11 hz E hI => by
      rw [← hL] at E hI ⊢
      rw [← hT] at hI
      exact fin g l9 l10 l11 E hI hz) (deg G c) 0 h1 none none none (by omega) (by omega) (by
      show ext (1 + 0) (4 + 0) h h1
      exact E1) ⟨List.replicate 4 none, [], by rw [eh1]; exact newR_at, rfl, by rfl, fun j p hq => by simp at hq, fun j p t hq => by simp at hq⟩
  rw [← hL, ← hT]
  refine wp.go [12] 20 fun W C0 hW hC => ?_
  refine ⟨by decide, by decide, ?_⟩
  rw [show List.replicate (4 : Int).toNat (none : Option Nat) = List.replicate 4 none from rfl, ← eh1]
  exact hW _ key
end HANG2
