/-! codesOf: behind the skeletons of one middle -/
theorem cdL_len {n : Nat} (h1 : 1 ≤ n) (h2 : n ≤ 11) : (cdL n).length ≤ 200 := by
  rw [cd_per h1 h2]
  have : ∀ n, n ≤ 11 → (perL n).length ≤ 200 := by decide +kernel
  exact this n h2
theorem twos_map {n : Nat} (h : n % 2 = 0) : (twosL n).map (fun p => preT (rootW (p.1, some p.2)) 0) = (brL (n / 2)).flatMap (fun a => twoK a (brL (n / 2))) := by
  unfold twosL twoK
  rw [h]
  show (List.flatMap _ _).map _ = _
  rw [List.map_flatMap]
  congr 1
  funext a
  rw [List.map_flatMap]
  congr 1
  funext b
  cases decide (0 ≤ cmpT a b) <;> rfl
theorem twos_odd {n : Nat} (h : n % 2 = 1) : twosL n = [] := by
  unfold twosL
  rw [h]
  rfl
section END4
variable {d x z : Nat} {ld : Int} {nw : Nat} {wh nm : Option Nat} {tp : Nat} {h0 : AH} {eB0 tm : Nat} {P : Nat → Prop} {g : AH} {eB : Nat} {mB : Int} {lB : List Nat} {kB : Nat} {A : List Nat} {K : Nat → Option Nat × Option Nat} {kc : Nat → List Nat} {n ι u : Nat} {mc : Int} {done : List (List Nat)} {c σ : Nat} {cs : List (Option Nat)}
theorem cS.ne2 {fl : List AV} (k : cS x z fl h0 eB0 tm P g eB mB lB kB A K kc n mc done c σ) (hcs : h0.R (x + 2) = (3, cs)) (he2 : eB0 ≠ x + 2) : eB ≠ x + 2 := by
  obtain ⟨k1, ⟨k2, k2b, k2c, k2d⟩, -⟩ := k
  have gc : g.R (x + 2) = (3, cs) := ((k2.2.2.2.2.2 _ (by omega)).2.1 (by omega) (fun w => absurd w.symm he2)).trans hcs
  intro q
  have := k1.2.1.1.six
  rw [q, gc] at this
  exact absurd (show 3 % 200 = 6 from this) (by decide)
/-- what the twos and the end cost -/
def e96 (n : Nat) : Nat := if n % 2 = 0 then 884 else 3
theorem end96 {l4 l5 l6 l7 : Option AV} (h1 : 1 ≤ n) (h2 : n ≤ 11) (hS : h0.S 7 = some u) (hU : h0.F u = (228, [])) (hux : u < x) (k : cS x z (flC x ld nw wh nm tp) h0 eB0 tm P g eB mB lB kB A K kc n mc done c σ) (hcs : h0.R (x + 2) = (3, cs)) (hc12 : cs.length = 12) (he2 : eB0 ≠ x + 2) (hd : done = (onesL n).map fun T => preT T 0) :
    wp (d + 41) 189 (96, [some (vR (some x)), some (vI ((n : Nat) : Int)), some (vR (some ι)), some (vR (some tm)), l4, l5, l6, l7], [], g) (fun r h' => ∃ P' eB' mB' lB' kB', codFin x z (flC x ld nw wh nm tp) h0 eB0 P' eB' mB' lB' kB' n cs (c + e96 n) (σ + 14609) r h' ∧ (∀ v, P' v → P v ∨ h0.sz ≤ v) ∧ (eB' = eB0 ∨ h0.sz ≤ eB')) := by
  have hall := cd_all h1 h2
  have hlen := cdL_len h1 h2
  have hcd : cdL n = done ++ (twosL n).map fun p => preT (rootW (p.1, some p.2)) 0 := by rw [hd]; rfl
  have big : ∀ {P' eB' mB' lB' kB' c' σ' r h'}, codFin x z (flC x ld nw wh nm tp) h0 eB0 P' eB' mB' lB' kB' n cs c' σ' r h' → c' ≤ c + e96 n → σ' ≤ σ + 14609 → codFin x z (flC x ld nw wh nm tp) h0 eB0 P' eB' mB' lB' kB' n cs (c + e96 n) (σ + 14609) r h' := by
    rintro P' eB' mB' lB' kB' c' σ' r h' ⟨rr, e1, e2, e3, e4, e5, e6, e7⟩ w1 w2
    exact ⟨rr, e1, e2, e3, by omega, e5, by omega, e7⟩
  refine wpd.wf fun hwf => ?_
  have hwf : WF g := hwf
  by_cases hev : n % 2 = 0
  · have he9 : e96 n = 884 := if_pos hev
    rw [twos_map hev] at hcd
    refine wp.go [201, 114] 60 fun W C0 hW hC => ?_
    refine ⟨by decide, ?_⟩
    conv => whnf
    rw [irem_eq ⟨by omega, by omega⟩ ⟨by omega, by omega⟩]
    refine ⟨fun w => absurd w (by omega), fun _ => ?_⟩
    refine ⟨by decide, ?_⟩
    conv => whnf
    rw [idiv_eq ⟨by omega, by omega⟩ ⟨by omega, by omega⟩]
    rw [show ((n : Nat) : Int) / 2 = ((n / 2 : Nat) : Int) by omega]
    refine ⟨_, _, _, k.1.1.1, rfl, ?_⟩
    refine hC _ _ _ (use (wpd.up (by omega) (bof_spec (d := 0) (s := n / 2) (by omega) k.1)) ?_)
    rintro _ g1 ⟨as, rfl, P1, eB1, mB1, lB1, kB1, b1, ha, d1⟩
    have hlt := (List.getElem?_eq_some_iff.mp ha).1
    obtain ⟨a1, es, ms, bs, ks, a2, a3, a4, a5⟩ := b1.2.1.2.2.2.2.2 (n / 2) as hlt ha
    have P1z : ∀ v, P1 v → v < g1.sz := fun v hv => (b1.2.2.1 v hv).2
    have gg : g.sz ≤ g1.sz := d1.1.1
    have hg0 : h0.sz ≤ g.sz := k.2.1.1.1
    have htmz : tm < g.sz := k.2.2.1.2.2.1
    have hx0 : x + 87 < h0.sz := k.2.1.2.2.2
    have hez : es < g1.sz := by
      rcases a3 with q | q
      · exact P1z _ q
      · exact q.1
    obtain ⟨g2, e2⟩ : ∃ G, G = g1.newF 11 [vI 0, vI (-1), vI ms, vR (some as)] := ⟨_, rfl⟩
    have E2 : ext 1 4 g1 g2 := by rw [e2]; exact ext_newF
    have z2 : g2.sz = g1.sz + 1 := by rw [e2]; rfl
    have b2 := b1.st (stI.ofExt (it := g1.sz) E2) (fun q => absurd (P1z _ q) (by omega)) (by omega) (by omega)
    have d2 : bD x P g eB 241 7204 P1 g2 eB1 := by
      obtain ⟨⟨c1, c2, c3, c4, c5, c6⟩, c7, c8, c9⟩ := d1
      have q1 := E2.2.2.1
      have q2 := E2.2.2.2.1
      refine ⟨⟨by omega, by omega, by omega, by omega, E2.2.2.2.2.2.trans c5, fun v hv => ?_⟩, c7, c8, c9⟩
      have p := c6 v hv
      have q := E2.2.2.2.2.1 v (by omega)
      exact ⟨q.1.trans p.1, fun w1 w2 => q.2.1.trans (p.2.1 w1 w2), fun w => q.2.2.trans (p.2.2 w)⟩
    have k2 := k.bof hwf b2 d2
    have PG : ∀ v, P1 v → P1 v ∧ g2.R v = g1.R v ∧ g2.F v = g1.F v := fun v hv => ⟨hv, (E2.2.2.2.2.1 v (P1z v hv)).2.1, (E2.2.2.2.2.1 v (P1z v hv)).2.2⟩
    have hl8 := brL_len (n / 2)
    have key := two_out (d := d + 14) (s := n / 2) (u := u) (ι := ι) (as := as) (es := es) (it2 := g1.sz) (ks := ks) (ms := ms) (bs := bs) (tail := []) (Q := fun r h' => ∃ P' eB' mB' lB' kB', codFin x z (flC x ld nw wh nm tp) h0 eB0 P' eB' mB' lB' kB' n cs (c + e96 n) (σ + 14609) r h' ∧ (∀ v, P' v → P v ∨ h0.sz ≤ v) ∧ (eB' = eB0 ∨ h0.sz ≤ eB')) h1 h2 (by omega) rfl hS hU hux a4 (by omega) (by have := P1z _ a1; omega) (fun q => absurd (P1z _ q) (by omega)) (by omega) a1 ha (fun g' A' K' kc' mc' l5 l6 l7 kk => wpd.mono (fun r h' q => ⟨P1, eB1, mB1, lB1, kB1, big q (by omega) (by omega), fun v hv => (d1.2.2.2 v hv).imp id (fun w => by omega), kk.2.1.2.1⟩) _ _ _ (fin201 (d := d + 35) h1 h2 kk hcs hc12 he2 (kk.ne2 hcs he2) (fun v hv => (kk.1.2.2.1 v hv).1) (fun L => by rw [← hcd]; exact hall.2.1 L) (by rw [← hcd]; omega))) (brL (n / 2)) 0 g2 A K kc mc done (c + 241) (σ + 7204) l5 l6 l7 rfl (Nat.zero_le _) k2 (a2.to E2.2.2.2.2.2 (PG as a1).2.2 (E2.2.2.2.2.1 es hez).2.1) (fun j b T w1 w2 => (a5 j b T w1 w2).to PG) ⟨_, by rw [e2]; exact newF_at⟩ (fun w => by have := (k.2.2.1.2.2.2 _ w).2; omega) (by omega) (by rw [List.append_nil]; exact hcd) rfl rfl rfl
    refine ⟨_, _, _, a2.1, rfl, ?_⟩
    refine hC _ _ _ (useE (wpd.up (by omega) (iter_spec (d := 0) a2 (P1z _ a1))) ?_)
    rw [← e2]
    exact hW _ key
  · have ho : n % 2 = 1 := by omega
    have he9 : e96 n = 3 := if_neg hev
    rw [twos_odd ho, List.map_nil, List.append_nil] at hcd
    have key := fin201 (d := d + 35) (ι := ι) (l4 := l4) (l5 := l5) (l6 := l6) (l7 := l7) h1 h2 k hcs hc12 he2 (k.ne2 hcs he2) (fun v hv => (k.1.2.2.1 v hv).1) (fun L => by rw [← hcd]; exact hall.2.1 L) (by rw [← hcd]; omega)
    refine wp.go [201] 60 fun W C0 hW hC => ?_
    refine ⟨by decide, ?_⟩
    conv => whnf
    rw [irem_eq ⟨by omega, by omega⟩ ⟨by omega, by omega⟩]
    refine ⟨fun _ => ?_, fun w => absurd w (by omega)⟩
    exact hW _ (wpd.mono (fun r h' q => ⟨P, eB, mB, lB, kB, big q (by omega) (by omega), fun v hv => Or.inl hv, k.2.1.2.1⟩) _ _ _ key)
end END4
