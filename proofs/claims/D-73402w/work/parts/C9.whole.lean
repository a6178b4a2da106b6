/-! WHOLES: one root, or two halves, the greater first -/
abbrev Wh : Type := Tr × Option Tr
def whG (G : Gr) (D : Nat → Nat → Nat) : Wh := match cens G D with
  | [a] => (TT G 16 a, none)
  | a :: b :: _ => if 0 ≤ cmpT (TT G b a) (TT G a b) then (TT G b a, some (TT G a b)) else (TT G a b, some (TT G b a))
  | [] => (.var 0, none)
def WhAt (P : Nat → Prop) (h : AH) (w : Nat) : Wh → Prop
  | (t, none) => ∃ r, P w ∧ h.F w = (8, [vR (some r)]) ∧ BrA P h r t
  | (t, some u) => ∃ r q, P w ∧ h.F w = (9, [vR (some r), vR (some q)]) ∧ BrA P h r t ∧ BrA P h q u
theorem WhAt.to {P P' : Nat → Prop} {h H : AH} {w : Nat} {W : Wh} (k : WhAt P h w W) (hk : ∀ a, P a → P' a ∧ H.R a = h.R a ∧ H.F a = h.F a) : WhAt P' H w W := by
  obtain ⟨t, o⟩ := W
  cases o with
  | none =>
    obtain ⟨r, k1, k2, k3⟩ := k
    exact ⟨r, (hk w k1).1, (hk w k1).2.2.trans k2, k3.to hk⟩
  | some u =>
    obtain ⟨r, q, k1, k2, k3, k4⟩ := k
    exact ⟨r, q, (hk w k1).1, (hk w k1).2.2.trans k2, k3.to hk, k4.to hk⟩
section WINIT
variable {d : Nat} {h : AH}
theorem recInit {w : Nat} : wp (d + 1) 39 (0, ent 1 [vR (some w)], [], h) (fun r h' => r = .inl none ∧ h' = h) := by
  refine wp.go [] 10 fun W C hW hC => ?_
  exact ⟨rfl, rfl⟩
theorem oneInit {w x : Nat} {v0 : AV} (HF : h.F w = (8, [v0])) : wp (d + 2) 427 (0, ent 2 [vR (some w), vR (some x)], [], h) (fun r h' => r = .inl none ∧ h' = h.setF w [vR (some x)]) := by
  refine wp.go [] 20 fun W C hW hC => ?_
  refine hC _ _ _ (useE (wpd.up (by omega) (recInit (d := 0))) ?_)
  refine ⟨_, _, _, HF, rfl, (Nat.le_of_ble_eq_true rfl), ?_⟩
  exact ⟨rfl, rfl⟩
theorem twoInit {w x y : Nat} {v0 v1 : AV} (HF : h.F w = (9, [v0, v1])) : wp (d + 2) 249 (0, ent 3 [vR (some w), vR (some x), vR (some y)], [], h) (fun r h' => r = .inl none ∧ h' = h.setF w [vR (some x), vR (some y)]) := by
  refine wp.go [] 20 fun W C hW hC => ?_
  refine hC _ _ _ (useE (wpd.up (by omega) (recInit (d := 0))) ?_)
  refine ⟨_, _, _, HF, rfl, (Nat.le_of_ble_eq_true rfl), ?_⟩
  refine ⟨_, _, _, setF_at HF, rfl, (Nat.le_of_ble_eq_true rfl), ?_⟩
  refine ⟨rfl, ?_⟩
  rw [setF_setF]
  rfl
end WINIT
section WHOLE
variable {d : Nat} {h : AH} {s : Nat} {G : Gr} {D : Nat → Nat → Nat}
theorem wh_loop1 (hS : SkAt h s G) (hG : G.wf) (hd : ∀ a, deg G a ≤ 4) (hD : Far G D) {c : Nat} (hc : c < G.1) (hcen : isCen G D c = true) (hno : ∀ i, i < c → isCen G D i = false) {Q : Rs → AH → Prop}
    (hQ : wp (d + 19) 231 (16, [some (vR (some s)), some (vI ((c : Nat) : Int)), none, none, none], [], h) Q) : ∀ (j i : Nat), j + i = c → wp (d + 19) 231 (2, [some (vR (some s)), some (vI ((i : Nat) : Int)), none, none, none], [], h) Q := by
  have hn := hG.2.1
  intro j
  induction j with
  | zero =>
    intro i hi
    obtain rfl : i = c := by omega
    refine wp.go [2, 16] 20 fun W C hW hC => ?_
    refine ⟨_, _, _, hS.2.1, rfl, ?_⟩
    refine hC _ _ _ (use (cisCen_spec (d := d) hS hG hd hD hc) ?_); rintro _ _ ⟨rfl, rfl⟩
    rw [hcen]
    exact ⟨fun _ => hW _ hQ, fun q => absurd q (by decide)⟩
  | succ j ih =>
    intro i hi
    refine wp.go [2, 16] 20 fun W C hW hC => ?_
    refine ⟨_, _, _, hS.2.1, rfl, ?_⟩
    refine hC _ _ _ (use (cisCen_spec (d := d) hS hG hd hD (show i < G.1 by omega)) ?_); rintro _ _ ⟨rfl, rfl⟩
    rw [hno i (by omega)]
    refine ⟨fun q => absurd rfl q, fun _ => ?_⟩
    (conv => whnf); simp (disch := omega) only [iadd_eq, isub_eq, imul_eq]
    exact hW _ (ih (i + 1) (by omega))
theorem wh_loop2 (hS : SkAt h s G) (hG : G.wf) (hd : ∀ a, deg G a ≤ 4) (hD : Far G D) {c e : Nat} (hc : e ≤ G.1) (hcen : e < G.1 → isCen G D e = true) (hno : ∀ i, c < i → i < e → isCen G D i = false) {Q : Rs → AH → Prop}
    (hQ : wp (d + 19) 231 (42, [some (vR (some s)), some (vI ((c : Nat) : Int)), some (vI ((e : Nat) : Int)), none, none], [], h) Q) : ∀ (j i : Nat), j + i = e → c < i → wp (d + 19) 231 (20, [some (vR (some s)), some (vI ((c : Nat) : Int)), some (vI ((i : Nat) : Int)), none, none], [], h) Q := by
  have hn := hG.2.1
  have k2 := hS.2.1
  intro j
  induction j with
  | zero =>
    intro i hi hci
    obtain rfl : i = e := by omega
    refine wp.go [20, 42] 20 fun W C hW hC => ?_
    refine ⟨_, _, _, _, k2, rfl, rfl, ?_⟩
    refine ⟨fun q => hW _ hQ, fun q => ?_⟩
    have hlt : i < G.1 := by omega
    refine ⟨_, _, _, k2, rfl, ?_⟩
    refine hC _ _ _ (use (cisCen_spec (d := d) hS hG hd hD hlt) ?_); rintro _ _ ⟨rfl, rfl⟩
    rw [hcen hlt]
    exact ⟨fun _ => hW _ hQ, fun q => absurd q (by decide)⟩
  | succ j ih =>
    intro i hi hci
    refine wp.go [20, 42] 20 fun W C hW hC => ?_
    refine ⟨_, _, _, _, k2, rfl, rfl, ?_⟩
    refine ⟨fun q => absurd q (by omega), fun q => ?_⟩
    refine ⟨_, _, _, k2, rfl, ?_⟩
    refine hC _ _ _ (use (cisCen_spec (d := d) hS hG hd hD (show i < G.1 by omega)) ?_); rintro _ _ ⟨rfl, rfl⟩
    rw [hno i hci (by omega)]
    refine ⟨fun q => absurd rfl q, fun _ => ?_⟩
    (conv => whnf); simp (disch := omega) only [iadd_eq, isub_eq, imul_eq]
    exact hW _ (ih (i + 1) (by omega) (by omega))
theorem whole_spec (hS : SkAt h s G) (hG : G.wf) (hd : ∀ a, deg G a ≤ 4) (hD : Far G D) : wp (d + 40) 231 (0, ent 5 [vR (some s)], [], h) (fun r h' => ∃ w, r = .inl (some (vR (some w))) ∧ ext 33 162 h h' ∧ WhAt (fun v => h.sz ≤ v ∧ v < h'.sz) h' w (whG G D)) := by
  have hn := hG.2.1
  rcases cens_cases hG hD with ⟨c, e, k1, k2⟩ | ⟨a, b, e, k1, k2, k3, k4, k5⟩
  · have hW0 : whG G D = (TT G 16 c, none) := by unfold whG; rw [e]
    have hno : ∀ i, i < G.1 → i ≠ c → isCen G D i = false := by
      intro i hi hne
      cases q : isCen G D i with
      | false => rfl
      | true =>
        have := cens_mem.mpr ⟨hi, q⟩
        rw [e] at this
        exact absurd (List.mem_singleton.mp this) hne
    rw [hW0]
    have hb := bszF_le hG hD (Or.inr rfl) k1
    have fin : wp (d + 21 + 19) 231 (42, [some (vR (some s)), some (vI ((c : Nat) : Int)), some (vI ((G.1 : Nat) : Int)), none, none], [], h) (fun r h' => ∃ w, r = .inl (some (vR (some w))) ∧ ext 33 162 h h' ∧ WhAt (fun v => h.sz ≤ v ∧ v < h'.sz) h' w (TT G 16 c, none)) := by
      have e1 : ext 1 1 h (h.newF 8 [vR none]) := ext_newF
      have hS1 : SkAt (h.newF 8 [vR none]) s G := hS.mono e1
      have call := branch_spec (d := 0) hG hd hD 16 16 c _ hS1 (by omega) (Or.inr rfl) k1
      rw [show frI 16 = -1 from if_pos rfl] at call
      refine wp.go [] 30 fun W C hW hC => ?_
      refine ⟨_, _, _, _, hS.2.1, rfl, rfl, ?_⟩
      refine ⟨fun q => absurd rfl q, fun _ => ?_⟩
      refine ⟨_, _, _, hS1.2.1, rfl, ?_⟩
      refine hC _ _ _ (use (wpd.up (by omega) (call)) ?_)
      rintro _ H ⟨x, rfl, e2, bx⟩
      have s1 := e2.1
      have s1 : h.sz + 1 ≤ H.sz := s1
      have hF : H.F h.sz = (8, [vR none]) := by rw [(e2.2.2.2.2.1 h.sz (by show h.sz < h.sz + 1; omega)).2.2]; exact newF_at
      refine hC _ _ _ (useE (wpd.up (by omega) (oneInit (d := 0) hF)) ?_)
      refine ⟨h.sz, rfl, ext.setF ((e1.trans e2).more (by omega) (by omega)) (Nat.le_refl _), x, ⟨Nat.le_refl _, by show h.sz < H.sz; omega⟩, setF_at hF, bx.to fun v hv => ?_⟩
      have hv1 : h.sz + 1 ≤ v := hv.1
      exact ⟨⟨by omega, hv.2⟩, rfl, setF_ne (by omega)⟩
    have l2 := wh_loop2 (d := d + 21) hS hG hd hD (c := c) (e := G.1) (Nat.le_refl _) (fun q => absurd q (by omega)) (fun i h1 h2 => hno i h2 (by omega)) fin (G.1 - (c + 1)) (c + 1) (by omega) (by omega)
    refine wp.go [2] 10 fun W C hW hC => ?_
    refine hW _ (wh_loop1 (d := d + 21) hS hG hd hD k1 k2 (fun i hi => hno i (by omega) (by omega)) ?_ c 0 (by omega))
    refine wp.go [20] 10 fun W C hW hC => ?_
    (conv => whnf); simp (disch := omega) only [iadd_eq, isub_eq, imul_eq]
    exact hW _ l2
  · have hW0 : whG G D = if 0 ≤ cmpT (TT G b a) (TT G a b) then (TT G b a, some (TT G a b)) else (TT G a b, some (TT G b a)) := by unfold whG; rw [e]
    have hno : ∀ i, i < G.1 → i ≠ a → i ≠ b → isCen G D i = false := by
      intro i hi hne hne2
      cases q : isCen G D i with
      | false => rfl
      | true =>
        have := cens_mem.mpr ⟨hi, q⟩
        rw [e] at this
        simp at this
        omega
    have k3' := (hG.2.2 _ _ k3).2.2.1
    have hb := bsz_both hG hD k3
    have hb1 : bszF G D b a = bsz G D b a := (bsz_eq hG hD k3').symm
    have hb2 : bszF G D a b = bsz G D a b := (bsz_eq hG hD k3).symm
    have fin : wp (d + 21 + 19) 231 (42, [some (vR (some s)), some (vI ((a : Nat) : Int)), some (vI ((b : Nat) : Int)), none, none], [], h) (fun r h' => ∃ w, r = .inl (some (vR (some w))) ∧ ext 33 162 h h' ∧ WhAt (fun v => h.sz ≤ v ∧ v < h'.sz) h' w (whG G D)) := by
      have call := branch_spec (d := 0) hG hd hD 16 b a _ hS (by omega) (Or.inl k3') (by omega)
      rw [show frI b = ((b : Nat) : Int) from if_neg (by omega), hb1] at call
      refine wp.go [] 50 fun W C hW hC => ?_
      refine ⟨_, _, _, _, hS.2.1, rfl, rfl, ?_⟩
      refine ⟨fun _ => ?_, fun q => absurd q (by omega)⟩
      refine ⟨_, _, _, hS.2.1, rfl, ?_⟩
      refine hC _ _ _ (use (wpd.up (by omega) (call)) ?_)
      rintro _ H ⟨x, rfl, e1, bx⟩
      have hS1 := hS.mono e1
      have call2 := branch_spec (d := 0) hG hd hD 16 a b _ hS1 (by omega) (Or.inl k3) k2
      rw [show frI a = ((a : Nat) : Int) from if_neg (by omega), hb2] at call2
      refine ⟨_, _, _, hS1.2.1, rfl, ?_⟩
      refine hC _ _ _ (use (wpd.up (by omega) (call2)) ?_)
      rintro _ H2 ⟨y, rfl, e2, bY⟩
      have s1 := e1.1
      have s2 := e2.1
      have bx2 : BrA (fun v => h.sz ≤ v ∧ v < H2.sz) H2 x (TT G b a) := bx.to fun v hv => ⟨⟨hv.1, by omega⟩, (e2.2.2.2.2.1 v hv.2).2⟩
      have bY2 : BrA (fun v => h.sz ≤ v ∧ v < H2.sz) H2 y (TT G a b) := bY.to fun v hv => ⟨⟨by omega, hv.2⟩, rfl, rfl⟩
      have o1 : OAt H2 (some x) (some (TT G b a)) := ⟨bx2.at fun v hv => hv.2, TT_ok G b a, by rw [TT_sz hG hD _ _ k3']; omega⟩
      have o2 : OAt H2 (some y) (some (TT G a b)) := ⟨bY2.at fun v hv => hv.2, TT_ok G a b, by rw [TT_sz hG hD _ _ k3]; omega⟩
      refine ⟨_, _, _, o1.1.choose_spec.choose_spec.2.1, rfl, ?_⟩
      refine hC _ _ _ (useE (wpd.up (by omega) (cmp16 (d := 0) o1 o2)) ?_)
      refine ⟨fun q => ?_, fun q => ?_⟩
      · refine hC _ _ _ (useE (wpd.up (by omega) (twoInit (d := 0) (newF_at (h := H2) (t := 9) (x := [vR none, vR none])))) ?_)
        rw [hW0, if_neg (by omega)]
        refine ⟨H2.sz, rfl, ext.setF (((e1.trans e2).trans (ext_newF (t := 9) (x := [vR none, vR none]))).more (by omega) (by show _ + 2 ≤ _; omega)) (by omega), y, x, ⟨by omega, by show H2.sz < H2.sz + 1; omega⟩, setF_at newF_at, bY2.to fun v hv => ⟨⟨hv.1, by show v < H2.sz + 1; omega⟩, rfl, ?_⟩, bx2.to fun v hv => ⟨⟨hv.1, by show v < H2.sz + 1; omega⟩, rfl, ?_⟩⟩
        · rw [setF_ne (by omega)]; exact newF_ne (by omega)
        · rw [setF_ne (by omega)]; exact newF_ne (by omega)
      · refine hC _ _ _ (useE (wpd.up (by omega) (twoInit (d := 0) (newF_at (h := H2) (t := 9) (x := [vR none, vR none])))) ?_)
        rw [hW0, if_pos q]
        refine ⟨H2.sz, rfl, ext.setF (((e1.trans e2).trans (ext_newF (t := 9) (x := [vR none, vR none]))).more (by omega) (by show _ + 2 ≤ _; omega)) (by omega), x, y, ⟨by omega, by show H2.sz < H2.sz + 1; omega⟩, setF_at newF_at, bx2.to fun v hv => ⟨⟨hv.1, by show v < H2.sz + 1; omega⟩, rfl, ?_⟩, bY2.to fun v hv => ⟨⟨hv.1, by show v < H2.sz + 1; omega⟩, rfl, ?_⟩⟩
        · rw [setF_ne (by omega)]; exact newF_ne (by omega)
        · rw [setF_ne (by omega)]; exact newF_ne (by omega)
    have l2 := wh_loop2 (d := d + 21) hS hG hd hD (c := a) (e := b) (by omega) (fun _ => k5) (fun i h1 h2 => hno i (by omega) (by omega) (by omega)) fin (b - (a + 1)) (a + 1) (by omega) (by omega)
    refine wp.go [2] 10 fun W C hW hC => ?_
    refine hW _ (wh_loop1 (d := d + 21) hS hG hd hD (c := a) (by omega) k4 (fun i hi => hno i (by omega) (by omega) (by omega)) ?_ a 0 (by omega))
    refine wp.go [20] 10 fun W C hW hC => ?_
    (conv => whnf); simp (disch := omega) only [iadd_eq, isub_eq, imul_eq]
    exact hW _ l2
end WHOLE
