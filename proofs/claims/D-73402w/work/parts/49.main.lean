theorem kt_inl (q : Nat) (L : Ls) (r : List AV) (v : Option AV) (h : AH) : kt q L r (.inl v) h = .inl (nxr q L r v h) := by cases v <;> rfl
theorem kx_inl (hd : Option Nat) (q : Nat) (L : Ls) (r : List AV) (v : Option AV) (h : AH) : kx hd q L r (.inl v) h = .inl (nxr q L r v h) := by cases v <;> rfl
theorem kt_kx {hd : Option Nat} {q q2 : Nat} {L L2 : Ls} {r r2 : List AV} (h : kt q L r = kx hd q2 L2 r2) : False := by
  have h6 : ∀ t : Nat, kt q L r (.inr 0) (0, 0, fun _ => (0, []), fun _ => (0, []), fun _ => (t, []), fun _ => none) = kx hd q2 L2 r2 (.inr 0) (0, 0, fun _ => (0, []), fun _ => (0, []), fun _ => (t, []), fun _ => none) := fun t => by rw [h]
  cases hd with
  | none => exact Sum.inl_ne_inr (h6 0)
  | some t =>
    have e1 := Sum.inl.inj (h6 6)
    have e2 : L2 = [] := by have := congrArg (fun x : St => x.2.1) e1; exact this.symm
    have e3 : ([] : List AV) = [vR (some 0)] := congrArg (fun x : St => x.2.2.1) e1
    cases e3
theorem kx_kx {hd hd2 : Option Nat} {q q2 : Nat} {L L2 : Ls} {r r2 : List AV} (h : kx hd q L r = kx hd2 q2 L2 r2) : hd = hd2 := by
  have h6 : kx hd q L r (.inr 0) (0, 0, fun _ => (0, []), fun _ => (0, []), fun _ => (6, []), fun _ => none) = kx hd2 q2 L2 r2 (.inr 0) (0, 0, fun _ => (0, []), fun _ => (0, []), fun _ => (6, []), fun _ => none) := by rw [h]
  cases hd with
  | none =>
    cases hd2 with
    | none => rfl
    | some t => exact (Sum.inr_ne_inl h6).elim
  | some t =>
    cases hd2 with
    | none => exact (Sum.inl_ne_inr h6).elim
    | some t2 =>
      have e1 := congrArg (fun x : St => x.1) (Sum.inl.inj h6)
      exact congrArg some e1
/-- the bodies that a state of the abstract machine stands for: they end so -/
def Bodies (l : Launch) (D : GD) (X : State → Prop) (N : MI) (d z : Nat) (t : St) (r : Rs) (hf : AH) : Prop :=
  ∀ (p : Program) (e : Env) (s : State) (m : MethodId) (args : Array Value) (below : List Frame) (meth : Method) (c : Code) (z0 l0 : Nat) (R : Room), Cx D X (N z).1 (N z).2.1 (N z).2.2.1 (N z).2.2.2 p s m args meth c → d + 2 ≤ R.frames → 100 * (d + 2) ≤ R.locals → hf.sz - z0 ≤ R.cells → hf.sl - l0 ≤ R.slots → z0 ≤ t.2.2.2.sz → l0 ≤ t.2.2.2.sl → MW p l e R s m args below meth c (ME below (QE D r hf (hf.sz - z0) (hf.sl - l0)) args s) D (N z).2.2.1 z0 l0 t
set_option maxHeartbeats 4000000 in
theorem sound_step {l : Launch} {D : GD} {X : State → Prop} {N : MI} {P : Prg} {mL : Nat → Nat} {G : Nat → Prop} {d z : Nat} (hz : GoodT l D X N P G z)
    (ih : ∀ z', G z' → ∀ (as : List AV) (h : AH) (Q' : Rs → AH → Prop), aok (mL z') as = true → wpd P mL d z' (0, ent (mL z') as, [], h) Q' → WF h → ∃ r h', Q' r h' ∧ WF h' ∧ h.sz ≤ h'.sz ∧ h.sl ≤ h'.sl ∧ MetA l D X N d z' as h r h')
    {t : St} {Q' : Rs → AH → Prop} (hwp : wpd P mL (d + 1) z t Q') (hwf : WF t.2.2.2) : ∃ r hf, Q' r hf ∧ WF hf ∧ t.2.2.2.sz ≤ hf.sz ∧ t.2.2.2.sl ≤ hf.sl ∧ Bodies l D X N d z t r hf := by
  obtain ⟨g3, g4, g5, g7⟩ := hz
  have key := hwp (fun t => WF t.2.2.2 → t.1 ≠ 99999 ∧ ∃ r hf, Q' r hf ∧ WF hf ∧ t.2.2.2.sz ≤ hf.sz ∧ t.2.2.2.sl ≤ hf.sl ∧ Bodies l D X N d z t r hf) ?_ hwf
  · exact key.2
  · intro t ht hw
    obtain ⟨pc, L, st, hh⟩ := t
    obtain ⟨o, h1, h2⟩ := ht hw
    have hw : WF hh := hw
    have h1 : P z pc L st hh (fun o' => o' = o) := h1
    have wf := g3 pc L st hh o hw h1
    refine ⟨fun e0 => ?_, ?_⟩
    · have e0 : pc = 99999 := e0
      rw [e0, g4] at h1
      exact h1
    · rcases o with t' | ⟨r, h'⟩ | ⟨z', as', h', k⟩
      · obtain ⟨w1, w2, w3⟩ := wf
        obtain ⟨-, v, hf, a1, a2, a3, a4, a5⟩ := h2 w1
        refine ⟨v, hf, a1, a2, Nat.le_trans w2 a3, Nat.le_trans w3 a4, fun p e s m args below meth c z0 l0 R hc hR1 hR2 hR3 hR4 hz0 hl0 => ?_⟩
        have hz0 : z0 ≤ hh.sz := hz0
        have hl0 : l0 ≤ hh.sl := hl0
        rcases g7 d pc p e R s m args below meth c z0 l0 hc hR1 hR2 with hN | hC | hR | hT | hXX
        · obtain ⟨q, L', st', h'', eq, b1, b2, b3, step⟩ := hN _ L st hh _ hw hz0 hl0 h1
          cases eq
          exact step (Nat.le_trans (Nat.sub_le_sub_right a3 _) hR3) (Nat.le_trans (Nat.sub_le_sub_right a4 _) hR4) (a5 p e s m args below meth c z0 l0 R hc hR1 hR2 hR3 hR4 (Nat.le_trans hz0 b2) (Nat.le_trans hl0 b3))
        · obtain ⟨_, _, _, _, eq, _⟩ := hC (fun _ => True) L st hh _ hw hz0 hl0 h1
          cases eq
        · obtain ⟨_, eq, _⟩ := hR L st hh _ hw h1
          cases eq
        · obtain ⟨_, eq, _⟩ := hT L st hh _ hw h1
          cases eq
        · obtain ⟨_, _, _, _, _, eq, _⟩ := hXX L st hh _ hw hz0 hl0 h1
          cases eq
      · have wf : h' = hh := wf
        subst wf
        refine ⟨r, h', h2, hw, Nat.le_refl _, Nat.le_refl _, fun p e s m args below meth c z0 l0 R hc hR1 hR2 hR3 hR4 hz0 hl0 => ?_⟩
        have hz0 : z0 ≤ h'.sz := hz0
        have hl0 : l0 ≤ h'.sl := hl0
        rcases g7 d pc p e R s m args below meth c z0 l0 hc hR1 hR2 with hN | hC | hR | hT | hXX
        · obtain ⟨_, _, _, _, eq, _⟩ := hN (fun _ => True) L st h' _ hw hz0 hl0 h1
          cases eq
        · obtain ⟨_, _, _, _, eq, _⟩ := hC (fun _ => True) L st h' _ hw hz0 hl0 h1
          cases eq
        · obtain ⟨v', eq, mw⟩ := hR L st h' _ hw h1
          cases eq
          exact mw
        · obtain ⟨v', eq, mw⟩ := hT L st h' _ hw h1
          cases eq
          exact mw
        · obtain ⟨_, _, _, _, _, eq, _⟩ := hXX L st h' _ hw hz0 hl0 h1
          cases eq
      · obtain ⟨e1, wk⟩ := wf
        have e1 : h' = hh := e1
        subst e1
        have hGz := g5 pc L st h' z' as' h' _ h1
        unfold Kt at h2
        dsimp only at h2
        cases hok : aok (mL z') as' with
        | false => rw [hok] at h2; exact h2.elim
        | true =>
          rw [hok] at h2
          obtain ⟨v1, hm, c1, c2, c3, c4, hM⟩ := ih z' hGz as' h' _ hok h2 hw
          rcases wk with ⟨q, L1, r, rfl⟩ | ⟨hd, q, L1, r, rfl⟩
          · rcases v1 with v1 | ax
            · rw [kt_inl] at c1
              have hwm : WF (nxr q L1 r v1 hm).2.2.2 := by cases v1 <;> exact c2
              have hsz : (nxr q L1 r v1 hm).2.2.2 = hm := by cases v1 <;> rfl
              obtain ⟨-, v, hf, a1, a2, a3, a4, a5⟩ := c1 hwm
              rw [hsz] at a3 a4
              refine ⟨v, hf, a1, a2, Nat.le_trans c3 a3, Nat.le_trans c4 a4, fun p e s m args below meth c z0 l0 R hc hR1 hR2 hR3 hR4 hz0 hl0 => ?_⟩
              have hz0 : z0 ≤ h'.sz := hz0
              have hl0 : l0 ≤ h'.sl := hl0
              rcases g7 d pc p e R s m args below meth c z0 l0 hc hR1 hR2 with hN | hC | hR | hT | hXX
              · obtain ⟨_, _, _, _, eq, _⟩ := hN (fun _ => True) L st h' _ hw hz0 hl0 h1
                cases eq
              · obtain ⟨z2, as2, r2, q2, eq, step⟩ := hC _ L st h' _ hw hz0 hl0 h1
                have eq2 := Sum.inr.inj (Sum.inr.inj eq)
                rw [Prod.mk.injEq, Prod.mk.injEq, Prod.mk.injEq] at eq2
                obtain ⟨rfl, rfl, -, ek⟩ := eq2
                have en : nxr q L1 r v1 hm = nxr q2 L r2 v1 hm := by
                  have := congrFun (congrFun ek (.inl v1)) hm
                  rw [kt_inl, kt_inl] at this
                  exact Sum.inl.inj this
                have mw := a5 p e s m args below meth c z0 l0 R hc hR1 hR2 hR3 hR4 (by rw [hsz]; exact Nat.le_trans hz0 c3) (by rw [hsz]; exact Nat.le_trans hl0 c4)
                rw [en] at mw
                exact step v1 hm c3 c4 (Nat.le_trans (Nat.sub_le_sub_right a3 _) hR3) (Nat.le_trans (Nat.sub_le_sub_right a4 _) hR4) hM mw
              · obtain ⟨_, eq, _⟩ := hR L st h' _ hw h1
                cases eq
              · obtain ⟨_, eq, _⟩ := hT L st h' _ hw h1
                cases eq
              · obtain ⟨z2, as2, r2, q2, hd2, eq, -⟩ := hXX L st h' _ hw hz0 hl0 h1
                have eq2 := Sum.inr.inj (Sum.inr.inj eq)
                rw [Prod.mk.injEq, Prod.mk.injEq, Prod.mk.injEq] at eq2
                obtain ⟨rfl, rfl, -, ek⟩ := eq2
                exact absurd (kt_kx ek) id
            · have c1 : WF hm → 99999 ≠ 99999 ∧ _ := c1
              exact absurd rfl (c1 c2).1
          · rcases v1 with v1 | ax
            · rw [kx_inl] at c1
              have hwm : WF (nxr q L1 r v1 hm).2.2.2 := by cases v1 <;> exact c2
              have hsz : (nxr q L1 r v1 hm).2.2.2 = hm := by cases v1 <;> rfl
              obtain ⟨-, v, hf, a1, a2, a3, a4, a5⟩ := c1 hwm
              rw [hsz] at a3 a4
              refine ⟨v, hf, a1, a2, Nat.le_trans c3 a3, Nat.le_trans c4 a4, fun p e s m args below meth c z0 l0 R hc hR1 hR2 hR3 hR4 hz0 hl0 => ?_⟩
              have hz0 : z0 ≤ h'.sz := hz0
              have hl0 : l0 ≤ h'.sl := hl0
              rcases g7 d pc p e R s m args below meth c z0 l0 hc hR1 hR2 with hN | hC | hR | hT | hXX
              · obtain ⟨_, _, _, _, eq, _⟩ := hN (fun _ => True) L st h' _ hw hz0 hl0 h1
                cases eq
              · obtain ⟨z2, as2, r2, q2, eq, -⟩ := hC (fun _ => True) L st h' _ hw hz0 hl0 h1
                have eq2 := Sum.inr.inj (Sum.inr.inj eq)
                rw [Prod.mk.injEq, Prod.mk.injEq, Prod.mk.injEq] at eq2
                obtain ⟨rfl, rfl, -, ek⟩ := eq2
                exact absurd (kt_kx ek.symm) id
              · obtain ⟨_, eq, _⟩ := hR L st h' _ hw h1
                cases eq
              · obtain ⟨_, eq, _⟩ := hT L st h' _ hw h1
                cases eq
              · obtain ⟨z2, as2, r2, q2, hd2, eq, step, -, -⟩ := hXX L st h' _ hw hz0 hl0 h1
                have eq2 := Sum.inr.inj (Sum.inr.inj eq)
                rw [Prod.mk.injEq, Prod.mk.injEq, Prod.mk.injEq] at eq2
                obtain ⟨rfl, rfl, -, ek⟩ := eq2
                have en : nxr q L1 r v1 hm = nxr q2 L r2 v1 hm := by
                  have := congrFun (congrFun ek (.inl v1)) hm
                  rw [kx_inl, kx_inl] at this
                  exact Sum.inl.inj this
                have mw := a5 p e s m args below meth c z0 l0 R hc hR1 hR2 hR3 hR4 (by rw [hsz]; exact Nat.le_trans hz0 c3) (by rw [hsz]; exact Nat.le_trans hl0 c4)
                rw [en] at mw
                exact step _ v1 hm c3 c4 (Nat.le_trans (Nat.sub_le_sub_right a3 _) hR3) (Nat.le_trans (Nat.sub_le_sub_right a4 _) hR4) hM mw
            · cases hd with
              | none =>
                refine ⟨.inr ax, hm, c1, c2, c3, c4, fun p e s m args below meth c z0 l0 R hc hR1 hR2 hR3 hR4 hz0 hl0 => ?_⟩
                have hz0 : z0 ≤ h'.sz := hz0
                have hl0 : l0 ≤ h'.sl := hl0
                rcases g7 d pc p e R s m args below meth c z0 l0 hc hR1 hR2 with hN | hC | hR | hT | hXX
                · obtain ⟨_, _, _, _, eq, _⟩ := hN (fun _ => True) L st h' _ hw hz0 hl0 h1
                  cases eq
                · obtain ⟨z2, as2, r2, q2, eq, -⟩ := hC (fun _ => True) L st h' _ hw hz0 hl0 h1
                  have eq2 := Sum.inr.inj (Sum.inr.inj eq)
                  rw [Prod.mk.injEq, Prod.mk.injEq, Prod.mk.injEq] at eq2
                  obtain ⟨rfl, rfl, -, ek⟩ := eq2
                  exact absurd (kt_kx ek.symm) id
                · obtain ⟨_, eq, _⟩ := hR L st h' _ hw h1
                  cases eq
                · obtain ⟨_, eq, _⟩ := hT L st h' _ hw h1
                  cases eq
                · obtain ⟨z2, as2, r2, q2, hd2, eq, -, step, -⟩ := hXX L st h' _ hw hz0 hl0 h1
                  have eq2 := Sum.inr.inj (Sum.inr.inj eq)
                  rw [Prod.mk.injEq, Prod.mk.injEq, Prod.mk.injEq] at eq2
                  obtain ⟨rfl, rfl, -, ek⟩ := eq2
                  exact step ax hm (kx_kx ek).symm c3 c4 hR3 hR4 hM
              | some tt =>
                cases e6 : Nat.beq (hm.F ax).1 6 with
                | false =>
                  have ek : kx (some tt) q L1 r (.inr ax) hm = .inl (99999, [], [], hm) := by unfold kx; simp only [e6]; rfl
                  rw [ek] at c1
                  exact absurd rfl (c1 c2).1
                | true =>
                  have ek : kx (some tt) q L1 r (.inr ax) hm = .inl (tt, L1, [vR (some ax)], hm) := by unfold kx; simp only [e6]; rfl
                  rw [ek] at c1
                  obtain ⟨-, v, hf, a1, a2, a3, a4, a5⟩ := c1 c2
                  refine ⟨v, hf, a1, a2, Nat.le_trans c3 a3, Nat.le_trans c4 a4, fun p e s m args below meth c z0 l0 R hc hR1 hR2 hR3 hR4 hz0 hl0 => ?_⟩
                  have hz0 : z0 ≤ h'.sz := hz0
                  have hl0 : l0 ≤ h'.sl := hl0
                  rcases g7 d pc p e R s m args below meth c z0 l0 hc hR1 hR2 with hN | hC | hR | hT | hXX
                  · obtain ⟨_, _, _, _, eq, _⟩ := hN (fun _ => True) L st h' _ hw hz0 hl0 h1
                    cases eq
                  · obtain ⟨z2, as2, r2, q2, eq, -⟩ := hC (fun _ => True) L st h' _ hw hz0 hl0 h1
                    have eq2 := Sum.inr.inj (Sum.inr.inj eq)
                    rw [Prod.mk.injEq, Prod.mk.injEq, Prod.mk.injEq] at eq2
                    obtain ⟨rfl, rfl, -, ek⟩ := eq2
                    exact absurd (kt_kx ek.symm) id
                  · obtain ⟨_, eq, _⟩ := hR L st h' _ hw h1
                    cases eq
                  · obtain ⟨_, eq, _⟩ := hT L st h' _ hw h1
                    cases eq
                  · obtain ⟨z2, as2, r2, q2, hd2, eq, -, -, step⟩ := hXX L st h' _ hw hz0 hl0 h1
                    have eq2 := Sum.inr.inj (Sum.inr.inj eq)
                    rw [Prod.mk.injEq, Prod.mk.injEq, Prod.mk.injEq] at eq2
                    obtain ⟨rfl, rfl, -, ek2⟩ := eq2
                    have eh := kx_kx ek2
                    subst eh
                    have ek3 : kx (some tt) q2 L r2 (.inr ax) hm = .inl (tt, L, [vR (some ax)], hm) := by unfold kx; simp only [e6]; rfl
                    have eL : (tt, L1, [vR (some ax)], hm) = (tt, L, [vR (some ax)], hm) := Sum.inl.inj (ek.symm.trans ((congrFun (congrFun ek2 (.inr ax)) hm).trans ek3))
                    have mw := a5 p e s m args below meth c z0 l0 R hc hR1 hR2 hR3 hR4 (Nat.le_trans hz0 c3) (Nat.le_trans hl0 c4)
                    rw [eL] at mw
                    exact step _ ax hm tt rfl (Nat.eq_of_beq_eq_true e6) c3 c4 (Nat.le_trans (Nat.sub_le_sub_right a3 _) hR3) (Nat.le_trans (Nat.sub_le_sub_right a4 _) hR4) hM mw
/-- what the abstract machine comes to, the real one does: a method's contract out of its 'wpd' -/
theorem sound {l : Launch} {D : GD} {X : State → Prop} {N : MI} {P : Prg} {mL : Nat → Nat} {G : Nat → Prop} (hX : Xok X) (hG : Good l D X N P mL G) :
    ∀ (d z : Nat), G z → ∀ (as : List AV) (h : AH) (Q' : Rs → AH → Prop), aok (mL z) as = true → wpd P mL d z (0, ent (mL z) as, [], h) Q' → WF h → ∃ r h', Q' r h' ∧ WF h' ∧ h.sz ≤ h'.sz ∧ h.sl ≤ h'.sl ∧ MetA l D X N d z as h r h' := by
  intro d
  induction d with
  | zero =>
    intro z hz as h Q' ha hw
    exact hw.elim
  | succ d ih =>
    intro z hz as h Q' ha hwp hwf
    obtain ⟨g1, g2, gc, gt⟩ := hG z hz
    obtain ⟨r, hf, a1, a2, a3, a4, a5⟩ := sound_step gt ih hwp hwf
    refine ⟨r, hf, a1, a2, a3, a4, ?_⟩
    refine MetE.ofW (cc := (N z).2.1) (maxL := (N z).2.2.1) (ret := (N z).2.2.2) g2 ?_ ?_
    · intro args s m hpre hn
      have hts := atoms_spec (ws := lw_all) hpre
      rcases gc with gc | ⟨hs, gc⟩
      · obtain ⟨meth, c, k1, k2, k3, k4, k5, k6, -, -⟩ := Cond.code_spec hn (hts _ gc)
        exact ⟨meth, c, k1, k2, k3, k4, k5, k6⟩
      · obtain ⟨m', meth, c, k0, k1, k2, k3, k4, -, k5, k6, -⟩ := Cond.codeWith_spec (hts _ gc)
        cases k0.symm.trans hn
        exact ⟨meth, c, k1, k2, k3, k4, k5, k6⟩
    · intro p e s m args below meth c Bx Bb hml Bn Br Bl Bm Bp hv
      obtain ⟨⟨vs, rfl, hvs⟩, hrl, hKB, hXs⟩ := hv
      have hts := atoms_spec (ws := lw_all) Bp
      have hc : Cx D X (N z).1 (N z).2.1 (N z).2.2.1 (N z).2.2.2 p s m vs.toArray meth c := ⟨Bx, Bb, hml, findClass_of_methodNamed Bn, hts, hKB, hXs, Br, Bl, (name_of_methodNamed Bn Bm).1, Bn⟩
      rw [lg_entry_eq]
      subst hvs
      have hw := a5 p e s m vs.toArray below meth c h.sz h.sl (rmD (d + 1) (hf.sz - h.sz) (hf.sl - h.sl)) hc (Nat.le_refl _) (Nat.le_refl _) (Nat.le_refl _) (Nat.le_refl _) (Nat.le_refl _) (Nat.le_refl _) s.heap _ [] [] hrl (by rw [g1]; exact entry_rel ha) rfl (fun q hq => nomatch hq)
      have hw : W p l e (rmD (d + 1) (hf.sz - h.sz) (hf.sl - h.sl)) s m vs.toArray below meth c s.heap [] (h.sz - h.sz) (h.sl - h.sl) (ME below (QE D r hf (hf.sz - h.sz) (hf.sl - h.sl)) vs.toArray s) (F0 m 0 ((lg_sl vs ++ List.replicate (mL z - (lg_sl vs).length) Slot.unset).toArray) []) := hw
      rw [Nat.sub_self, Nat.sub_self, ← g1] at hw
      exact hw
