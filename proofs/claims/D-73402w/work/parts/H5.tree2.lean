/-! SEARCH TREES of the library: entries in the heap, small deeds, rotations (printed by tools/mkH5.py) -/
abbrev entF (K : Nat → Option Nat × Option Nat) (M : Mp) (C : Nat → Int) (a : Nat) : List AV := [vR (K a).1, vR (K a).2, vR (M a).1, vR (M a).2.1, vR (M a).2.2, vI (C a)]
abbrev tmL (v1 root : Option Nat) (sz : Nat) (mc : Int) : List AV := [vR none, vR v1, vR none, vR root, vI ((sz : Nat) : Int), vI mc, vR none, vR none, vR none]
def TM (h : AH) (tm : Nat) (D : Nat → Prop) (K : Nat → Option Nat × Option Nat) (M : Mp) (C : Nat → Int) (v1 root : Option Nat) (sz : Nat) (mc : Int) : Prop := (∀ a, D a → h.F a = (15, entF K M C a)) ∧ h.F tm = (12, tmL v1 root sz mc) ∧ ¬ D tm
/-- only the entries and the map have changed -/
def tmO (D : Nat → Prop) (tm : Nat) (h h' : AH) : Prop := h'.sz = h.sz ∧ h'.sl = h.sl ∧ h'.S = h.S ∧ h'.I = h.I ∧ h'.R = h.R ∧ ∀ a, ¬ D a → a ≠ tm → h'.F a = h.F a
theorem tmO.refl {D : Nat → Prop} {tm : Nat} {h : AH} : tmO D tm h h := ⟨rfl, rfl, rfl, rfl, rfl, fun _ _ _ => rfl⟩
theorem tmO.trans {D : Nat → Prop} {tm : Nat} {h h1 h2 : AH} (a : tmO D tm h h1) (b : tmO D tm h1 h2) : tmO D tm h h2 := ⟨b.1.trans a.1, b.2.1.trans a.2.1, b.2.2.1.trans a.2.2.1, b.2.2.2.1.trans a.2.2.2.1, b.2.2.2.2.1.trans a.2.2.2.2.1, fun x h1 h2 => (b.2.2.2.2.2 x h1 h2).trans (a.2.2.2.2.2 x h1 h2)⟩
theorem tmO.setF {D : Nat → Prop} {tm a : Nat} {h h1 : AH} {x : List AV} (k : tmO D tm h h1) (ha : D a ∨ a = tm) : tmO D tm h (h1.setF a x) := ⟨k.1, k.2.1, k.2.2.1, k.2.2.2.1, k.2.2.2.2.1, fun b h1 h2 => (setF_ne (fun w => by subst w; rcases ha with q | q; exact h1 q; exact h2 q)).trans (k.2.2.2.2.2 b h1 h2)⟩
section TM1
variable {d tm : Nat} {h : AH} {D : Nat → Prop} {K : Nat → Option Nat × Option Nat} {M : Mp} {C : Nat → Int} {v1 root : Option Nat} {sz : Nat} {mc : Int}
theorem TM.setM {a : Nat} (k : TM h tm D K M C v1 root sz mc) (ha : D a) (m : Option Nat × Option Nat × Option Nat) : TM (h.setF a [vR (K a).1, vR (K a).2, vR m.1, vR m.2.1, vR m.2.2, vI (C a)]) tm D K (up M a m) C v1 root sz mc := by
  obtain ⟨k1, k2, k3⟩ := k
  refine ⟨fun b hb => ?_, (setF_ne (fun w => k3 (by rw [w]; exact ha))).trans k2, k3⟩
  by_cases q : b = a
  · subst q
    rw [setF_at (k1 b hb)]
    show _ = (15, [vR (K b).1, vR (K b).2, vR (up M b m b).1, vR (up M b m b).2.1, vR (up M b m b).2.2, vI (C b)])
    rw [up_eq]
  · rw [setF_ne q, k1 b hb]
    show (15, [_, _, vR (M b).1, vR (M b).2.1, vR (M b).2.2, _]) = (15, [_, _, vR (up M a m b).1, vR (up M a m b).2.1, vR (up M a m b).2.2, _])
    rw [upn_ne _ _ q]
theorem TM.setC {a : Nat} (k : TM h tm D K M C v1 root sz mc) (ha : D a) (c : Int) : TM (h.setF a [vR (K a).1, vR (K a).2, vR (M a).1, vR (M a).2.1, vR (M a).2.2, vI c]) tm D K M (up C a c) v1 root sz mc := by
  obtain ⟨k1, k2, k3⟩ := k
  refine ⟨fun b hb => ?_, (setF_ne (fun w => k3 (by rw [w]; exact ha))).trans k2, k3⟩
  by_cases q : b = a
  · subst q
    rw [setF_at (k1 b hb)]
    show _ = (15, [_, _, _, _, _, vI (up C b c b)])
    rw [up_eq]
  · rw [setF_ne q, k1 b hb]
    show (15, [_, _, _, _, _, vI (C b)]) = (15, [_, _, _, _, _, vI (up C a c b)])
    rw [upn_ne _ _ q]
theorem TM.setT (k : TM h tm D K M C v1 root sz mc) (v1' root' : Option Nat) (sz' : Nat) (mc' : Int) : TM (h.setF tm (tmL v1' root' sz' mc')) tm D K M C v1' root' sz' mc' := by
  obtain ⟨k1, k2, k3⟩ := k
  exact ⟨fun b hb => (setF_ne (fun w => k3 (by rw [← w]; exact hb))).trans (k1 b hb), setF_at k2, k3⟩
theorem par_spec {o v : Option Nat} (k : TM h tm D K M C v1 root sz mc) (hv : (o = none ∧ v = none) ∨ ∃ a, o = some a ∧ D a ∧ v = (M a).2.2) : wp (d + 1) 29 (0, ent 1 [vR o], [], h) (fun r h' => r = .inl (some (vR v)) ∧ h' = h) := by
  rcases hv with ⟨rfl, rfl⟩ | ⟨a, rfl, ha, rfl⟩
  · refine wp.go [] 10 fun W C0 hW hC => ?_
    exact ⟨rfl, rfl⟩
  · refine wp.go [] 10 fun W C0 hW hC => ?_
    refine ⟨_, _, _, _, k.1 a ha, rfl, rfl, ?_⟩
    exact ⟨rfl, rfl⟩
theorem lef_spec {o v : Option Nat} (k : TM h tm D K M C v1 root sz mc) (hv : (o = none ∧ v = none) ∨ ∃ a, o = some a ∧ D a ∧ v = (M a).1) : wp (d + 1) 30 (0, ent 1 [vR o], [], h) (fun r h' => r = .inl (some (vR v)) ∧ h' = h) := by
  rcases hv with ⟨rfl, rfl⟩ | ⟨a, rfl, ha, rfl⟩
  · refine wp.go [] 10 fun W C0 hW hC => ?_
    exact ⟨rfl, rfl⟩
  · refine wp.go [] 10 fun W C0 hW hC => ?_
    refine ⟨_, _, _, _, k.1 a ha, rfl, rfl, ?_⟩
    exact ⟨rfl, rfl⟩
theorem rig_spec {o v : Option Nat} (k : TM h tm D K M C v1 root sz mc) (hv : (o = none ∧ v = none) ∨ ∃ a, o = some a ∧ D a ∧ v = (M a).2.1) : wp (d + 1) 31 (0, ent 1 [vR o], [], h) (fun r h' => r = .inl (some (vR v)) ∧ h' = h) := by
  rcases hv with ⟨rfl, rfl⟩ | ⟨a, rfl, ha, rfl⟩
  · refine wp.go [] 10 fun W C0 hW hC => ?_
    exact ⟨rfl, rfl⟩
  · refine wp.go [] 10 fun W C0 hW hC => ?_
    refine ⟨_, _, _, _, k.1 a ha, rfl, rfl, ?_⟩
    exact ⟨rfl, rfl⟩
/-- colours are bits -/
abbrev c01 (D : Nat → Prop) (C : Nat → Int) : Prop := ∀ a, D a → C a = 0 ∨ C a = 1
theorem c01.up {a : Nat} {c : Int} (k : c01 D C) (hc : c = 0 ∨ c = 1) : c01 D (up C a c) := by
  intro b hb
  by_cases q : b = a
  · subst q; rw [up_eq]; exact hc
  · rw [upn_ne _ _ q]; exact k b hb
theorem col_spec {o : Option Nat} {v : Int} (k : TM h tm D K M C v1 root sz mc) (hc : c01 D C) (hv : (o = none ∧ v = 1) ∨ ∃ a, o = some a ∧ D a ∧ v = C a) : wp (d + 1) 32 (0, ent 1 [vR o], [], h) (gives h v) := by
  rcases hv with ⟨rfl, rfl⟩ | ⟨a, rfl, ha, rfl⟩
  · refine wp.go [] 10 fun W C0 hW hC => ?_
    exact ⟨Or.inr rfl, rfl, rfl⟩
  · refine wp.go [] 10 fun W C0 hW hC => ?_
    refine ⟨_, _, _, _, k.1 a ha, rfl, rfl, ?_⟩
    exact ⟨hc a ha, rfl, rfl⟩
theorem setC_spec {a : Nat} {c : Int} (k : TM h tm D K M C v1 root sz mc) (ha : D a) (hc : c = 0 ∨ c = 1) : wp (d + 1) 33 (0, ent 2 [vR (some a), vI c], [], h) (fun r h' => r = .inl none ∧ TM h' tm D K M (up C a c) v1 root sz mc ∧ tmO D tm h h') := by
  refine wp.go [] 10 fun W C0 hW hC => ?_
  refine ⟨_, _, _, k.1 a ha, rfl, (Nat.le_of_ble_eq_true rfl), hc, ?_⟩
  exact ⟨rfl, k.setC ha c, tmO.refl.setF (Or.inl ha)⟩
theorem rotL_spec {p r : Nat} (k : TM h tm D K M C v1 root sz mc) (hpD : D p) (hrD : D r) (hpr : p ≠ r) (hMp : (M p).2.1 = some r) (hb : ∀ b, (M r).1 = some b → D b ∧ b ≠ p ∧ b ≠ r) (hq : ∀ q, (M p).2.2 = some q → D q ∧ q ≠ p ∧ q ≠ r ∧ (M r).1 ≠ some q) : wp (d + 1) 34 (0, ent 3 [vR (some tm), vR (some p)], [], h) (fun r' h' => r' = .inl none ∧ TM h' tm D K (rotL M p r) C v1 (if (M p).2.2 = none then some r else root) sz mc ∧ tmO D tm h h') := by
  have hrp : r ≠ p := Ne.symm hpr
  -- the end: both turn
  have fin : ∀ (N : Mp) (H : AH) (root' : Option Nat), TM H tm D K N C v1 root' sz mc → tmO D tm h H → (if (M p).2.2 = none then some r else root) = root' → N p = ((M p).1, (M r).1, (M p).2.2) → N r = ((M r).1, (M r).2.1, (M p).2.2) → (∀ a, a ≠ p → a ≠ r → N a = rotL M p r a) → wp (d + 1) 34 (85, [some (vR (some tm)), some (vR (some p)), some (vR (some r))], [], H) (fun r' h' => r' = .inl none ∧ TM h' tm D K (rotL M p r) C v1 (if (M p).2.2 = none then some r else root) sz mc ∧ tmO D tm h h') := by
    intro N H root' kH oH hroot eP eR eO
    have t1 := kH.setM hrD (some p, (M r).2.1, (M p).2.2)
    obtain ⟨H1, e1⟩ : ∃ X, X = H.setF r ((entF K N C r).set 2 (vR (some p))) := ⟨_, rfl⟩
    have k1 : TM H1 tm D K (up N r (some p, (M r).2.1, (M p).2.2)) C v1 root' sz mc := by
      rw [e1, show (entF K N C r).set 2 (vR (some p)) = [vR (K r).1, vR (K r).2, vR ((some p, (M r).2.1, (M p).2.2) : Option Nat × Option Nat × Option Nat).1, vR ((some p, (M r).2.1, (M p).2.2) : Option Nat × Option Nat × Option Nat).2.1, vR ((some p, (M r).2.1, (M p).2.2) : Option Nat × Option Nat × Option Nat).2.2, vI (C r)] by show [_, _, _, _, _, _] = _; rw [eR]]
      exact t1
    have o1 : tmO D tm h H1 := by rw [e1]; exact oH.setF (Or.inl hrD)
    have eP1 : up N r (some p, (M r).2.1, (M p).2.2) p = N p := upn_ne _ _ hpr
    have t2 := k1.setM hpD ((M p).1, (M r).1, some r)
    refine wp.go [] 20 fun W C0 hW hC => ?_
    refine ⟨_, _, _, kH.1 r hrD, rfl, (Nat.le_of_ble_eq_true rfl), ?_⟩
    rw [← e1]
    refine ⟨_, _, _, k1.1 p hpD, rfl, (Nat.le_of_ble_eq_true rfl), ?_⟩
    rw [hroot, show (entF K (up N r (some p, (M r).2.1, (M p).2.2)) C p).set 4 (vR (some r)) = [vR (K p).1, vR (K p).2, vR (((M p).1, (M r).1, some r) : Option Nat × Option Nat × Option Nat).1, vR (((M p).1, (M r).1, some r) : Option Nat × Option Nat × Option Nat).2.1, vR (((M p).1, (M r).1, some r) : Option Nat × Option Nat × Option Nat).2.2, vI (C p)] by show [_, _, _, _, _, _] = _; rw [eP1, eP]]
    have eM : up (up N r (some p, (M r).2.1, (M p).2.2)) p ((M p).1, (M r).1, some r) = rotL M p r := by
      funext a
      by_cases q1 : a = p
      · subst q1
        rw [up_eq]
        exact (if_pos rfl).symm
      · rw [upn_ne _ _ q1]
        by_cases q2 : a = r
        · subst q2
          rw [up_eq]
          unfold rotL
          rw [if_neg q1, if_pos rfl]
        · rw [upn_ne _ _ q2]
          exact eO a q1 q2
    rw [eM] at t2
    exact ⟨rfl, t2, o1.setF (Or.inl hpD)⟩
  -- who is above p
  have mid : ∀ (N : Mp) (H : AH), TM H tm D K N C v1 root sz mc → tmO D tm h H → N p = ((M p).1, (M r).1, (M p).2.2) → N r = ((M r).1, (M r).2.1, (M r).2.2) → (∀ q, (M p).2.2 = some q → N q = M q) → (∀ a, a ≠ p → a ≠ r → (M p).2.2 ≠ some a → N a = rotL M p r a) → wp (d + 1) 34 (32, [some (vR (some tm)), some (vR (some p)), some (vR (some r))], [], H) (fun r' h' => r' = .inl none ∧ TM h' tm D K (rotL M p r) C v1 (if (M p).2.2 = none then some r else root) sz mc ∧ tmO D tm h h') := by
    intro N H kH oH eP eR eQ eO
    have eP4 : (N p).2.2 = (M p).2.2 := by rw [eP]
    obtain ⟨H1, e1⟩ : ∃ X, X = H.setF r ((entF K N C r).set 4 (vR (M p).2.2)) := ⟨_, rfl⟩
    have k1 : TM H1 tm D K (up N r ((M r).1, (M r).2.1, (M p).2.2)) C v1 root sz mc := by
      rw [e1, show (entF K N C r).set 4 (vR (M p).2.2) = [vR (K r).1, vR (K r).2, vR (((M r).1, (M r).2.1, (M p).2.2) : Option Nat × Option Nat × Option Nat).1, vR (((M r).1, (M r).2.1, (M p).2.2) : Option Nat × Option Nat × Option Nat).2.1, vR (((M r).1, (M r).2.1, (M p).2.2) : Option Nat × Option Nat × Option Nat).2.2, vI (C r)] by show [_, _, _, _, _, _] = _; rw [eR]]
      exact kH.setM hrD _
    have o1 : tmO D tm h H1 := by rw [e1]; exact oH.setF (Or.inl hrD)
    have eP1 : up N r ((M r).1, (M r).2.1, (M p).2.2) p = N p := upn_ne _ _ hpr
    have eP14 : (up N r ((M r).1, (M r).2.1, (M p).2.2) p).2.2 = (M p).2.2 := by rw [eP1, eP]
    refine wp.go [85] 60 fun W C0 hW hC0 => ?_
    refine ⟨_, _, _, _, kH.1 p hpD, rfl, rfl, ?_⟩
    rw [eP4]
    refine ⟨_, _, _, kH.1 r hrD, rfl, (Nat.le_of_ble_eq_true rfl), ?_⟩
    rw [← e1]
    refine ⟨_, _, _, _, k1.1 p hpD, rfl, rfl, ?_⟩
    rw [eP14]
    cases eq : (M p).2.2 with
    | none =>
      rw [eq] at k1 eP
      refine ⟨_, _, _, k1.2.1, rfl, (Nat.le_of_ble_eq_true rfl), ?_⟩
      refine hW _ (fin _ _ (some r) (k1.setT v1 (some r) sz mc) (o1.setF (Or.inr rfl)) (by rw [eq]; rfl) ?_ ?_ (fun a a1 a2 => ?_))
      · rw [upn_ne _ _ hpr, eP, eq]
      · rw [up_eq, eq]
      · rw [upn_ne _ _ a2]
        exact eO a a1 a2 (by rw [eq]; exact fun w => nomatch w)
    | some q =>
      obtain ⟨qD, qp, qr, qb⟩ := hq q eq
      have eQ1 : up N r ((M r).1, (M r).2.1, (M p).2.2) q = M q := by rw [upn_ne _ _ qr]; exact eQ q eq
      have eQL : (up N r ((M r).1, (M r).2.1, (M p).2.2) q).1 = (M q).1 := by rw [eQ1]
      refine ⟨_, _, _, _, k1.1 p hpD, rfl, rfl, ?_⟩
      rw [eP14, eq]
      refine ⟨_, _, _, _, k1.1 q qD, rfl, rfl, ?_⟩
      rw [eQL]
      have rest : ∀ (m : Option Nat × Option Nat × Option Nat), rotL M p r q = m → ∀ H2, TM H2 tm D K (up (up N r ((M r).1, (M r).2.1, (M p).2.2)) q m) C v1 root sz mc → tmO D tm h H2 → wp (d + 1) 34 (85, [some (vR (some tm)), some (vR (some p)), some (vR (some r))], [], H2) (fun r' h' => r' = .inl none ∧ TM h' tm D K (rotL M p r) C v1 (if (M p).2.2 = none then some r else root) sz mc ∧ tmO D tm h h') := by
        intro m hm H2 k2 o2
        refine fin _ H2 root k2 o2 (by rw [eq]; rfl) ?_ ?_ (fun a a1 a2 => ?_)
        · rw [upn_ne _ _ (Ne.symm qp), upn_ne _ _ hpr, eP]
        · rw [upn_ne _ _ (Ne.symm qr), up_eq]
        · by_cases w : a = q
          · subst w
            rw [up_eq, hm]
          · rw [upn_ne _ _ w, upn_ne _ _ a2]
            exact eO a a1 a2 (by rw [eq]; intro w2; cases w2; exact w rfl)
      have hrq : ∀ m, (if (M q).1 = some p then (some r, (M q).2.1, (M q).2.2) else ((M q).1, some r, (M q).2.2)) = m → rotL M p r q = m := by
        intro m hm
        unfold rotL
        rw [if_neg qp, if_neg qr, if_neg qb, if_pos eq]
        exact hm
      refine ⟨fun w => ?_, fun w => ?_⟩
      · refine ⟨_, _, _, _, k1.1 p hpD, rfl, rfl, ?_⟩
        rw [eP14, eq]
        refine ⟨_, _, _, k1.1 q qD, rfl, (Nat.le_of_ble_eq_true rfl), ?_⟩
        refine hW _ (rest ((M q).1, some r, (M q).2.2) (hrq _ (if_neg w)) _ ?_ (o1.setF (Or.inl qD)))
        have := k1.setM qD ((M q).1, some r, (M q).2.2)
        rw [show (entF K (up N r ((M r).1, (M r).2.1, (M p).2.2)) C q).set 3 (vR (some r)) = [vR (K q).1, vR (K q).2, vR (((M q).1, some r, (M q).2.2) : Option Nat × Option Nat × Option Nat).1, vR (((M q).1, some r, (M q).2.2) : Option Nat × Option Nat × Option Nat).2.1, vR (((M q).1, some r, (M q).2.2) : Option Nat × Option Nat × Option Nat).2.2, vI (C q)] by show [_, _, _, _, _, _] = _; rw [eQ1]]
        exact this
      · refine ⟨_, _, _, _, k1.1 p hpD, rfl, rfl, ?_⟩
        rw [eP14, eq]
        refine ⟨_, _, _, k1.1 q qD, rfl, (Nat.le_of_ble_eq_true rfl), ?_⟩
        refine hW _ (rest (some r, (M q).2.1, (M q).2.2) (hrq _ (if_pos w)) _ ?_ (o1.setF (Or.inl qD)))
        have := k1.setM qD (some r, (M q).2.1, (M q).2.2)
        rw [show (entF K (up N r ((M r).1, (M r).2.1, (M p).2.2)) C q).set 2 (vR (some r)) = [vR (K q).1, vR (K q).2, vR ((some r, (M q).2.1, (M q).2.2) : Option Nat × Option Nat × Option Nat).1, vR ((some r, (M q).2.1, (M q).2.2) : Option Nat × Option Nat × Option Nat).2.1, vR ((some r, (M q).2.1, (M q).2.2) : Option Nat × Option Nat × Option Nat).2.2, vI (C q)] by show [_, _, _, _, _, _] = _; rw [eQ1]]
        exact this
  -- the start
  obtain ⟨H1, e1⟩ : ∃ X, X = h.setF p ((entF K M C p).set 3 (vR (M r).1)) := ⟨_, rfl⟩
  have k1 : TM H1 tm D K (up M p ((M p).1, (M r).1, (M p).2.2)) C v1 root sz mc := by
    rw [e1]
    exact k.setM hpD ((M p).1, (M r).1, (M p).2.2)
  have o1 : tmO D tm h H1 := by rw [e1]; exact tmO.refl.setF (Or.inl hpD)
  have eR1 : up M p ((M p).1, (M r).1, (M p).2.2) r = M r := upn_ne _ _ hrp
  have eRL : (up M p ((M p).1, (M r).1, (M p).2.2) r).1 = (M r).1 := by rw [eR1]
  have rotO : ∀ a, a ≠ p → a ≠ r → (M r).1 ≠ some a → (M p).2.2 ≠ some a → rotL M p r a = M a := by
    intro a a1 a2 a3 a4
    unfold rotL
    rw [if_neg a1, if_neg a2, if_neg a3, if_neg a4]
  refine wp.go [32] 60 fun W C0 hW hC0 => ?_
  refine ⟨_, _, _, _, k.1 p hpD, rfl, rfl, ?_⟩
  rw [hMp]
  refine ⟨_, _, _, _, k.1 r hrD, rfl, rfl, ?_⟩
  refine ⟨_, _, _, k.1 p hpD, rfl, (Nat.le_of_ble_eq_true rfl), ?_⟩
  rw [← e1]
  refine ⟨_, _, _, _, k1.1 r hrD, rfl, rfl, ?_⟩
  rw [eRL]
  cases eb : (M r).1 with
  | none =>
    refine hW _ (mid _ H1 k1 o1 (up_eq _ _ _) eR1 (fun q hq' => upn_ne _ _ (hq q hq').2.1) (fun a a1 a2 a3 => ?_))
    rw [upn_ne _ _ a1, rotO a a1 a2 (by rw [eb]; exact fun w => nomatch w) a3]
  | some b =>
    obtain ⟨bD, bp, br⟩ := hb b eb
    refine ⟨_, _, _, _, k1.1 r hrD, rfl, rfl, ?_⟩
    rw [eRL, eb]
    refine ⟨_, _, _, k1.1 b bD, rfl, (Nat.le_of_ble_eq_true rfl), ?_⟩
    have eB1 : up M p ((M p).1, (M r).1, (M p).2.2) b = M b := upn_ne _ _ bp
    have t2 := k1.setM bD ((M b).1, (M b).2.1, some p)
    rw [show (entF K (up M p ((M p).1, (M r).1, (M p).2.2)) C b).set 4 (vR (some p)) = [vR (K b).1, vR (K b).2, vR (M b).1, vR (M b).2.1, vR (some p), vI (C b)] by show [_, _, _, _, _, _] = _; rw [eB1]]
    refine hW _ (mid _ _ t2 (o1.setF (Or.inl bD)) ?_ ?_ (fun q hq' => ?_) (fun a a1 a2 a3 => ?_))
    · rw [upn_ne _ _ (Ne.symm bp), up_eq]
    · rw [upn_ne _ _ (Ne.symm br), eR1]
    · obtain ⟨q1, q2, q3, q4⟩ := hq q hq'
      have hqb : q ≠ b := fun w => q4 (by rw [eb, w])
      rw [upn_ne _ _ hqb, upn_ne _ _ q2]
    · by_cases w : a = b
      · subst w
        rw [up_eq]
        unfold rotL
        rw [if_neg a1, if_neg a2, if_pos eb]
      · rw [upn_ne _ _ w, upn_ne _ _ a1, rotO a a1 a2 (by rw [eb]; intro w2; cases w2; exact w rfl) a3]
theorem rotR_spec {p r : Nat} (k : TM h tm D K M C v1 root sz mc) (hpD : D p) (hrD : D r) (hpr : p ≠ r) (hMp : (M p).1 = some r) (hb : ∀ b, (M r).2.1 = some b → D b ∧ b ≠ p ∧ b ≠ r) (hq : ∀ q, (M p).2.2 = some q → D q ∧ q ≠ p ∧ q ≠ r ∧ (M r).2.1 ≠ some q) : wp (d + 1) 35 (0, ent 3 [vR (some tm), vR (some p)], [], h) (fun r' h' => r' = .inl none ∧ TM h' tm D K (rotR M p r) C v1 (if (M p).2.2 = none then some r else root) sz mc ∧ tmO D tm h h') := by
  have hrp : r ≠ p := Ne.symm hpr
  -- the end: both turn
  have fin : ∀ (N : Mp) (H : AH) (root' : Option Nat), TM H tm D K N C v1 root' sz mc → tmO D tm h H → (if (M p).2.2 = none then some r else root) = root' → N p = ((M r).2.1, (M p).2.1, (M p).2.2) → N r = ((M r).1, (M r).2.1, (M p).2.2) → (∀ a, a ≠ p → a ≠ r → N a = rotR M p r a) → wp (d + 1) 35 (85, [some (vR (some tm)), some (vR (some p)), some (vR (some r))], [], H) (fun r' h' => r' = .inl none ∧ TM h' tm D K (rotR M p r) C v1 (if (M p).2.2 = none then some r else root) sz mc ∧ tmO D tm h h') := by
    intro N H root' kH oH hroot eP eR eO
    have t1 := kH.setM hrD ((M r).1, some p, (M p).2.2)
    obtain ⟨H1, e1⟩ : ∃ X, X = H.setF r ((entF K N C r).set 3 (vR (some p))) := ⟨_, rfl⟩
    have k1 : TM H1 tm D K (up N r ((M r).1, some p, (M p).2.2)) C v1 root' sz mc := by
      rw [e1, show (entF K N C r).set 3 (vR (some p)) = [vR (K r).1, vR (K r).2, vR (((M r).1, some p, (M p).2.2) : Option Nat × Option Nat × Option Nat).1, vR (((M r).1, some p, (M p).2.2) : Option Nat × Option Nat × Option Nat).2.1, vR (((M r).1, some p, (M p).2.2) : Option Nat × Option Nat × Option Nat).2.2, vI (C r)] by show [_, _, _, _, _, _] = _; rw [eR]]
      exact t1
    have o1 : tmO D tm h H1 := by rw [e1]; exact oH.setF (Or.inl hrD)
    have eP1 : up N r ((M r).1, some p, (M p).2.2) p = N p := upn_ne _ _ hpr
    have t2 := k1.setM hpD ((M r).2.1, (M p).2.1, some r)
    refine wp.go [] 20 fun W C0 hW hC => ?_
    refine ⟨_, _, _, kH.1 r hrD, rfl, (Nat.le_of_ble_eq_true rfl), ?_⟩
    rw [← e1]
    refine ⟨_, _, _, k1.1 p hpD, rfl, (Nat.le_of_ble_eq_true rfl), ?_⟩
    rw [hroot, show (entF K (up N r ((M r).1, some p, (M p).2.2)) C p).set 4 (vR (some r)) = [vR (K p).1, vR (K p).2, vR (((M r).2.1, (M p).2.1, some r) : Option Nat × Option Nat × Option Nat).1, vR (((M r).2.1, (M p).2.1, some r) : Option Nat × Option Nat × Option Nat).2.1, vR (((M r).2.1, (M p).2.1, some r) : Option Nat × Option Nat × Option Nat).2.2, vI (C p)] by show [_, _, _, _, _, _] = _; rw [eP1, eP]]
    have eM : up (up N r ((M r).1, some p, (M p).2.2)) p ((M r).2.1, (M p).2.1, some r) = rotR M p r := by
      funext a
      by_cases q1 : a = p
      · subst q1
        rw [up_eq]
        exact (if_pos rfl).symm
      · rw [upn_ne _ _ q1]
        by_cases q2 : a = r
        · subst q2
          rw [up_eq]
          unfold rotR
          rw [if_neg q1, if_pos rfl]
        · rw [upn_ne _ _ q2]
          exact eO a q1 q2
    rw [eM] at t2
    exact ⟨rfl, t2, o1.setF (Or.inl hpD)⟩
  -- who is above p
  have mid : ∀ (N : Mp) (H : AH), TM H tm D K N C v1 root sz mc → tmO D tm h H → N p = ((M r).2.1, (M p).2.1, (M p).2.2) → N r = ((M r).1, (M r).2.1, (M r).2.2) → (∀ q, (M p).2.2 = some q → N q = M q) → (∀ a, a ≠ p → a ≠ r → (M p).2.2 ≠ some a → N a = rotR M p r a) → wp (d + 1) 35 (32, [some (vR (some tm)), some (vR (some p)), some (vR (some r))], [], H) (fun r' h' => r' = .inl none ∧ TM h' tm D K (rotR M p r) C v1 (if (M p).2.2 = none then some r else root) sz mc ∧ tmO D tm h h') := by
    intro N H kH oH eP eR eQ eO
    have eP4 : (N p).2.2 = (M p).2.2 := by rw [eP]
    obtain ⟨H1, e1⟩ : ∃ X, X = H.setF r ((entF K N C r).set 4 (vR (M p).2.2)) := ⟨_, rfl⟩
    have k1 : TM H1 tm D K (up N r ((M r).1, (M r).2.1, (M p).2.2)) C v1 root sz mc := by
      rw [e1, show (entF K N C r).set 4 (vR (M p).2.2) = [vR (K r).1, vR (K r).2, vR (((M r).1, (M r).2.1, (M p).2.2) : Option Nat × Option Nat × Option Nat).1, vR (((M r).1, (M r).2.1, (M p).2.2) : Option Nat × Option Nat × Option Nat).2.1, vR (((M r).1, (M r).2.1, (M p).2.2) : Option Nat × Option Nat × Option Nat).2.2, vI (C r)] by show [_, _, _, _, _, _] = _; rw [eR]]
      exact kH.setM hrD _
    have o1 : tmO D tm h H1 := by rw [e1]; exact oH.setF (Or.inl hrD)
    have eP1 : up N r ((M r).1, (M r).2.1, (M p).2.2) p = N p := upn_ne _ _ hpr
    have eP14 : (up N r ((M r).1, (M r).2.1, (M p).2.2) p).2.2 = (M p).2.2 := by rw [eP1, eP]
    refine wp.go [85] 60 fun W C0 hW hC0 => ?_
    refine ⟨_, _, _, _, kH.1 p hpD, rfl, rfl, ?_⟩
    rw [eP4]
    refine ⟨_, _, _, kH.1 r hrD, rfl, (Nat.le_of_ble_eq_true rfl), ?_⟩
    rw [← e1]
    refine ⟨_, _, _, _, k1.1 p hpD, rfl, rfl, ?_⟩
    rw [eP14]
    cases eq : (M p).2.2 with
    | none =>
      rw [eq] at k1 eP
      refine ⟨_, _, _, k1.2.1, rfl, (Nat.le_of_ble_eq_true rfl), ?_⟩
      refine hW _ (fin _ _ (some r) (k1.setT v1 (some r) sz mc) (o1.setF (Or.inr rfl)) (by rw [eq]; rfl) ?_ ?_ (fun a a1 a2 => ?_))
      · rw [upn_ne _ _ hpr, eP, eq]
      · rw [up_eq, eq]
      · rw [upn_ne _ _ a2]
        exact eO a a1 a2 (by rw [eq]; exact fun w => nomatch w)
    | some q =>
      obtain ⟨qD, qp, qr, qb⟩ := hq q eq
      have eQ1 : up N r ((M r).1, (M r).2.1, (M p).2.2) q = M q := by rw [upn_ne _ _ qr]; exact eQ q eq
      have eQL : (up N r ((M r).1, (M r).2.1, (M p).2.2) q).2.1 = (M q).2.1 := by rw [eQ1]
      refine ⟨_, _, _, _, k1.1 p hpD, rfl, rfl, ?_⟩
      rw [eP14, eq]
      refine ⟨_, _, _, _, k1.1 q qD, rfl, rfl, ?_⟩
      rw [eQL]
      have rest : ∀ (m : Option Nat × Option Nat × Option Nat), rotR M p r q = m → ∀ H2, TM H2 tm D K (up (up N r ((M r).1, (M r).2.1, (M p).2.2)) q m) C v1 root sz mc → tmO D tm h H2 → wp (d + 1) 35 (85, [some (vR (some tm)), some (vR (some p)), some (vR (some r))], [], H2) (fun r' h' => r' = .inl none ∧ TM h' tm D K (rotR M p r) C v1 (if (M p).2.2 = none then some r else root) sz mc ∧ tmO D tm h h') := by
        intro m hm H2 k2 o2
        refine fin _ H2 root k2 o2 (by rw [eq]; rfl) ?_ ?_ (fun a a1 a2 => ?_)
        · rw [upn_ne _ _ (Ne.symm qp), upn_ne _ _ hpr, eP]
        · rw [upn_ne _ _ (Ne.symm qr), up_eq]
        · by_cases w : a = q
          · subst w
            rw [up_eq, hm]
          · rw [upn_ne _ _ w, upn_ne _ _ a2]
            exact eO a a1 a2 (by rw [eq]; intro w2; cases w2; exact w rfl)
      have hrq : ∀ m, (if (M q).2.1 = some p then ((M q).1, some r, (M q).2.2) else (some r, (M q).2.1, (M q).2.2)) = m → rotR M p r q = m := by
        intro m hm
        unfold rotR
        rw [if_neg qp, if_neg qr, if_neg qb, if_pos eq]
        exact hm
      refine ⟨fun w => ?_, fun w => ?_⟩
      · refine ⟨_, _, _, _, k1.1 p hpD, rfl, rfl, ?_⟩
        rw [eP14, eq]
        refine ⟨_, _, _, k1.1 q qD, rfl, (Nat.le_of_ble_eq_true rfl), ?_⟩
        refine hW _ (rest (some r, (M q).2.1, (M q).2.2) (hrq _ (if_neg w)) _ ?_ (o1.setF (Or.inl qD)))
        have := k1.setM qD (some r, (M q).2.1, (M q).2.2)
        rw [show (entF K (up N r ((M r).1, (M r).2.1, (M p).2.2)) C q).set 2 (vR (some r)) = [vR (K q).1, vR (K q).2, vR ((some r, (M q).2.1, (M q).2.2) : Option Nat × Option Nat × Option Nat).1, vR ((some r, (M q).2.1, (M q).2.2) : Option Nat × Option Nat × Option Nat).2.1, vR ((some r, (M q).2.1, (M q).2.2) : Option Nat × Option Nat × Option Nat).2.2, vI (C q)] by show [_, _, _, _, _, _] = _; rw [eQ1]]
        exact this
      · refine ⟨_, _, _, _, k1.1 p hpD, rfl, rfl, ?_⟩
        rw [eP14, eq]
        refine ⟨_, _, _, k1.1 q qD, rfl, (Nat.le_of_ble_eq_true rfl), ?_⟩
        refine hW _ (rest ((M q).1, some r, (M q).2.2) (hrq _ (if_pos w)) _ ?_ (o1.setF (Or.inl qD)))
        have := k1.setM qD ((M q).1, some r, (M q).2.2)
        rw [show (entF K (up N r ((M r).1, (M r).2.1, (M p).2.2)) C q).set 3 (vR (some r)) = [vR (K q).1, vR (K q).2, vR (((M q).1, some r, (M q).2.2) : Option Nat × Option Nat × Option Nat).1, vR (((M q).1, some r, (M q).2.2) : Option Nat × Option Nat × Option Nat).2.1, vR (((M q).1, some r, (M q).2.2) : Option Nat × Option Nat × Option Nat).2.2, vI (C q)] by show [_, _, _, _, _, _] = _; rw [eQ1]]
        exact this
  -- the start
  obtain ⟨H1, e1⟩ : ∃ X, X = h.setF p ((entF K M C p).set 2 (vR (M r).2.1)) := ⟨_, rfl⟩
  have k1 : TM H1 tm D K (up M p ((M r).2.1, (M p).2.1, (M p).2.2)) C v1 root sz mc := by
    rw [e1]
    exact k.setM hpD ((M r).2.1, (M p).2.1, (M p).2.2)
  have o1 : tmO D tm h H1 := by rw [e1]; exact tmO.refl.setF (Or.inl hpD)
  have eR1 : up M p ((M r).2.1, (M p).2.1, (M p).2.2) r = M r := upn_ne _ _ hrp
  have eRL : (up M p ((M r).2.1, (M p).2.1, (M p).2.2) r).2.1 = (M r).2.1 := by rw [eR1]
  have rotO : ∀ a, a ≠ p → a ≠ r → (M r).2.1 ≠ some a → (M p).2.2 ≠ some a → rotR M p r a = M a := by
    intro a a1 a2 a3 a4
    unfold rotR
    rw [if_neg a1, if_neg a2, if_neg a3, if_neg a4]
  refine wp.go [32] 60 fun W C0 hW hC0 => ?_
  refine ⟨_, _, _, _, k.1 p hpD, rfl, rfl, ?_⟩
  rw [hMp]
  refine ⟨_, _, _, _, k.1 r hrD, rfl, rfl, ?_⟩
  refine ⟨_, _, _, k.1 p hpD, rfl, (Nat.le_of_ble_eq_true rfl), ?_⟩
  rw [← e1]
  refine ⟨_, _, _, _, k1.1 r hrD, rfl, rfl, ?_⟩
  rw [eRL]
  cases eb : (M r).2.1 with
  | none =>
    refine hW _ (mid _ H1 k1 o1 (up_eq _ _ _) eR1 (fun q hq' => upn_ne _ _ (hq q hq').2.1) (fun a a1 a2 a3 => ?_))
    rw [upn_ne _ _ a1, rotO a a1 a2 (by rw [eb]; exact fun w => nomatch w) a3]
  | some b =>
    obtain ⟨bD, bp, br⟩ := hb b eb
    refine ⟨_, _, _, _, k1.1 r hrD, rfl, rfl, ?_⟩
    rw [eRL, eb]
    refine ⟨_, _, _, k1.1 b bD, rfl, (Nat.le_of_ble_eq_true rfl), ?_⟩
    have eB1 : up M p ((M r).2.1, (M p).2.1, (M p).2.2) b = M b := upn_ne _ _ bp
    have t2 := k1.setM bD ((M b).1, (M b).2.1, some p)
    rw [show (entF K (up M p ((M r).2.1, (M p).2.1, (M p).2.2)) C b).set 4 (vR (some p)) = [vR (K b).1, vR (K b).2, vR (M b).1, vR (M b).2.1, vR (some p), vI (C b)] by show [_, _, _, _, _, _] = _; rw [eB1]]
    refine hW _ (mid _ _ t2 (o1.setF (Or.inl bD)) ?_ ?_ (fun q hq' => ?_) (fun a a1 a2 a3 => ?_))
    · rw [upn_ne _ _ (Ne.symm bp), up_eq]
    · rw [upn_ne _ _ (Ne.symm br), eR1]
    · obtain ⟨q1, q2, q3, q4⟩ := hq q hq'
      have hqb : q ≠ b := fun w => q4 (by rw [eb, w])
      rw [upn_ne _ _ hqb, upn_ne _ _ q2]
    · by_cases w : a = b
      · subst w
        rw [up_eq]
        unfold rotR
        rw [if_neg a1, if_neg a2, if_pos eb]
      · rw [upn_ne _ _ w, upn_ne _ _ a1, rotO a a1 a2 (by rw [eb]; intro w2; cases w2; exact w rfl) a3]
end TM1
