/-! SEARCH TREES of the library: made, gone through -/
theorem split_uniq {α : Type} {a : α} : ∀ {X X' Y Y' : List α}, X ++ a :: Y = X' ++ a :: Y' → (X ++ a :: Y).Nodup → Y = Y'
  | [], [], _, _, h, _ => by cases h; rfl
  | [], x :: X', Y, Y', h, hn => by
    have h1 : a :: Y = x :: (X' ++ a :: Y') := h
    cases h1
    exact absurd (show a ∈ X' ++ a :: Y' by simp) (List.nodup_cons.mp hn).1
  | x :: X, [], Y, Y', h, hn => by
    have h1 : x :: (X ++ a :: Y) = a :: Y' := h
    cases h1
    exact absurd (show a ∈ X ++ a :: Y by simp) (List.nodup_cons.mp hn).1
  | x :: X, x' :: X', Y, Y', h, hn => by
    have h1 : x :: (X ++ a :: Y) = x' :: (X' ++ a :: Y') := h
    injection h1 with h2 h3
    exact split_uniq h3 (List.nodup_cons.mp hn).2
section ITER
variable {d tm : Nat} {h : AH} {D : Nat → Prop} {K : Nat → Option Nat × Option Nat} {M : Mp} {C : Nat → Int} {v1 root : Option Nat} {sz : Nat} {mc : Int}
theorem succ_down (k : TM h tm D K M C v1 root sz mc) {x : Nat} : ∀ (t : BT) (par : Option Nat) (b : Nat) (l2 : Option AV) (B : Option Nat), (flB t).head? = B → ShB M t par → (∀ q, q ∈ flB t → D q) → rtB t = some b → wp (d + 1) 21 (18, [some (vR (some x)), some (vR (some b)), l2], [], h) (fun r h' => r = .inl (some (vR B)) ∧ h' = h)
  | .var _, _, _, _, _, _, _, _, hb => by cases hb
  | .op (.var _) _, _, _, _, _, _, hs, _, _ => hs.elim
  | .op (.op _ (.op _ _)) _, _, _, _, _, _, hs, _, _ => hs.elim
  | .op (.op l (.var a)) r, par, b, l2, B, hB, ⟨h1, h2, h3⟩, hD, hb => by
    have hb : some a = some b := hb
    cases hb
    have hDa : D a := hD a (show a ∈ flB l ++ a :: flB r by simp)
    have hh : flB (.op (.op l (.var a)) r) = flB l ++ a :: flB r := rfl
    refine wp.go [18] 30 fun W C0 hW hC => ?_
    refine ⟨_, _, _, _, k.1 a hDa, rfl, rfl, ?_⟩
    rw [show (M a).1 = rtB l by rw [h1]]
    cases e : rtB l with
    | none =>
      have hl : flB l = [] := by
        match l, h2, e with
        | .var _, _, _ => rfl
        | .op (.var _) _, h2, _ => exact h2.elim
        | .op (.op _ (.op _ _)) _, h2, _ => exact h2.elim
      rw [hh, hl] at hB
      rw [← hB]
      exact ⟨rfl, rfl⟩
    | some b =>
      refine ⟨_, _, _, _, k.1 a hDa, rfl, rfl, ?_⟩
      rw [show (M a).1 = some b by rw [h1]; exact e]
      have hne : (flB l ++ a :: flB r).head? = (flB l).head? := by
        have := rt_mem e
        cases hf : flB l with
        | nil => rw [hf] at this; cases this
        | cons y ys => rfl
      exact hW _ (succ_down k (x := x) l (some a) b l2 B (by rw [← hB, hh, hne]) h2 (fun q hq => hD q (by rw [hh]; simp [hq])) e)
theorem succ_up (k : TM h tm D K M C v1 root sz mc) {x : Nat} : ∀ (c : Cx0) (y : Nat), ShX M c (some y) → (flLB c ++ flRB c).Nodup → y ∉ flLB c → y ∉ flRB c → (∀ q, q ∈ flLB c ∨ q ∈ flRB c → D q) → wp (d + 1) 21 (42, [some (vR (some x)), some (vR (parB c)), some (vR (some y))], [], h) (fun r h' => r = .inl (some (vR (flRB c).head?)) ∧ h' = h)
  | [], y, _, _, _, _, _ => by
    refine wp.go [42] 20 fun W C0 hW hC => ?_
    exact ⟨rfl, rfl⟩
  | (true, q, s) :: c, y, ⟨h1, h2, h3⟩, hn, hy1, hy2, hD => by
    have e : flRB ((true, q, s) :: c) = q :: (flB s ++ flRB c) := rfl
    rw [e] at hy2 ⊢
    have hDq : D q := hD q (Or.inr (by rw [e]; simp))
    refine wp.go [42] 40 fun W C0 hW hC => ?_
    refine ⟨_, _, _, _, k.1 q hDq, rfl, rfl, ?_⟩
    rw [show (M q).2.1 = rtB s by rw [h1]]
    refine ⟨fun _ => ⟨rfl, rfl⟩, fun w => ?_⟩
    have := rt_mem w.symm
    exact absurd (show y ∈ q :: (flB s ++ flRB c) by simp [this]) hy2
  | (false, q, s) :: c, y, ⟨h1, h2, h3⟩, hn, hy1, hy2, hD => by
    have e : flLB ((false, q, s) :: c) = flLB c ++ (flB s ++ [q]) := rfl
    have e2 : flRB ((false, q, s) :: c) = flRB c := rfl
    rw [e, e2] at hn
    rw [e2]
    have n1 := List.nodup_append.mp hn
    have n2 := List.nodup_append.mp n1.1
    have hDq : D q := hD q (Or.inl (by rw [e]; simp))
    have call := succ_up k (x := x) c q h3 (List.nodup_append.mpr ⟨n2.1, n1.2.1, fun a ha b hb => n1.2.2 a (by simp [ha]) b hb⟩) (fun w => n2.2.2 q w q (by simp) rfl) (fun w => n1.2.2 q (by simp) q w rfl) (fun z hz => hD z (by rcases hz with w | w; exact Or.inl (by rw [e]; simp [w]); exact Or.inr w))
    refine wp.go [42] 40 fun W C0 hW hC => ?_
    refine ⟨_, _, _, _, k.1 q hDq, rfl, rfl, ?_⟩
    rw [show (M q).2.1 = some y by rw [h1]]
    refine ⟨fun w => absurd rfl w, fun _ => ?_⟩
    refine ⟨_, _, _, _, k.1 q hDq, rfl, rfl, ?_⟩
    rw [show (M q).2.2 = parB c by rw [h1]]
    exact hW _ call
theorem succ_spec (k : TM h tm D K M C v1 root sz mc) {t : BT} (hi : inT M [] t) (hD : ∀ q, q ∈ flB t → D q) {X Y : List Nat} {a : Nat} (hA : flB t = X ++ a :: Y) : wp (d + 1) 21 (0, ent 3 [vR (some a)], [], h) (fun r h' => r = .inl (some (vR Y.head?)) ∧ h' = h) := by
  have hnd : (flB t).Nodup := by
    have := hi.2.2
    simpa [flLB, flRB] using this
  obtain ⟨c, l, r, e⟩ := in_split hi.1 (show a ∈ flB t by rw [hA]; simp)
  have hfl := pl_fl c (ndB l a r)
  rw [e] at hfl
  have hfl2 : flB t = (flLB c ++ flB l) ++ a :: (flB r ++ flRB c) := by
    rw [hfl]
    show flLB c ++ ((flB l ++ a :: flB r) ++ flRB c) = _
    simp
  have hY : Y = flB r ++ flRB c := split_uniq (hA.symm.trans hfl2) (hA ▸ hnd)
  have hz := (pl_sh c (ndB l a r)).mp (by rw [e]; exact hi.1)
  obtain ⟨⟨h1, h2, h3⟩, h4⟩ := hz
  have hDa : D a := hD a (by rw [hA]; simp)
  have n0 := hfl2 ▸ hnd
  have n1 := List.nodup_append.mp n0
  have n2 := List.nodup_cons.mp n1.2.1
  have n3 := List.nodup_append.mp n2.2
  have n4 := List.nodup_append.mp n1.1
  rw [hY]
  obtain ⟨B, hB⟩ : ∃ B, B = (flB r ++ flRB c).head? := ⟨_, rfl⟩
  rw [← hB]
  refine wp.go [18, 42] 40 fun W C0 hW hC => ?_
  refine ⟨_, _, _, _, k.1 a hDa, rfl, rfl, ?_⟩
  rw [show (M a).2.1 = rtB r by rw [h1]]
  cases er : rtB r with
  | none =>
    have hr : flB r = [] := by
      match r, h3, er with
      | .var _, _, _ => rfl
      | .op (.var _) _, h3, _ => exact h3.elim
      | .op (.op _ (.op _ _)) _, h3, _ => exact h3.elim
    rw [hr, List.nil_append] at hB
    refine ⟨_, _, _, _, k.1 a hDa, rfl, rfl, ?_⟩
    rw [show (M a).2.2 = parB c by rw [h1]]
    subst hB
    refine hW _ (succ_up k c a h4 (List.nodup_append.mpr ⟨n4.1, n3.2.1, fun x hx y hy => n1.2.2 x (by simp [hx]) y (by simp [hy])⟩) (fun w => n1.2.2 a (by simp [w]) a List.mem_cons_self rfl) (fun w => n2.1 (by simp [w])) (fun q hq => hD q (by rw [hfl2]; rcases hq with w | w <;> simp [w])))
  | some b =>
    refine ⟨_, _, _, _, k.1 a hDa, rfl, rfl, ?_⟩
    rw [show (M a).2.1 = some b by rw [h1]; exact er]
    have hne : (flB r ++ flRB c).head? = (flB r).head? := by
      have := rt_mem er
      cases hf : flB r with
      | nil => rw [hf] at this; cases this
      | cons y ys => rfl
    exact hW _ (succ_down k r (some a) b none B (by rw [hB, hne]) h3 (fun q hq => hD q (by rw [hfl2]; simp [hq])) er)
/-- the first entry -/
theorem first_go (k : TM h tm D K M C v1 root sz mc) : ∀ (t : BT) (par : Option Nat) (b : Nat) (B : Option Nat), (flB t).head? = B → ShB M t par → (∀ q, q ∈ flB t → D q) → rtB t = some b → wp (d + 1) 38 (9, [some (vR (some tm)), some (vR (some b))], [], h) (fun r h' => r = .inl (some (vR B)) ∧ h' = h)
  | .var _, _, _, _, _, _, _, hb => by cases hb
  | .op (.var _) _, _, _, _, _, hs, _, _ => hs.elim
  | .op (.op _ (.op _ _)) _, _, _, _, _, hs, _, _ => hs.elim
  | .op (.op l (.var a)) r, par, b, B, hB, ⟨h1, h2, h3⟩, hD, hb => by
    have hb : some a = some b := hb
    cases hb
    have hDa : D a := hD a (show a ∈ flB l ++ a :: flB r by simp)
    have hh : flB (.op (.op l (.var a)) r) = flB l ++ a :: flB r := rfl
    refine wp.go [9] 30 fun W C0 hW hC => ?_
    refine ⟨_, _, _, _, k.1 a hDa, rfl, rfl, ?_⟩
    rw [show (M a).1 = rtB l by rw [h1]]
    cases e : rtB l with
    | none =>
      have hl : flB l = [] := by
        match l, h2, e with
        | .var _, _, _ => rfl
        | .op (.var _) _, h2, _ => exact h2.elim
        | .op (.op _ (.op _ _)) _, h2, _ => exact h2.elim
      rw [hh, hl] at hB
      rw [← hB]
      exact ⟨rfl, rfl⟩
    | some b =>
      refine ⟨_, _, _, _, k.1 a hDa, rfl, rfl, ?_⟩
      rw [show (M a).1 = some b by rw [h1]; exact e]
      have hne : (flB l ++ a :: flB r).head? = (flB l).head? := by
        have := rt_mem e
        cases hf : flB l with
        | nil => rw [hf] at this; cases this
        | cons y ys => rfl
      exact hW _ (first_go k l (some a) b B (by rw [← hB, hh, hne]) h2 (fun q hq => hD q (by rw [hh]; simp [hq])) e)
theorem first_spec' {t : BT} (k : TM h tm D K M C v1 (rtB t) sz mc) (hi : inT M [] t) (hD : ∀ q, q ∈ flB t → D q) : wp (d + 1) 38 (0, ent 2 [vR (some tm)], [], h) (fun r h' => r = .inl (some (vR (flB t).head?)) ∧ h' = h) := by
  obtain ⟨B, hB⟩ : ∃ B, (flB t).head? = B := ⟨_, rfl⟩
  rw [hB]
  refine wp.go [9] 20 fun W C0 hW hC => ?_
  refine ⟨_, _, _, _, k.2.1, rfl, rfl, ?_⟩
  cases e : rtB t with
  | none =>
    have hl : flB t = [] := by
      match t, hi.1, e with
      | .var _, _, _ => rfl
      | .op (.var _) _, h2, _ => exact h2.elim
      | .op (.op _ (.op _ _)) _, h2, _ => exact h2.elim
    rw [hl] at hB
    rw [← hB]
    exact ⟨rfl, rfl⟩
  | some b => exact hW _ (first_go k t none b B hB hi.1 hD e)
/-- an iterator over the values, ahead of some entry -/
def ItV (h : AH) (it tm : Nat) (o : Option Nat) (mc : Int) : Prop := ∃ lr, h.F it = (17, [vR o, vR lr, vI mc, vR (some tm)])
theorem vHas_spec {it : Nat} {o : Option Nat} (k : ItV h it tm o mc) : wp (d + 1) 146 (0, ent 1 [vR (some it)], [], h) (gives h (z01 o.isSome)) := by
  obtain ⟨lr, k⟩ := k
  cases o with
  | none =>
    refine wp.go [] 20 fun W C0 hW hC => ?_
    refine ⟨_, _, _, _, k, rfl, rfl, ?_⟩
    exact ⟨Or.inl rfl, rfl, rfl⟩
  | some a =>
    refine wp.go [] 20 fun W C0 hW hC => ?_
    refine ⟨_, _, _, _, k, rfl, rfl, ?_⟩
    exact ⟨Or.inr rfl, rfl, rfl⟩
theorem vNext_spec {it : Nat} {t : BT} {A X Y : List Nat} {a : Nat} (k : TM h tm D K M C v1 (rtB t) sz mc) (hi : inT M [] t) (hA : flB t = A) (hD : ∀ q, q ∈ A → D q) (hX : A = X ++ a :: Y) (ki : ItV h it tm (some a) mc) (hit : ¬ D it) (hitm : it ≠ tm) : wp (d + 3) 149 (0, ent 1 [vR (some it)], [], h) (fun r h' => r = .inl (some (vR (K a).2)) ∧ h' = h.setF it [vR Y.head?, vR (some a), vI mc, vR (some tm)]) := by
  obtain ⟨lr, ki⟩ := ki
  have hDa : D a := hD a (by rw [hX]; simp)
  have hae : a ≠ it := fun w => hit (by rw [← w]; exact hDa)
  have ne : wp (d + 2) 147 (0, ent 2 [vR (some it)], [], h) (fun r h' => r = .inl (some (vR (some a))) ∧ h' = h.setF it [vR Y.head?, vR (some a), vI mc, vR (some tm)]) := by
    refine wp.go [] 60 fun W C0 hW hC => ?_
    refine ⟨_, _, _, _, ki, rfl, rfl, ?_⟩
    refine ⟨_, _, _, _, ki, rfl, rfl, ?_⟩
    refine ⟨_, _, _, _, k.2.1, rfl, rfl, ?_⟩
    refine ⟨_, _, _, _, ki, rfl, rfl, ?_⟩
    refine ⟨fun _ => ?_, fun w => absurd rfl w⟩
    refine hC _ _ _ (useE (wpd.up (by omega) (succ_spec (d := 0) k hi (by rw [hA]; exact hD) (hA.trans hX))) ?_)
    refine ⟨_, _, _, ki, rfl, (Nat.le_of_ble_eq_true rfl), ?_⟩
    refine ⟨_, _, _, setF_at ki, rfl, (Nat.le_of_ble_eq_true rfl), ?_⟩
    rw [setF_setF]
    exact ⟨rfl, rfl⟩
  refine wp.go [] 20 fun W C0 hW hC => ?_
  refine ⟨_, _, _, ki, rfl, ?_⟩
  refine hC _ _ _ (useE (wpd.up (by omega) (ne)) ?_)
  refine ⟨_, _, _, _, (setF_ne hae).trans (k.1 a hDa), rfl, rfl, ?_⟩
  exact ⟨rfl, rfl⟩
/-- a map is made -/
theorem tmInit_spec {H : AH} (hF : H.F tm = (12, [vR none, vR none, vR none, vR none, vI 0, vI 0, vR none, vR none, vR none])) : wp (d + 2) 22 (0, ent 1 [vR (some tm)], [], H) (fun r h' => r = .inl none ∧ h' = H.setF tm (tmL none none 0 0)) := by
  have i0 : wp (d + 1) 20 (0, ent 1 [vR (some tm)], [], H) (fun r h' => r = .inl none ∧ h' = H) := by
    refine wp.go [] 10 fun W C0 hW hC => ?_
    exact ⟨rfl, rfl⟩
  refine wp.go [] 40 fun W C0 hW hC => ?_
  refine hC _ _ _ (useE (wpd.up (by omega) (i0)) ?_)
  refine ⟨_, _, _, hF, rfl, (Nat.le_of_ble_eq_true rfl), ?_⟩
  refine ⟨_, _, _, setF_at hF, rfl, (Nat.le_of_ble_eq_true rfl), ?_⟩
  rw [setF_setF]
  refine ⟨_, _, _, setF_at hF, rfl, (Nat.le_of_ble_eq_true rfl), ?_⟩
  rw [setF_setF]
  exact ⟨rfl, rfl⟩
theorem mapNil {H : AH} {kc : Nat → List Nat} {n : Nat} (hF : H.F tm = (12, tmL none none 0 0)) : MapAt H tm [] K kc n none 0 := by
  refine ⟨fun _ => (none, none, none), fun _ => 1, nlB, ⟨fun a ha => (List.not_mem_nil ha).elim, hF, fun w => (List.not_mem_nil w).elim⟩, ⟨trivial, trivial, List.nodup_nil⟩, rfl, fun a ha => (List.not_mem_nil ha).elim, fun ρ hρ => (nomatch hρ), fun a ha => (List.not_mem_nil ha).elim, List.Pairwise.nil⟩
theorem tmSize_spec (k : h.F tm = (12, tmL v1 root sz mc)) : wp (d + 1) 36 (0, ent 1 [vR (some tm)], [], h) (gives h ((sz : Nat) : Int)) := by
  refine wp.go [] 10 fun W C0 hW hC => ?_
  refine ⟨_, _, _, _, k, rfl, rfl, ?_⟩
  exact ⟨rfl, rfl⟩
/-- its values, and an iterator over them -/
theorem vals_spec {H : AH} (k : H.F tm = (12, tmL none root sz mc)) (htm : tm < H.sz) : wp (d + 3) 37 (0, ent 2 [vR (some tm)], [], H) (fun r h' => r = .inl (some (vR (some H.sz))) ∧ h' = (H.newF 16 [vR (some tm)]).setF tm (tmL (some H.sz) root sz mc)) := by
  have hN := newF_at (h := H) (t := 16) (x := [vR none])
  have e0 : (H.newF 16 [vR none]).setF H.sz [vR (some tm)] = H.newF 16 [vR (some tm)] := newF_setF rfl
  have i1 : wp (d + 2) 144 (0, ent 2 [vR (some H.sz), vR (some tm)], [], H.newF 16 [vR none]) (fun r h' => r = .inl none ∧ h' = H.newF 16 [vR (some tm)]) := by
    have i0 : wp (d + 1) 0 (0, ent 1 [vR (some H.sz)], [], H.newF 16 [vR (some tm)]) (fun r h' => r = .inl none ∧ h' = H.newF 16 [vR (some tm)]) := by
      refine wp.go [] 10 fun W C0 hW hC => ?_
      exact ⟨rfl, rfl⟩
    refine wp.go [] 20 fun W C0 hW hC => ?_
    refine ⟨_, _, _, hN, rfl, (Nat.le_of_ble_eq_true rfl), ?_⟩
    rw [show ([vR none] : List AV).set 0 (vR (some tm)) = [vR (some tm)] from rfl, e0]
    refine hC _ _ _ (useE (wpd.up (by omega) (i0)) ?_)
    exact ⟨rfl, rfl⟩
  have k2 : (H.newF 16 [vR (some tm)]).F tm = (12, tmL none root sz mc) := (newF_ne (by omega)).trans k
  refine wp.go [] 40 fun W C0 hW hC => ?_
  refine ⟨_, _, _, _, k, rfl, rfl, ?_⟩
  refine hC _ _ _ (useE (wpd.up (by omega) (i1)) ?_)
  refine ⟨_, _, _, k2, rfl, (Nat.le_of_ble_eq_true rfl), ?_⟩
  exact ⟨rfl, rfl⟩
theorem vIter_spec {t : BT} {vs : Nat} (hv : h.F vs = (16, [vR (some tm)])) (k : TM h tm D K M C v1 (rtB t) sz mc) (hi : inT M [] t) (hD : ∀ q, q ∈ flB t → D q) (hDz : ∀ q, D q → q < h.sz) (htm : tm < h.sz) (hvz : vs < h.sz) : wp (d + 4) 145 (0, ent 1 [vR (some vs)], [], h) (fun r h' => r = .inl (some (vR (some h.sz))) ∧ h' = h.newF 17 [vR (flB t).head?, vR none, vI mc, vR (some tm)]) := by
  obtain ⟨g, hg⟩ : ∃ g, g = h.newF 17 [vR none, vR none, vI 0, vR none] := ⟨_, rfl⟩
  have gF : ∀ a, a < h.sz → g.F a = h.F a := fun a ha => by rw [hg]; exact newF_ne (by omega)
  have gN : g.F h.sz = (17, [vR none, vR none, vI 0, vR none]) := by rw [hg]; exact newF_at
  have gv : g.F vs = (16, [vR (some tm)]) := (gF vs hvz).trans hv
  have gk : TM g tm D K M C v1 (rtB t) sz mc := ⟨fun a ha => (gF a (hDz a ha)).trans (k.1 a ha), (gF tm htm).trans k.2.1, k.2.2⟩
  have i1 : wp (d + 2) 148 (0, ent 3 [vR (some h.sz), vR (some tm), vR (flB t).head?], [], g) (fun r h' => r = .inl none ∧ h' = g.setF h.sz [vR (flB t).head?, vR none, vI mc, vR (some tm)]) := by
    refine wp.go [] 40 fun W C0 hW hC => ?_
    refine ⟨_, _, _, gN, rfl, (Nat.le_of_ble_eq_true rfl), ?_⟩
    refine ⟨_, _, _, _, (setF_ne (by omega)).trans gk.2.1, rfl, rfl, ?_⟩
    refine ⟨_, _, _, setF_at gN, rfl, (Nat.le_of_ble_eq_true rfl), ?_⟩
    rw [setF_setF]
    refine ⟨_, _, _, setF_at gN, rfl, (Nat.le_of_ble_eq_true rfl), ?_⟩
    rw [setF_setF]
    refine ⟨_, _, _, setF_at gN, rfl, (Nat.le_of_ble_eq_true rfl), ?_⟩
    rw [setF_setF]
    exact ⟨rfl, rfl⟩
  have i2 : wp (d + 3) 150 (0, ent 3 [vR (some h.sz), vR (some tm), vR (flB t).head?], [], g) (fun r h' => r = .inl none ∧ h' = g.setF h.sz [vR (flB t).head?, vR none, vI mc, vR (some tm)]) := by
    refine wp.go [] 20 fun W C0 hW hC => ?_
    refine hC _ _ _ (useE (wpd.up (by omega) (i1)) ?_)
    exact ⟨rfl, rfl⟩
  refine wp.go [] 40 fun W C0 hW hC => ?_
  conv => whnf
  rw [← hg]
  refine ⟨_, _, _, _, gv, rfl, rfl, ?_⟩
  refine ⟨_, _, _, _, gv, rfl, rfl, ?_⟩
  refine ⟨_, _, _, gk.2.1, rfl, ?_⟩
  refine hC _ _ _ (useE (wpd.up (by omega) (first_spec' (d := 0) gk hi hD)) ?_)
  refine hC _ _ _ (useE (wpd.up (by omega) (i2)) ?_)
  refine ⟨rfl, ?_⟩
  rw [hg]
  exact newF_setF rfl
end ITER
