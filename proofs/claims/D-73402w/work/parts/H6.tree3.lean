/-! SEARCH TREES of the library: fixAfterInsertion (printed by tools/mkH6.py) -/
theorem top_mem : ∀ (c : Cx0) (o : Option Nat), c ≠ [] → ∃ ρ, topB c o = some ρ ∧ (ρ ∈ flLB c ∨ ρ ∈ flRB c)
  | [], _, h => absurd rfl h
  | (true, a, s) :: [], _, _ => ⟨a, rfl, Or.inr (show a ∈ a :: (flB s ++ []) by simp)⟩
  | (false, a, s) :: [], _, _ => ⟨a, rfl, Or.inl (show a ∈ [] ++ (flB s ++ [a]) by simp)⟩
  | (true, a, s) :: f :: c, _, _ => by
    obtain ⟨ρ, h1, h2⟩ := top_mem (f :: c) (some a) (by simp)
    refine ⟨ρ, h1, ?_⟩
    rcases h2 with q | q
    · exact Or.inl q
    · exact Or.inr (show ρ ∈ a :: (flB s ++ flRB (f :: c)) by simp [q])
  | (false, a, s) :: f :: c, _, _ => by
    obtain ⟨ρ, h1, h2⟩ := top_mem (f :: c) (some a) (by simp)
    refine ⟨ρ, h1, ?_⟩
    rcases h2 with q | q
    · exact Or.inl (show ρ ∈ flLB (f :: c) ++ (flB s ++ [a]) by simp [q])
    · exact Or.inr q
abbrev alB (c : Cx0) (t : BT) : List Nat := flLB c ++ (flB t ++ flRB c)
theorem nd_apart {c : Cx0} {t : BT} (h : (alB c t).Nodup) {a : Nat} (ha : a ∈ flB t) : ¬ (a ∈ flLB c ∨ a ∈ flRB c) := by
  have h1 := List.nodup_append.mp h
  have h2 := List.nodup_append.mp h1.2.1
  intro w
  rcases w with w | w
  · exact h1.2.2 a w a (by simp [ha]) rfl
  · exact h2.2.2 a ha a w rfl
theorem in_up {M : Mp} {c : Cx0} {d : Bool} {q : Nat} {s t : BT} (h : inT M ((d, q, s) :: c) t) : inT M c (cond d (ndB t q s) (ndB s q t)) ∧ alB c (cond d (ndB t q s) (ndB s q t)) = alB ((d, q, s) :: c) t := by
  obtain ⟨h1, h2, h3⟩ := h
  cases d with
  | true =>
    have e : alB c (ndB t q s) = alB ((true, q, s) :: c) t := by
      show flLB c ++ ((flB t ++ q :: flB s) ++ flRB c) = flLB c ++ (flB t ++ q :: (flB s ++ flRB c))
      simp
    refine ⟨⟨⟨h2.1, h1, h2.2.1⟩, h2.2.2, ?_⟩, e⟩
    have h3 : (alB ((true, q, s) :: c) t).Nodup := h3
    rw [← e] at h3
    exact h3
  | false =>
    have e : alB c (ndB s q t) = alB ((false, q, s) :: c) t := by
      show flLB c ++ ((flB s ++ q :: flB t) ++ flRB c) = (flLB c ++ (flB s ++ [q])) ++ (flB t ++ flRB c)
      simp
    refine ⟨⟨⟨h2.1, h2.2.1, h1⟩, h2.2.2, ?_⟩, e⟩
    have h3 : (alB ((false, q, s) :: c) t).Nodup := h3
    rw [← e] at h3
    exact h3
section FIX
variable {d tm : Nat} {h0 : AH} {K : Nat → Option Nat × Option Nat} {v1 : Option Nat} {sz : Nat} {mc : Int} {A : List Nat}
abbrev fixEnd (h0 : AH) (tm : Nat) (K : Nat → Option Nat × Option Nat) (v1 : Option Nat) (sz : Nat) (mc : Int) (A : List Nat) : Rs → AH → Prop := fun r h' => r = .inl none ∧ ∃ M' C' t', TM h' tm (· ∈ A) K M' C' v1 (rtB t') sz mc ∧ inT M' [] t' ∧ flB t' = A ∧ c01 (· ∈ A) C' ∧ (∀ ρ, rtB t' = some ρ → C' ρ = 1) ∧ tmO (· ∈ A) tm h0 h'
theorem fix_end {M : Mp} {C : Nat → Int} {H : AH} {c : Cx0} {t : BT} {x2 : Option AV} {x : Option Nat} (k : TM H tm (· ∈ A) K M C v1 (topB c (rtB t)) sz mc) (hi : inT M c t) (hA : alB c t = A) (hc : c01 (· ∈ A) C) (ho : tmO (· ∈ A) tm h0 H) (hne : rtB t ≠ none) : wp (d + 1) 28 (258, [some (vR (some tm)), some (vR x), x2], [], H) (fixEnd h0 tm K v1 sz mc A) := by
  obtain ⟨ρ, hρ, hρA⟩ : ∃ ρ, topB c (rtB t) = some ρ ∧ ρ ∈ A := by
    cases c with
    | nil =>
      cases e : rtB t with
      | none => exact absurd e hne
      | some ρ => exact ⟨ρ, rfl, by rw [← hA]; simp [alB, rt_mem e]⟩
    | cons f c =>
      obtain ⟨ρ, h1, h2⟩ := top_mem (f :: c) (rtB t) (by simp)
      refine ⟨ρ, h1, ?_⟩
      rw [← hA]
      rcases h2 with q | q <;> simp [alB, q]
  have t1 := k.setC hρA 1
  refine wp.go [] 20 fun W C0 hW hC0 => ?_
  refine ⟨_, _, _, _, k.2.1, rfl, rfl, ?_⟩
  rw [hρ]
  refine ⟨_, _, _, k.1 ρ hρA, rfl, (Nat.le_of_ble_eq_true rfl), Or.inr rfl, ?_⟩
  refine ⟨rfl, M, up C ρ 1, plB c t, ?_, ?_, by rw [pl_fl]; exact hA, hc.up (Or.inr rfl), fun q hq => ?_, ho.setF (Or.inl hρA)⟩
  · rw [pl_rt]; exact t1
  · refine ⟨(pl_sh c t).mpr ⟨hi.1, hi.2.1⟩, trivial, ?_⟩
    show ([] ++ (flB (plB c t) ++ [])).Nodup
    rw [pl_fl]
    simpa using hi.2.2
  · rw [pl_rt, hρ] at hq
    cases hq
    rw [up_eq]
/-- out of the loop: who is above is black -/
theorem fix_out {M : Mp} {C : Nat → Int} {H : AH} {c : Cx0} {t : BT} {x2 : Option AV} {x u : Nat} (k : TM H tm (· ∈ A) K M C v1 (topB c (rtB t)) sz mc) (hi : inT M c t) (hA : alB c t = A) (hc : c01 (· ∈ A) C) (ho : tmO (· ∈ A) tm h0 H) (hne : rtB t ≠ none) (hx : x ∈ A) (hu : (M x).2.2 = some u) (huA : u ∈ A) (hcu : C u = 1) : wp (d + 1) 28 (5, [some (vR (some tm)), some (vR (some x)), x2], [], H) (fixEnd h0 tm K v1 sz mc A) := by
  refine wp.go [258] 20 fun W C0 hW hC0 => ?_
  refine ⟨_, _, _, _, k.2.1, rfl, rfl, ?_⟩
  refine ⟨fun _ => hW _ (fix_end k hi hA hc ho hne), fun _ => ?_⟩
  refine ⟨_, _, _, _, k.1 x hx, rfl, rfl, ?_⟩
  rw [hu]
  refine ⟨_, _, _, _, k.1 u huA, rfl, rfl, ?_⟩
  rw [hcu]
  exact ⟨fun _ => hW _ (fix_end k hi hA hc ho hne), fun w => absurd w (by decide)⟩
/-- the turn at the grandparent -/
theorem fix_turnL {M : Mp} {C : Nat → Int} {H : AH} {c : Cx0} {A1 A2 s2 : BT} {x u g : Nat} {x2 : Option AV} (k : TM H tm (· ∈ A) K M C v1 (topB c (some g)) sz mc) (hi : inT M c (ndB (ndB (A1) u (A2)) g (s2))) (hA : alB c (ndB (ndB (A1) u (A2)) g (s2)) = A) (hc : c01 (· ∈ A) C) (ho : tmO (· ∈ A) tm h0 H) (hx : rtB A1 = some x) : wp (d + 2) 28 (118, [some (vR (some tm)), some (vR (some x)), x2], [], H) (fixEnd h0 tm K v1 sz mc A) := by
  have hnd := hi.2.2
  have hmem : ∀ a, a ∈ flB (ndB (ndB (A1) u (A2)) g (s2)) → a ∈ A := fun a ha => by rw [← hA]; simp only [alB, List.mem_append]; exact Or.inr (Or.inl ha)
  have hfl : ∀ a, a ∈ flB (ndB (ndB (A1) u (A2)) g (s2)) ↔ (a ∈ flB A1 ∨ a = u ∨ a ∈ flB A2) ∨ a = g ∨ a ∈ flB s2 := by
    intro a
    show a ∈ (flB A1 ++ u :: flB A2) ++ g :: flB s2 ↔ _
    simp only [List.mem_append, List.mem_cons]



  have hxm := rt_mem hx
  have hxA : x ∈ A := hmem x ((hfl x).mpr (Or.inl (Or.inl hxm)))
  have huA : u ∈ A := hmem u ((hfl u).mpr (Or.inl (Or.inr (Or.inl rfl))))
  have hgA : g ∈ A := hmem g ((hfl g).mpr (Or.inr (Or.inl rfl)))
  have hg := hi.1
  have eg : M g = (some u, rtB s2, parB c) := hg.1
  have hu := hg.2.1
  have eu : M u = (rtB A1, rtB A2, some g) := hu.1
  have ex : (M x).2.2 = some u := by
    have hs := hu.2.1
    match A1, hx, hs with
    | .op (.op l (.var b)) r, hx, hs =>
      have hx : some b = some x := hx
      cases hx
      rw [hs.1]
  have hgu : g ≠ u := by
    intro w
    have n1 := (List.nodup_append.mp (List.nodup_append.mp hnd).2.1).1
    have n1 : ((flB A1 ++ u :: flB A2) ++ g :: flB s2).Nodup := n1
    have n2 := List.nodup_append.mp n1
    exact n2.2.2 u (by simp) g List.mem_cons_self w.symm
  have hux : u ≠ x := by
    intro w
    have n1 := (List.nodup_append.mp (List.nodup_append.mp hnd).2.1).1
    have n1 : ((flB A1 ++ u :: flB A2) ++ g :: flB s2).Nodup := n1
    have n2 := List.nodup_append.mp n1
    have n3 := List.nodup_append.mp n2.1
    exact n3.2.2 x hxm u List.mem_cons_self w.symm
  have hgx : g ≠ x := by
    intro w
    have n1 := (List.nodup_append.mp (List.nodup_append.mp hnd).2.1).1
    have n1 : ((flB A1 ++ u :: flB A2) ++ g :: flB s2).Nodup := n1
    have n2 := List.nodup_append.mp n1
    exact n2.2.2 x (by simp [hxm]) g List.mem_cons_self w.symm
  have hroot := rotR_in hi
  have hpar : ∀ q, parB c = some q → q ∈ A ∧ q ≠ g ∧ q ≠ u ∧ q ∉ flB A2 := by
    intro q hq
    have hin : q ∈ flLB c ∨ q ∈ flRB c := by
      match c, hq with
      | (true, b, s) :: r, hq =>
        have hq : some b = some q := hq
        cases hq
        exact Or.inr (show q ∈ q :: (flB s ++ flRB r) by simp)
      | (false, b, s) :: r, hq =>
        have hq : some b = some q := hq
        cases hq
        exact Or.inl (show q ∈ flLB r ++ (flB s ++ [q]) by simp)
    have hq2 : ∀ a, a ∈ flB (ndB (ndB (A1) u (A2)) g (s2)) → q ≠ a := fun a ha w => nd_apart hnd ha (w ▸ hin)
    refine ⟨by rw [← hA]; rcases hin with w | w <;> simp [alB, w], hq2 g ((hfl g).mpr (Or.inr (Or.inl rfl))), hq2 u ((hfl u).mpr (Or.inl (Or.inr (Or.inl rfl)))), fun w => hq2 q ((hfl q).mpr (Or.inl (Or.inr (Or.inr w)))) rfl⟩
  have hA2 : ∀ b, rtB A2 = some b → b ∈ A ∧ b ≠ g ∧ b ≠ u := by
    intro b hb
    have hbm := rt_mem hb
    have n1 := (List.nodup_append.mp (List.nodup_append.mp hnd).2.1).1
    have n1 : ((flB A1 ++ u :: flB A2) ++ g :: flB s2).Nodup := n1
    have n2 := List.nodup_append.mp n1
    have n3 := List.nodup_append.mp n2.1
    refine ⟨hmem b ((hfl b).mpr (Or.inl (Or.inr (Or.inr hbm)))), fun w => ?_, fun w => ?_⟩
    · exact n2.2.2 b (by simp [hbm]) g List.mem_cons_self w
    · exact (List.nodup_cons.mp n3.2.1).1 (by rw [← w]; exact hbm)
  refine wp.go [5] 60 fun W C0 hW hC => ?_
  refine hC _ _ _ (useE (wpd.up (by omega) (par_spec (d := 0) (v := some u) k (Or.inr ⟨x, rfl, hxA, ex.symm⟩))) ?_)
  refine hC _ _ _ (use (wpd.up (by omega) (setC_spec (d := 0) k huA (Or.inr rfl))) ?_)
  rintro _ H1 ⟨rfl, k1, o1⟩
  refine hC _ _ _ (useE (wpd.up (by omega) (par_spec (d := 0) (v := some u) k1 (Or.inr ⟨x, rfl, hxA, ex.symm⟩))) ?_)
  refine hC _ _ _ (useE (wpd.up (by omega) (par_spec (d := 0) (v := some g) k1 (Or.inr ⟨u, rfl, huA, by rw [eu]⟩))) ?_)
  refine hC _ _ _ (use (wpd.up (by omega) (setC_spec (d := 0) k1 hgA (Or.inl rfl))) ?_)
  rintro _ H2 ⟨rfl, k2, o2⟩
  refine hC _ _ _ (useE (wpd.up (by omega) (par_spec (d := 0) (v := some u) k2 (Or.inr ⟨x, rfl, hxA, ex.symm⟩))) ?_)
  refine hC _ _ _ (useE (wpd.up (by omega) (par_spec (d := 0) (v := some g) k2 (Or.inr ⟨u, rfl, huA, by rw [eu]⟩))) ?_)
  refine ⟨_, _, _, k2.2.1, rfl, ?_⟩
  refine hC _ _ _ (use (wpd.up (by omega) (rotR_spec (d := 0) (p := g) (r := u) k2 hgA huA hgu (by rw [eg]) (fun b hb => hA2 b (by rw [eu] at hb; exact hb)) (fun q hq => by
    rw [eg] at hq
    obtain ⟨q1, q2, q3, q4⟩ := hpar q hq
    exact ⟨q1, q2, q3, fun w => q4 (rt_mem (by rw [eu] at w; exact w))⟩))) ?_)
  rintro _ H3 ⟨rfl, k3, o3⟩
  have eroot : (if (M g).2.2 = none then some u else topB c (some g)) = topB c (some u) := by
    rw [eg]
    cases c with
    | nil => rfl
    | cons f c => rfl
  rw [eroot] at k3
  have hxu : (rotR M g u x).2.2 = some u := by
    unfold rotR
    rw [if_neg (Ne.symm hgx), if_neg (Ne.symm hux)]
    have hb2 : (M u).2.1 ≠ some x := by
      rw [eu]
      intro w
      have := rt_mem (show rtB A2 = some x from w)
      have n1 := (List.nodup_append.mp (List.nodup_append.mp hnd).2.1).1
      have n1 : ((flB A1 ++ u :: flB A2) ++ g :: flB s2).Nodup := n1
      have n2 := List.nodup_append.mp n1
      have n3 := List.nodup_append.mp n2.1
      exact n3.2.2 x hxm x (by simp [this]) rfl
    rw [if_neg hb2, if_neg (fun w => by
      rw [eg] at w
      have hq := hpar x w
      have hin : x ∈ flLB c ∨ x ∈ flRB c := by
        match c, w with
        | (true, b, s) :: r, hq =>
          have hq : some b = some x := hq
          cases hq
          exact Or.inr (show x ∈ x :: (flB s ++ flRB r) by simp)
        | (false, b, s) :: r, hq =>
          have hq : some b = some x := hq
          cases hq
          exact Or.inl (show x ∈ flLB r ++ (flB s ++ [x]) by simp)
      exact nd_apart hnd ((hfl x).mpr (Or.inl (Or.inl hxm))) hin)]
    exact ex
  have hA' : alB c (ndB (A1) u (ndB (A2) g (s2))) = A := by
    rw [← hA]
    show flLB c ++ ((flB A1 ++ u :: (flB A2 ++ g :: flB s2)) ++ flRB c) = flLB c ++ (((flB A1 ++ u :: flB A2) ++ g :: flB s2) ++ flRB c)
    simp
  refine hW _ (wpd.up (by omega) (fix_out (d := d) (c := c) (t := ndB (A1) u (ndB (A2) g (s2))) (x := x) (u := u) k3 hroot hA' ((hc.up (Or.inr rfl)).up (Or.inl rfl)) (((ho.trans o1).trans o2).trans o3) (by show some u ≠ none; simp) hxA hxu huA ?_))
  rw [upn_ne _ _ (Ne.symm hgu), up_eq]
/-- the turn at the grandparent -/
theorem fix_turnR {M : Mp} {C : Nat → Int} {H : AH} {c : Cx0} {A1 A2 s2 : BT} {x u g : Nat} {x2 : Option AV} (k : TM H tm (· ∈ A) K M C v1 (topB c (some g)) sz mc) (hi : inT M c (ndB (s2) g (ndB (A2) u (A1)))) (hA : alB c (ndB (s2) g (ndB (A2) u (A1))) = A) (hc : c01 (· ∈ A) C) (ho : tmO (· ∈ A) tm h0 H) (hx : rtB A1 = some x) : wp (d + 2) 28 (225, [some (vR (some tm)), some (vR (some x)), x2], [], H) (fixEnd h0 tm K v1 sz mc A) := by
  have hnd := hi.2.2
  have hmem : ∀ a, a ∈ flB (ndB (s2) g (ndB (A2) u (A1))) → a ∈ A := fun a ha => by rw [← hA]; simp only [alB, List.mem_append]; exact Or.inr (Or.inl ha)
  have hfl : ∀ a, a ∈ flB (ndB (s2) g (ndB (A2) u (A1))) ↔ (a ∈ flB A1 ∨ a = u ∨ a ∈ flB A2) ∨ a = g ∨ a ∈ flB s2 := by
    intro a
    show a ∈ flB s2 ++ g :: (flB A2 ++ u :: flB A1) ↔ _
    simp only [List.mem_append, List.mem_cons]
    constructor
    · intro w; rcases w with w | w | w | w | w <;> simp [w]
    · intro w; rcases w with (w | w | w) | w | w <;> simp [w]
  have hxm := rt_mem hx
  have hxA : x ∈ A := hmem x ((hfl x).mpr (Or.inl (Or.inl hxm)))
  have huA : u ∈ A := hmem u ((hfl u).mpr (Or.inl (Or.inr (Or.inl rfl))))
  have hgA : g ∈ A := hmem g ((hfl g).mpr (Or.inr (Or.inl rfl)))
  have hg := hi.1
  have eg : M g = (rtB s2, some u, parB c) := hg.1
  have hu := hg.2.2
  have eu : M u = (rtB A2, rtB A1, some g) := hu.1
  have ex : (M x).2.2 = some u := by
    have hs := hu.2.2
    match A1, hx, hs with
    | .op (.op l (.var b)) r, hx, hs =>
      have hx : some b = some x := hx
      cases hx
      rw [hs.1]
  have hgu : g ≠ u := by
    intro w
    have n1 := (List.nodup_append.mp (List.nodup_append.mp hnd).2.1).1
    have n1 : (flB s2 ++ g :: (flB A2 ++ u :: flB A1)).Nodup := n1
    have n2 := List.nodup_append.mp n1
    exact (List.nodup_cons.mp n2.2.1).1 (by rw [w]; simp)
  have hux : u ≠ x := by
    intro w
    have n1 := (List.nodup_append.mp (List.nodup_append.mp hnd).2.1).1
    have n1 : (flB s2 ++ g :: (flB A2 ++ u :: flB A1)).Nodup := n1
    have n2 := List.nodup_append.mp n1
    have n3 := List.nodup_append.mp (List.nodup_cons.mp n2.2.1).2
    exact (List.nodup_cons.mp n3.2.1).1 (by rw [w]; exact hxm)
  have hgx : g ≠ x := by
    intro w
    have n1 := (List.nodup_append.mp (List.nodup_append.mp hnd).2.1).1
    have n1 : (flB s2 ++ g :: (flB A2 ++ u :: flB A1)).Nodup := n1
    have n2 := List.nodup_append.mp n1
    exact (List.nodup_cons.mp n2.2.1).1 (by rw [w]; simp [hxm])
  have hroot := rotL_in hi
  have hpar : ∀ q, parB c = some q → q ∈ A ∧ q ≠ g ∧ q ≠ u ∧ q ∉ flB A2 := by
    intro q hq
    have hin : q ∈ flLB c ∨ q ∈ flRB c := by
      match c, hq with
      | (true, b, s) :: r, hq =>
        have hq : some b = some q := hq
        cases hq
        exact Or.inr (show q ∈ q :: (flB s ++ flRB r) by simp)
      | (false, b, s) :: r, hq =>
        have hq : some b = some q := hq
        cases hq
        exact Or.inl (show q ∈ flLB r ++ (flB s ++ [q]) by simp)
    have hq2 : ∀ a, a ∈ flB (ndB (s2) g (ndB (A2) u (A1))) → q ≠ a := fun a ha w => nd_apart hnd ha (w ▸ hin)
    refine ⟨by rw [← hA]; rcases hin with w | w <;> simp [alB, w], hq2 g ((hfl g).mpr (Or.inr (Or.inl rfl))), hq2 u ((hfl u).mpr (Or.inl (Or.inr (Or.inl rfl)))), fun w => hq2 q ((hfl q).mpr (Or.inl (Or.inr (Or.inr w)))) rfl⟩
  have hA2 : ∀ b, rtB A2 = some b → b ∈ A ∧ b ≠ g ∧ b ≠ u := by
    intro b hb
    have hbm := rt_mem hb
    have n1 := (List.nodup_append.mp (List.nodup_append.mp hnd).2.1).1
    have n1 : (flB s2 ++ g :: (flB A2 ++ u :: flB A1)).Nodup := n1
    have n2 := List.nodup_append.mp n1
    have n3 := List.nodup_append.mp (List.nodup_cons.mp n2.2.1).2
    refine ⟨hmem b ((hfl b).mpr (Or.inl (Or.inr (Or.inr hbm)))), fun w => ?_, fun w => ?_⟩
    · exact (List.nodup_cons.mp n2.2.1).1 (by rw [← w]; simp [hbm])
    · exact n3.2.2 b hbm u List.mem_cons_self w
  refine wp.go [5] 60 fun W C0 hW hC => ?_
  refine hC _ _ _ (useE (wpd.up (by omega) (par_spec (d := 0) (v := some u) k (Or.inr ⟨x, rfl, hxA, ex.symm⟩))) ?_)
  refine hC _ _ _ (use (wpd.up (by omega) (setC_spec (d := 0) k huA (Or.inr rfl))) ?_)
  rintro _ H1 ⟨rfl, k1, o1⟩
  refine hC _ _ _ (useE (wpd.up (by omega) (par_spec (d := 0) (v := some u) k1 (Or.inr ⟨x, rfl, hxA, ex.symm⟩))) ?_)
  refine hC _ _ _ (useE (wpd.up (by omega) (par_spec (d := 0) (v := some g) k1 (Or.inr ⟨u, rfl, huA, by rw [eu]⟩))) ?_)
  refine hC _ _ _ (use (wpd.up (by omega) (setC_spec (d := 0) k1 hgA (Or.inl rfl))) ?_)
  rintro _ H2 ⟨rfl, k2, o2⟩
  refine hC _ _ _ (useE (wpd.up (by omega) (par_spec (d := 0) (v := some u) k2 (Or.inr ⟨x, rfl, hxA, ex.symm⟩))) ?_)
  refine hC _ _ _ (useE (wpd.up (by omega) (par_spec (d := 0) (v := some g) k2 (Or.inr ⟨u, rfl, huA, by rw [eu]⟩))) ?_)
  refine ⟨_, _, _, k2.2.1, rfl, ?_⟩
  refine hC _ _ _ (use (wpd.up (by omega) (rotL_spec (d := 0) (p := g) (r := u) k2 hgA huA hgu (by rw [eg]) (fun b hb => hA2 b (by rw [eu] at hb; exact hb)) (fun q hq => by
    rw [eg] at hq
    obtain ⟨q1, q2, q3, q4⟩ := hpar q hq
    exact ⟨q1, q2, q3, fun w => q4 (rt_mem (by rw [eu] at w; exact w))⟩))) ?_)
  rintro _ H3 ⟨rfl, k3, o3⟩
  have eroot : (if (M g).2.2 = none then some u else topB c (some g)) = topB c (some u) := by
    rw [eg]
    cases c with
    | nil => rfl
    | cons f c => rfl
  rw [eroot] at k3
  have hxu : (rotL M g u x).2.2 = some u := by
    unfold rotL
    rw [if_neg (Ne.symm hgx), if_neg (Ne.symm hux)]
    have hb2 : (M u).1 ≠ some x := by
      rw [eu]
      intro w
      have := rt_mem (show rtB A2 = some x from w)
      have n1 := (List.nodup_append.mp (List.nodup_append.mp hnd).2.1).1
      have n1 : (flB s2 ++ g :: (flB A2 ++ u :: flB A1)).Nodup := n1
      have n2 := List.nodup_append.mp n1
      have n3 := List.nodup_append.mp (List.nodup_cons.mp n2.2.1).2
      exact n3.2.2 x this x (by simp [hxm]) rfl
    rw [if_neg hb2, if_neg (fun w => by
      rw [eg] at w
      have hq := hpar x w
      have hin : x ∈ flLB c ∨ x ∈ flRB c := by
        match c, w with
        | (true, b, s) :: r, hq =>
          have hq : some b = some x := hq
          cases hq
          exact Or.inr (show x ∈ x :: (flB s ++ flRB r) by simp)
        | (false, b, s) :: r, hq =>
          have hq : some b = some x := hq
          cases hq
          exact Or.inl (show x ∈ flLB r ++ (flB s ++ [x]) by simp)
      exact nd_apart hnd ((hfl x).mpr (Or.inl (Or.inl hxm))) hin)]
    exact ex
  have hA' : alB c (ndB (ndB (s2) g (A2)) u (A1)) = A := by
    rw [← hA]
    show flLB c ++ (((flB s2 ++ g :: flB A2) ++ u :: flB A1) ++ flRB c) = flLB c ++ ((flB s2 ++ g :: (flB A2 ++ u :: flB A1)) ++ flRB c)
    simp
  refine hW _ (wpd.up (by omega) (fix_out (d := d) (c := c) (t := ndB (ndB (s2) g (A2)) u (A1)) (x := x) (u := u) k3 hroot hA' ((hc.up (Or.inr rfl)).up (Or.inl rfl)) (((ho.trans o1).trans o2).trans o3) (by show some u ≠ none; simp) hxA hxu huA ?_))
  rw [upn_ne _ _ (Ne.symm hgu), up_eq]
/-- the loop -/
theorem fix_loop : ∀ (n : Nat) (M : Mp) (C : Nat → Int) (H : AH) (c : Cx0) (tl tr : BT) (x : Nat) (x2 : Option AV), c.length ≤ n → TM H tm (· ∈ A) K M C v1 (topB c (some x)) sz mc → inT M c (ndB tl x tr) → alB c (ndB tl x tr) = A → c01 (· ∈ A) C → tmO (· ∈ A) tm h0 H → (c ≠ [] → ∀ ρ, topB c (some x) = some ρ → C ρ = 1) → wp (d + 2) 28 (5, [some (vR (some tm)), some (vR (some x)), x2], [], H) (fixEnd h0 tm K v1 sz mc A) := by
  intro n
  induction n with
  | zero =>
    intro M C H c tl tr x x2 hn k hi hA hc ho hr
    have hc0 : c = [] := List.length_eq_zero_iff.mp (by omega)
    subst hc0
    refine wp.go [258] 20 fun W C0 hW hC0 => ?_
    refine ⟨_, _, _, _, k.2.1, rfl, rfl, ?_⟩
    refine ⟨fun _ => hW _ (wpd.up (by omega) (fix_end (d := d) k hi hA hc ho (by show some x ≠ none; simp))), fun w => absurd rfl w⟩
  | succ n ih =>
    intro M C H c tl tr x x2 hn k hi hA hc ho hr
    have hxA : x ∈ A := by rw [← hA]; simp [alB, flB]
    match c, hn, k, hi, hA, hr with
    | [], hn, k, hi, hA, hr =>
      refine wp.go [258] 20 fun W C0 hW hC0 => ?_
      refine ⟨_, _, _, _, k.2.1, rfl, rfl, ?_⟩
      refine ⟨fun _ => hW _ (wpd.up (by omega) (fix_end (d := d) k hi hA hc ho (by show some x ≠ none; simp))), fun w => absurd rfl w⟩
    | [(d1, p, s1)], hn, k, hi, hA, hr =>
      have hex : (M x).2.2 = some p := by rw [hi.1.1]; rfl
      have hpA : p ∈ A := by
        rw [← hA]
        cases d1 <;> simp [alB, flLB, flRB]
      have hcp : C p = 1 := hr (by simp) p rfl
      exact wpd.up (by omega) (fix_out (d := d + 1) k hi hA hc ho (by show some x ≠ none; simp) hxA hex hpA hcp)
    | (d1, p, s1) :: (d2, g, s2) :: c2, hn, k, hi, hA, hr =>
      have hex : (M x).2.2 = some p := by rw [hi.1.1]; rfl
      have hpA : p ∈ A := by
        rw [← hA]
        cases d1 <;> simp [alB, flLB, flRB]
      have hgA : g ∈ A := by
        rw [← hA]
        cases d1 <;> cases d2 <;> simp [alB, flLB, flRB]
      obtain ⟨ρ, hρ, hρ2⟩ := top_mem ((d2, g, s2) :: c2) (some p) (by simp)
      have hroot : topB ((d1, p, s1) :: (d2, g, s2) :: c2) (some x) = topB c2 (some g) := rfl
      by_cases hcp : C p ≠ 0
      · have hcp1 : C p = 1 := by
          rcases hc p hpA with q | q
          · exact absurd q hcp
          · exact q
        exact wpd.up (by omega) (fix_out (d := d + 1) k hi hA hc ho (by show some x ≠ none; simp) hxA hex hpA hcp1)
      have hcp : C p = 0 := Classical.not_not.mp hcp
      have hnd := hi.2.2
      have hxr : some x ≠ topB c2 (some g) := by
        intro w
        obtain ⟨ρ, h1, h2⟩ := top_mem ((d1, p, s1) :: (d2, g, s2) :: c2) (some x) (by simp)
        rw [hroot, ← w] at h1
        cases h1
        exact nd_apart hnd (show x ∈ flB tl ++ x :: flB tr by simp) h2
      have hpr : some p ≠ topB c2 (some g) := by
        intro w
        have := hr (by simp) p (by rw [hroot, ← w])
        rw [hcp] at this
        cases this
      have hxp : x ≠ p := by
        intro w
        refine nd_apart hnd (a := x) (show x ∈ flB tl ++ x :: flB tr by simp) ?_
        rw [w]
        cases d1
        · exact Or.inl (show p ∈ flLB ((d2, g, s2) :: c2) ++ (flB s1 ++ [p]) by simp)
        · exact Or.inr (show p ∈ p :: (flB s1 ++ flRB ((d2, g, s2) :: c2)) by simp)
      have gp : M p = cond d1 (some x, rtB s1, some g) (rtB s1, some x, some g) := by
        cases d1
        · exact hi.2.1.1
        · exact hi.2.1.1
      have gg : M g = cond d2 (some p, rtB s2, parB c2) (rtB s2, some p, parB c2) := by
        cases d1
        · have := hi.2.1.2.2
          cases d2
          · exact this.1
          · exact this.1
        · have := hi.2.1.2.2
          cases d2
          · exact this.1
          · exact this.1
      have epg : (M p).2.2 = some g := by rw [gp]; cases d1 <;> rfl

      cases d2 with
      | true =>
        have i1 := in_up hi
        have i2 := in_up i1.1
        have eA : alB c2 (cond true (ndB (cond d1 (ndB (ndB tl x tr) p s1) (ndB s1 p (ndB tl x tr))) g s2) (ndB s2 g (cond d1 (ndB (ndB tl x tr) p s1) (ndB s1 p (ndB tl x tr))))) = A := by rw [i2.2, i1.2]; exact hA
        have gg : M g = (some p, rtB s2, parB c2) := gg
        have hnp : (flB (cond d1 (ndB (ndB tl x tr) p s1) (ndB s1 p (ndB tl x tr)))).Nodup ∧ p ∈ flB (cond d1 (ndB (ndB tl x tr) p s1) (ndB s1 p (ndB tl x tr))) := by
          refine ⟨(List.nodup_append.mp (List.nodup_append.mp i1.1.2.2).2.1).1, ?_⟩
          cases d1
          · show p ∈ flB s1 ++ p :: _
            simp
          · show p ∈ _ ++ p :: _
            simp
        have ps2 : rtB s2 ≠ some p := by
          intro w
          have wm := rt_mem w
          have n1 := (List.nodup_append.mp (List.nodup_append.mp i2.1.2.2).2.1).1
          have n1 : (flB (cond d1 (ndB (ndB tl x tr) p s1) (ndB s1 p (ndB tl x tr))) ++ g :: flB s2).Nodup := n1
          have n2 := List.nodup_append.mp n1
          exact n2.2.2 p hnp.2 p (by simp [wm]) rfl
        have xs1 : rtB s1 ≠ some x := by
          intro w
          have wm := rt_mem w
          refine nd_apart hnd (a := x) (show x ∈ flB tl ++ x :: flB tr by simp) ?_
          cases d1
          · exact Or.inl (show x ∈ flLB ((true, g, s2) :: c2) ++ (flB s1 ++ [p]) by simp [wm])
          · exact Or.inr (show x ∈ p :: (flB s1 ++ flRB ((true, g, s2) :: c2)) by simp [wm])
        have at97 : ∀ x2, wp (d + 2) 28 (97, [some (vR (some tm)), some (vR (some x)), x2], [], H) (fixEnd h0 tm K v1 sz mc A) := by
          intro x2
          cases d1 with
          | true =>
            have gp : M p = (some x, rtB s1, some g) := gp
            refine wp.go [118] 60 fun W C0 hW hC => ?_
            refine hC _ _ _ (useE (wpd.up (by omega) (par_spec (d := 0) (v := some p) k (Or.inr ⟨x, rfl, hxA, hex.symm⟩))) ?_)
            refine hC _ _ _ (useE (wpd.up (by omega) (rig_spec (d := 0) (v := rtB s1) k (Or.inr ⟨p, rfl, hpA, by rw [gp]⟩))) ?_)
            refine ⟨fun _ => ?_, fun w => absurd w.symm xs1⟩
            exact hW _ (fix_turnL (c := c2) (A1 := ndB tl x tr) (A2 := s1) (s2 := s2) (u := p) (g := g) k i2.1 eA hc ho rfl)
          | false =>
            have gp : M p = (rtB s1, some x, some g) := gp
            have ex := hi.1.1
            have i1' : inT M ((true, g, s2) :: c2) (ndB (s1) p (ndB (tl) x (tr))) := i1.1
            have hr1 := rotL_in i1'
            have j2 := in_up hr1
            have n1 := (List.nodup_append.mp (List.nodup_append.mp i1'.2.2).2.1).1
            have n1 : (flB s1 ++ p :: (flB tl ++ x :: flB tr)).Nodup := n1
            have n2 := List.nodup_append.mp n1
            have hb : ∀ b, (M x).1 = some b → b ∈ A ∧ b ≠ p ∧ b ≠ x := by
              intro b hb
              rw [ex] at hb
              have hbm := rt_mem (show rtB tl = some b from hb)
              refine ⟨by rw [← hA]; simp [alB, flB, hbm], fun w => ?_, fun w => ?_⟩
              · exact (List.nodup_cons.mp n2.2.1).1 (by rw [← w]; simp [hbm])
              · exact (List.nodup_append.mp (List.nodup_cons.mp n2.2.1).2).2.2 b hbm x List.mem_cons_self w
            have gne : g ≠ p ∧ g ≠ x ∧ ∀ b, b ∈ flB tl → g ≠ b := by
              have hg : ∀ a, a ∈ flB (ndB (s1) p (ndB (tl) x (tr))) → g ≠ a := fun a ha w => nd_apart i1'.2.2 ha (by rw [← w]; exact Or.inr (show g ∈ g :: (flB s2 ++ flRB c2) by simp))
              refine ⟨hg p (show p ∈ flB s1 ++ p :: (flB tl ++ x :: flB tr) by simp), hg x (show x ∈ flB s1 ++ p :: (flB tl ++ x :: flB tr) by simp), fun b hb => hg b (show b ∈ flB s1 ++ p :: (flB tl ++ x :: flB tr) by simp [hb])⟩
            refine wp.go [118] 60 fun W C0 hW hC => ?_
            refine hC _ _ _ (useE (wpd.up (by omega) (par_spec (d := 0) (v := some p) k (Or.inr ⟨x, rfl, hxA, hex.symm⟩))) ?_)
            refine hC _ _ _ (useE (wpd.up (by omega) (rig_spec (d := 0) (v := some x) k (Or.inr ⟨p, rfl, hpA, by rw [gp]⟩))) ?_)
            refine ⟨fun w => absurd rfl w, fun _ => ?_⟩
            refine hC _ _ _ (useE (wpd.up (by omega) (par_spec (d := 0) (v := some p) k (Or.inr ⟨x, rfl, hxA, hex.symm⟩))) ?_)
            refine ⟨_, _, _, k.2.1, rfl, ?_⟩
            refine hC _ _ _ (use (wpd.up (by omega) (rotL_spec (d := 0) (p := p) (r := x) k hpA hxA (Ne.symm hxp) (by rw [gp]) hb (fun q hq => by
              rw [gp] at hq
              have hq : some g = some q := hq
              cases hq
              exact ⟨hgA, gne.1, gne.2.1, fun w => gne.2.2 g (rt_mem (by rw [ex] at w; exact w)) rfl⟩))) ?_)
            rintro _ H1 ⟨rfl, k1, o1⟩
            rw [if_neg (show (M p).2.2 ≠ none by rw [epg]; simp)] at k1
            refine hW _ (fix_turnL (c := c2) (A1 := ndB (s1) p (tl)) (A2 := tr) (s2 := s2) (x := p) (u := x) (g := g) k1 j2.1 ?_ hc (ho.trans o1) rfl)
            rw [← eA]
            show flLB c2 ++ (_ ++ flRB c2) = flLB c2 ++ (_ ++ flRB c2)
            show flLB c2 ++ ((((flB s1 ++ p :: flB tl) ++ x :: flB tr) ++ g :: flB s2) ++ flRB c2) = flLB c2 ++ (((flB s1 ++ p :: (flB tl ++ x :: flB tr)) ++ g :: flB s2) ++ flRB c2)
            simp
        refine wp.go [5, 97] 90 fun W C0 hW hC => ?_
        refine ⟨_, _, _, _, k.2.1, rfl, rfl, ?_⟩
        refine ⟨fun w => absurd w hxr, fun _ => ?_⟩
        refine ⟨_, _, _, _, k.1 x hxA, rfl, rfl, ?_⟩
        rw [hex]
        refine ⟨_, _, _, _, k.1 p hpA, rfl, rfl, ?_⟩
        rw [hcp]
        refine ⟨fun w => absurd rfl w, fun _ => ?_⟩
        refine hC _ _ _ (useE (wpd.up (by omega) (par_spec (d := 0) (v := some p) k (Or.inr ⟨x, rfl, hxA, hex.symm⟩))) ?_)
        refine hC _ _ _ (useE (wpd.up (by omega) (par_spec (d := 0) (v := some p) k (Or.inr ⟨x, rfl, hxA, hex.symm⟩))) ?_)
        refine hC _ _ _ (useE (wpd.up (by omega) (par_spec (d := 0) (v := some g) k (Or.inr ⟨p, rfl, hpA, epg.symm⟩))) ?_)
        refine hC _ _ _ (useE (wpd.up (by omega) (lef_spec (d := 0) (v := some p) k (Or.inr ⟨g, rfl, hgA, by rw [gg]⟩))) ?_)
        refine ⟨fun w => absurd rfl w, fun _ => ?_⟩
        refine hC _ _ _ (useE (wpd.up (by omega) (par_spec (d := 0) (v := some p) k (Or.inr ⟨x, rfl, hxA, hex.symm⟩))) ?_)
        refine hC _ _ _ (useE (wpd.up (by omega) (par_spec (d := 0) (v := some g) k (Or.inr ⟨p, rfl, hpA, epg.symm⟩))) ?_)
        refine hC _ _ _ (useE (wpd.up (by omega) (rig_spec (d := 0) (v := rtB s2) k (Or.inr ⟨g, rfl, hgA, by rw [gg]⟩))) ?_)
        cases es : rtB s2 with
        | none =>
          refine hC _ _ _ (useE (wpd.up (by omega) (col_spec (d := 0) (v := 1) k hc (Or.inl ⟨rfl, rfl⟩))) ?_)
          exact ⟨fun _ => hW _ (at97 _), fun w => absurd w (by decide)⟩
        | some b =>
          have hbm := rt_mem es
          have hbA : b ∈ A := by
            rw [← hA]
            cases d1 <;> simp [alB, flLB, flRB, hbm]
          refine hC _ _ _ (useE (wpd.up (by omega) (col_spec (d := 0) (v := C b) k hc (Or.inr ⟨b, rfl, hbA, rfl⟩))) ?_)
          refine ⟨fun _ => hW _ (at97 _), fun hcb => ?_⟩
          refine hC _ _ _ (useE (wpd.up (by omega) (par_spec (d := 0) (v := some p) k (Or.inr ⟨x, rfl, hxA, hex.symm⟩))) ?_)
          refine hC _ _ _ (use (wpd.up (by omega) (setC_spec (d := 0) k hpA (Or.inr rfl))) ?_)
          rintro _ H1 ⟨rfl, k1, o1⟩
          refine hC _ _ _ (use (wpd.up (by omega) (setC_spec (d := 0) k1 hbA (Or.inr rfl))) ?_)
          rintro _ H2 ⟨rfl, k2, o2⟩
          refine hC _ _ _ (useE (wpd.up (by omega) (par_spec (d := 0) (v := some p) k2 (Or.inr ⟨x, rfl, hxA, hex.symm⟩))) ?_)
          refine hC _ _ _ (useE (wpd.up (by omega) (par_spec (d := 0) (v := some g) k2 (Or.inr ⟨p, rfl, hpA, epg.symm⟩))) ?_)
          refine hC _ _ _ (use (wpd.up (by omega) (setC_spec (d := 0) k2 hgA (Or.inl rfl))) ?_)
          rintro _ H3 ⟨rfl, k3, o3⟩
          refine hC _ _ _ (useE (wpd.up (by omega) (par_spec (d := 0) (v := some p) k3 (Or.inr ⟨x, rfl, hxA, hex.symm⟩))) ?_)
          refine hC _ _ _ (useE (wpd.up (by omega) (par_spec (d := 0) (v := some g) k3 (Or.inr ⟨p, rfl, hpA, epg.symm⟩))) ?_)
          refine hW _ (ih M _ H3 c2 _ s2 g _ (by simp at hn; omega) k3 i2.1 eA (((hc.up (Or.inr rfl)).up (Or.inr rfl)).up (Or.inl rfl)) (((ho.trans o1).trans o2).trans o3) (fun hc2 ρ hρ' => ?_))
          have hρg : ρ ≠ g := by
            intro w
            obtain ⟨ρ', h1, h2⟩ := top_mem c2 (some g) hc2
            rw [hρ'] at h1
            cases h1
            refine nd_apart i2.1.2.2 (a := ρ) ?_ h2
            rw [w]
            show g ∈ _ ++ g :: flB s2
            simp
          rw [upn_ne _ _ hρg]
          by_cases w1 : ρ = b
          · rw [w1, up_eq]
          · rw [upn_ne _ _ w1]
            by_cases w2 : ρ = p
            · rw [w2, up_eq]
            · rw [upn_ne _ _ w2]
              exact hr (by simp) ρ hρ' 
      | false =>
        have i1 := in_up hi
        have i2 := in_up i1.1
        have eA : alB c2 (cond false (ndB (cond d1 (ndB (ndB tl x tr) p s1) (ndB s1 p (ndB tl x tr))) g s2) (ndB s2 g (cond d1 (ndB (ndB tl x tr) p s1) (ndB s1 p (ndB tl x tr))))) = A := by rw [i2.2, i1.2]; exact hA
        have gg : M g = (rtB s2, some p, parB c2) := gg
        have hnp : (flB (cond d1 (ndB (ndB tl x tr) p s1) (ndB s1 p (ndB tl x tr)))).Nodup ∧ p ∈ flB (cond d1 (ndB (ndB tl x tr) p s1) (ndB s1 p (ndB tl x tr))) := by
          refine ⟨(List.nodup_append.mp (List.nodup_append.mp i1.1.2.2).2.1).1, ?_⟩
          cases d1
          · show p ∈ flB s1 ++ p :: _
            simp
          · show p ∈ _ ++ p :: _
            simp
        have ps2 : rtB s2 ≠ some p := by
          intro w
          have wm := rt_mem w
          have n1 := (List.nodup_append.mp (List.nodup_append.mp i2.1.2.2).2.1).1
          have n1 : (flB s2 ++ g :: flB (cond d1 (ndB (ndB tl x tr) p s1) (ndB s1 p (ndB tl x tr)))).Nodup := n1
          have n2 := List.nodup_append.mp n1
          exact n2.2.2 p wm p (by simp [hnp.2]) rfl
        have xs1 : rtB s1 ≠ some x := by
          intro w
          have wm := rt_mem w
          refine nd_apart hnd (a := x) (show x ∈ flB tl ++ x :: flB tr by simp) ?_
          cases d1
          · exact Or.inl (show x ∈ flLB ((false, g, s2) :: c2) ++ (flB s1 ++ [p]) by simp [wm])
          · exact Or.inr (show x ∈ p :: (flB s1 ++ flRB ((false, g, s2) :: c2)) by simp [wm])
        have at97 : ∀ x2, wp (d + 2) 28 (204, [some (vR (some tm)), some (vR (some x)), x2], [], H) (fixEnd h0 tm K v1 sz mc A) := by
          intro x2
          cases d1 with
          | false =>
            have gp : M p = (rtB s1, some x, some g) := gp
            refine wp.go [225] 60 fun W C0 hW hC => ?_
            refine hC _ _ _ (useE (wpd.up (by omega) (par_spec (d := 0) (v := some p) k (Or.inr ⟨x, rfl, hxA, hex.symm⟩))) ?_)
            refine hC _ _ _ (useE (wpd.up (by omega) (lef_spec (d := 0) (v := rtB s1) k (Or.inr ⟨p, rfl, hpA, by rw [gp]⟩))) ?_)
            refine ⟨fun _ => ?_, fun w => absurd w.symm xs1⟩
            exact hW _ (fix_turnR (c := c2) (A1 := ndB tl x tr) (A2 := s1) (s2 := s2) (u := p) (g := g) k i2.1 eA hc ho rfl)
          | true =>
            have gp : M p = (some x, rtB s1, some g) := gp
            have ex := hi.1.1
            have i1' : inT M ((false, g, s2) :: c2) (ndB (ndB (tl) x (tr)) p (s1)) := i1.1
            have hr1 := rotR_in i1'
            have j2 := in_up hr1
            have n1 := (List.nodup_append.mp (List.nodup_append.mp i1'.2.2).2.1).1
            have n1 : ((flB tl ++ x :: flB tr) ++ p :: flB s1).Nodup := n1
            have n2 := List.nodup_append.mp n1
            have hb : ∀ b, (M x).2.1 = some b → b ∈ A ∧ b ≠ p ∧ b ≠ x := by
              intro b hb
              rw [ex] at hb
              have hbm := rt_mem (show rtB tr = some b from hb)
              refine ⟨by rw [← hA]; simp [alB, flB, hbm], fun w => ?_, fun w => ?_⟩
              · exact n2.2.2 b (by simp [hbm]) p List.mem_cons_self w
              · exact (List.nodup_cons.mp (List.nodup_append.mp n2.1).2.1).1 (by rw [← w]; exact hbm)
            have gne : g ≠ p ∧ g ≠ x ∧ ∀ b, b ∈ flB tr → g ≠ b := by
              have hg : ∀ a, a ∈ flB (ndB (ndB (tl) x (tr)) p (s1)) → g ≠ a := fun a ha w => nd_apart i1'.2.2 ha (by rw [← w]; exact Or.inl (show g ∈ flLB c2 ++ (flB s2 ++ [g]) by simp))
              refine ⟨hg p (show p ∈ (flB tl ++ x :: flB tr) ++ p :: flB s1 by simp), hg x (show x ∈ (flB tl ++ x :: flB tr) ++ p :: flB s1 by simp), fun b hb => hg b (show b ∈ (flB tl ++ x :: flB tr) ++ p :: flB s1 by simp [hb])⟩
            refine wp.go [225] 60 fun W C0 hW hC => ?_
            refine hC _ _ _ (useE (wpd.up (by omega) (par_spec (d := 0) (v := some p) k (Or.inr ⟨x, rfl, hxA, hex.symm⟩))) ?_)
            refine hC _ _ _ (useE (wpd.up (by omega) (lef_spec (d := 0) (v := some x) k (Or.inr ⟨p, rfl, hpA, by rw [gp]⟩))) ?_)
            refine ⟨fun w => absurd rfl w, fun _ => ?_⟩
            refine hC _ _ _ (useE (wpd.up (by omega) (par_spec (d := 0) (v := some p) k (Or.inr ⟨x, rfl, hxA, hex.symm⟩))) ?_)
            refine ⟨_, _, _, k.2.1, rfl, ?_⟩
            refine hC _ _ _ (use (wpd.up (by omega) (rotR_spec (d := 0) (p := p) (r := x) k hpA hxA (Ne.symm hxp) (by rw [gp]) hb (fun q hq => by
              rw [gp] at hq
              have hq : some g = some q := hq
              cases hq
              exact ⟨hgA, gne.1, gne.2.1, fun w => gne.2.2 g (rt_mem (by rw [ex] at w; exact w)) rfl⟩))) ?_)
            rintro _ H1 ⟨rfl, k1, o1⟩
            rw [if_neg (show (M p).2.2 ≠ none by rw [epg]; simp)] at k1
            refine hW _ (fix_turnR (c := c2) (A1 := ndB (tr) p (s1)) (A2 := tl) (s2 := s2) (x := p) (u := x) (g := g) k1 j2.1 ?_ hc (ho.trans o1) rfl)
            rw [← eA]
            show flLB c2 ++ (_ ++ flRB c2) = flLB c2 ++ (_ ++ flRB c2)
            show flLB c2 ++ ((flB s2 ++ g :: (flB tl ++ x :: (flB tr ++ p :: flB s1))) ++ flRB c2) = flLB c2 ++ ((flB s2 ++ g :: ((flB tl ++ x :: flB tr) ++ p :: flB s1)) ++ flRB c2)
            simp
        refine wp.go [5, 204] 90 fun W C0 hW hC => ?_
        refine ⟨_, _, _, _, k.2.1, rfl, rfl, ?_⟩
        refine ⟨fun w => absurd w hxr, fun _ => ?_⟩
        refine ⟨_, _, _, _, k.1 x hxA, rfl, rfl, ?_⟩
        rw [hex]
        refine ⟨_, _, _, _, k.1 p hpA, rfl, rfl, ?_⟩
        rw [hcp]
        refine ⟨fun w => absurd rfl w, fun _ => ?_⟩
        refine hC _ _ _ (useE (wpd.up (by omega) (par_spec (d := 0) (v := some p) k (Or.inr ⟨x, rfl, hxA, hex.symm⟩))) ?_)
        refine hC _ _ _ (useE (wpd.up (by omega) (par_spec (d := 0) (v := some p) k (Or.inr ⟨x, rfl, hxA, hex.symm⟩))) ?_)
        refine hC _ _ _ (useE (wpd.up (by omega) (par_spec (d := 0) (v := some g) k (Or.inr ⟨p, rfl, hpA, epg.symm⟩))) ?_)
        refine hC _ _ _ (useE (wpd.up (by omega) (lef_spec (d := 0) (v := rtB s2) k (Or.inr ⟨g, rfl, hgA, by rw [gg]⟩))) ?_)
        refine ⟨fun _ => ?_, fun w => absurd w.symm ps2⟩
        refine hC _ _ _ (useE (wpd.up (by omega) (par_spec (d := 0) (v := some p) k (Or.inr ⟨x, rfl, hxA, hex.symm⟩))) ?_)
        refine hC _ _ _ (useE (wpd.up (by omega) (par_spec (d := 0) (v := some g) k (Or.inr ⟨p, rfl, hpA, epg.symm⟩))) ?_)
        refine hC _ _ _ (useE (wpd.up (by omega) (lef_spec (d := 0) (v := rtB s2) k (Or.inr ⟨g, rfl, hgA, by rw [gg]⟩))) ?_)
        cases es : rtB s2 with
        | none =>
          refine hC _ _ _ (useE (wpd.up (by omega) (col_spec (d := 0) (v := 1) k hc (Or.inl ⟨rfl, rfl⟩))) ?_)
          exact ⟨fun _ => hW _ (at97 _), fun w => absurd w (by decide)⟩
        | some b =>
          have hbm := rt_mem es
          have hbA : b ∈ A := by
            rw [← hA]
            cases d1 <;> simp [alB, flLB, flRB, hbm]
          refine hC _ _ _ (useE (wpd.up (by omega) (col_spec (d := 0) (v := C b) k hc (Or.inr ⟨b, rfl, hbA, rfl⟩))) ?_)
          refine ⟨fun _ => hW _ (at97 _), fun hcb => ?_⟩
          refine hC _ _ _ (useE (wpd.up (by omega) (par_spec (d := 0) (v := some p) k (Or.inr ⟨x, rfl, hxA, hex.symm⟩))) ?_)
          refine hC _ _ _ (use (wpd.up (by omega) (setC_spec (d := 0) k hpA (Or.inr rfl))) ?_)
          rintro _ H1 ⟨rfl, k1, o1⟩
          refine hC _ _ _ (use (wpd.up (by omega) (setC_spec (d := 0) k1 hbA (Or.inr rfl))) ?_)
          rintro _ H2 ⟨rfl, k2, o2⟩
          refine hC _ _ _ (useE (wpd.up (by omega) (par_spec (d := 0) (v := some p) k2 (Or.inr ⟨x, rfl, hxA, hex.symm⟩))) ?_)
          refine hC _ _ _ (useE (wpd.up (by omega) (par_spec (d := 0) (v := some g) k2 (Or.inr ⟨p, rfl, hpA, epg.symm⟩))) ?_)
          refine hC _ _ _ (use (wpd.up (by omega) (setC_spec (d := 0) k2 hgA (Or.inl rfl))) ?_)
          rintro _ H3 ⟨rfl, k3, o3⟩
          refine hC _ _ _ (useE (wpd.up (by omega) (par_spec (d := 0) (v := some p) k3 (Or.inr ⟨x, rfl, hxA, hex.symm⟩))) ?_)
          refine hC _ _ _ (useE (wpd.up (by omega) (par_spec (d := 0) (v := some g) k3 (Or.inr ⟨p, rfl, hpA, epg.symm⟩))) ?_)
          refine hW _ (ih M _ H3 c2 s2 _ g _ (by simp at hn; omega) k3 i2.1 eA (((hc.up (Or.inr rfl)).up (Or.inr rfl)).up (Or.inl rfl)) (((ho.trans o1).trans o2).trans o3) (fun hc2 ρ hρ' => ?_))
          have hρg : ρ ≠ g := by
            intro w
            obtain ⟨ρ', h1, h2⟩ := top_mem c2 (some g) hc2
            rw [hρ'] at h1
            cases h1
            refine nd_apart i2.1.2.2 (a := ρ) ?_ h2
            rw [w]
            show g ∈ flB s2 ++ g :: _
            simp
          rw [upn_ne _ _ hρg]
          by_cases w1 : ρ = b
          · rw [w1, up_eq]
          · rw [upn_ne _ _ w1]
            by_cases w2 : ρ = p
            · rw [w2, up_eq]
            · rw [upn_ne _ _ w2]
              exact hr (by simp) ρ hρ' 
end FIX
