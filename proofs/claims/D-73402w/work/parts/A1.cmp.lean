/-! BRANCHES are compared -/
theorem BrL_uniq {h : AH} : ∀ {t u : Tr} {qs : List (Option Nat)}, BrL h t qs → BrL h u qs → okT0 t → okT0 u → t = u
  | .var n, .var m, _, _, _, o1, o2 => by have o1 : n = 0 := o1; have o2 : m = 0 := o2; rw [o1, o2]
  | .var _, .op a b, qs, k1, ⟨x, p, r, q, k2, _, _⟩, _, _ => by have k1 : qs = [] := k1; rw [k1] at k2; cases k2
  | .op a b, .var _, qs, ⟨x, p, r, q, k2, _, _⟩, k1, _, _ => by have k1 : qs = [] := k1; rw [k1] at k2; cases k2
  | .op a b, .op c e, qs, ⟨x, p, r, q, k1, ⟨k2, k3, k4, k5, k6⟩, k7⟩, ⟨x', p', r', q', j1, ⟨j2, j3, j4, j5, j6⟩, j7⟩, o1, o2 => by
    rw [k1] at j1
    cases j1
    rw [k3] at j3
    have hp : p = p' := by
      have := congrArg (fun z => z.2[0]?) j3
      dsimp only [brF] at this
      simpa using this
    subst hp
    rw [k5] at j5
    cases j5
    rw [BrL_uniq k6 j6 o1.1 o2.1, BrL_uniq k7 j7 o1.2 o2.2]
theorem BrAt_uniq {h : AH} {x : Nat} {t u : Tr} (k1 : BrAt h x t) (k2 : BrAt h x u) (o1 : okT0 t) (o2 : okT0 u) : t = u := by
  obtain ⟨p, qs, a1, a2, a3, a4, a5⟩ := k1
  obtain ⟨p', qs', b1, b2, b3, b4, b5⟩ := k2
  rw [a2] at b2
  have hp : p = p' := by
    have := congrArg (fun z => z.2[0]?) b2
    dsimp only [brF] at this
    simpa using this
  subst hp
  rw [a4] at b4
  cases b4
  exact BrL_uniq a5 b5 o1 o2
abbrev lexL (l m : List Tr) : Int := lexT (mkT l) (mkT m)
theorem lexL_cons {a c : Tr} {l m : List Tr} : lexL (a :: l) (c :: m) = if cmpT a c = 0 then lexL l m else cmpT a c := lexT_op
theorem lexL_end {l m : List Tr} (h : l = [] ∨ m = []) : lexL l m = if ((l.length : Nat) : Int) < ((m.length : Nat) : Int) then -1 else if ((l.length : Nat) : Int) = ((m.length : Nat) : Int) then 0 else 1 := by
  cases l with
  | nil =>
    cases m with
    | nil => rfl
    | cons c m => rw [if_pos (by simp only [List.length_nil, List.length_cons]; omega)]; show lexT (.var 0) (.op c (mkT m)) = -1; rw [lexT]
  | cons a l =>
    cases m with
    | nil =>
      rw [if_neg (by simp only [List.length_nil, List.length_cons]; omega), if_neg (by simp only [List.length_nil, List.length_cons]; omega)]
      show lexT (.op a (mkT l)) (.var 0) = 1
      rw [lexT]
    | cons c m => rcases h with h | h <;> cases h
section CMP
variable {d : Nat} {h : AH}
theorem cmp_spec : ∀ (n : Nat) (t u : Tr) (x y : Nat), szT t ≤ n → okT0 t → okT0 u → szT t < 100000 → szT u < 100000 → BrAt h x t → BrAt h y u → wp (d + n + 1) 414 (0, ent 5 [vR (some x), vR (some y)], [], h) (gives h (cmpT t u)) := by
  intro n
  induction n with
  | zero => intro t u x y h1; have := sz_pos t; omega
  | succ n ih =>
    intro t u x y h1 ot ou hst hsu hx hy
    obtain ⟨p, qs, a1, a2, a3, a4, a5⟩ := id hx
    obtain ⟨p', qs', b1', b2, b3, b4, b5⟩ := id hy
    have lq := BrL_len a5
    have lq' := BrL_len b5
    have klen : ∀ v : Tr, okT0 v → (kidsT v).length < szT v := by
      intro v hv
      have hz := sz_mk (kidsT v)
      rw [mk_kids v hv] at hz
      have : ∀ l : List Tr, l.length ≤ (l.map szT).sum := by
        intro l
        induction l with
        | nil => exact Nat.le_refl _
        | cons a r ihr => have := sz_pos a; simp only [List.length_cons, List.map_cons, List.sum_cons]; omega
      have := this (kidsT v)
      omega
    have kt := klen t ot
    have ku := klen u ou
    unfold cmpT
    have loop : szT t = szT u → ∀ (j k : Nat) (x4 : Option AV), j + k = min (kidsT t).length (kidsT u).length → lexT t u = lexL ((kidsT t).drop k) ((kidsT u).drop k) → wp (d + (n + 1) + 1) 414 (44, [some (vR (some x)), some (vR (some y)), some (vI ((min (kidsT t).length (kidsT u).length : Nat) : Int)), some (vI ((k : Nat) : Int)), x4], [], h) (gives h (if szT t < szT u then -1 else if szT u < szT t then 1 else lexT t u)) := by
      intro hs j
      rw [if_neg (by omega), if_neg (by omega)]
      induction j with
      | zero =>
        intro k x4 hj he
        obtain rfl : k = min (kidsT t).length (kidsT u).length := by omega
        refine wp.go [44] 40 fun W C hW hC => ?_
        refine ⟨fun _ => ?_, fun c => absurd c (by omega)⟩
        refine ⟨_, _, _, _, a2, rfl, rfl, ?_⟩
        refine ⟨_, Or.inr ⟨_, _, a4, by decide, rfl⟩, ?_⟩
        refine ⟨_, _, _, _, b2, rfl, rfl, ?_⟩
        refine ⟨_, Or.inr ⟨_, _, b4, by decide, rfl⟩, ?_⟩
        rw [lq, lq']
        refine hC _ _ _ (use (wpd.up (show d + 1 ≤ d + (n + 1) by omega) (icomp_spec (d := d))) ?_); rintro _ _ ⟨rfl, rfl⟩
        rw [he, lexL_end (by
          by_cases c : (kidsT t).length ≤ (kidsT u).length
          · left; exact List.drop_eq_nil_of_le (by omega)
          · right; exact List.drop_eq_nil_of_le (by omega)), List.length_drop, List.length_drop]
        refine ⟨?_, rfl⟩
        congr 3
        have m1 := Nat.min_le_left (kidsT t).length (kidsT u).length
        have m2 := Nat.min_le_right (kidsT t).length (kidsT u).length
        generalize min (kidsT t).length (kidsT u).length = k at m1 m2
        have e1 : ((((kidsT t).length : Nat) : Int) < (((kidsT u).length : Nat) : Int)) = ((((kidsT t).length - k : Nat) : Int) < (((kidsT u).length - k : Nat) : Int)) := propext (by omega)
        have e2 : ((((kidsT t).length : Nat) : Int) = (((kidsT u).length : Nat) : Int)) = ((((kidsT t).length - k : Nat) : Int) = (((kidsT u).length - k : Nat) : Int)) := propext (by omega)
        simp only [e1, e2]
      | succ j ihj =>
        intro k x4 hj he
        have hkt : k < (kidsT t).length := by omega
        have hku : k < (kidsT u).length := by omega
        obtain ⟨z, z1, z2⟩ := BrL_at a5 k _ (List.getElem?_eq_getElem hkt)
        obtain ⟨w, w1, w2⟩ := BrL_at b5 k _ (List.getElem?_eq_getElem hku)
        have mt := List.getElem_mem hkt
        have mu := List.getElem_mem hku
        have st := sz_kid t _ mt
        have su := sz_kid u _ mu
        rw [List.drop_eq_getElem_cons hkt, List.drop_eq_getElem_cons hku, lexL_cons] at he
        refine wp.go [44] 60 fun W C hW hC => ?_
        refine ⟨fun c => absurd c (by omega), fun _ => ?_⟩
        refine ⟨_, _, _, _, a2, rfl, rfl, ?_⟩
        refine ⟨_, _, _, a4, by decide, by omega, by rw [Int.toNat_natCast]; exact z1, ?_⟩
        refine ⟨_, _, _, _, b2, rfl, rfl, ?_⟩
        refine ⟨_, _, _, b4, by decide, by omega, by rw [Int.toNat_natCast]; exact w1, ?_⟩
        refine ⟨_, _, _, z2.choose_spec.choose_spec.2.1, rfl, ?_⟩
        refine hC _ _ _ (use (ih _ _ z w (by omega) (ok_kid t ot _ mt) (ok_kid u ou _ mu) (by omega) (by omega) z2 w2) ?_); rintro _ _ ⟨rfl, rfl⟩
        refine ⟨fun c => ?_, fun c => ?_⟩
        · rw [if_pos c] at he
          (conv => whnf); simp (disch := omega) only [iadd_eq, isub_eq, imul_eq]
          exact hW _ (ihj (k + 1) _ (by omega) he)
        · rw [if_neg c] at he
          rw [he]
          exact ⟨rfl, rfl⟩
    refine wp.go [44] 60 fun W C hW hC => ?_
    refine ⟨_, _, _, _, a2, rfl, rfl, ?_⟩
    refine ⟨_, _, _, _, b2, rfl, rfl, ?_⟩
    refine ⟨fun c => ?_, fun c => ?_⟩
    · refine ⟨_, _, _, _, a2, rfl, rfl, ?_⟩
      refine ⟨_, Or.inr ⟨_, _, a4, by decide, rfl⟩, ?_⟩
      refine ⟨_, _, _, _, b2, rfl, rfl, ?_⟩
      refine ⟨_, Or.inr ⟨_, _, b4, by decide, rfl⟩, ?_⟩
      rw [lq, lq']
      refine hC _ _ _ (use (wpd.up (show d + 1 ≤ d + (n + 1) by omega) (min_spec (d := d))) ?_); rintro _ _ ⟨rfl, rfl⟩
      rw [show min (((kidsT t).length : Nat) : Int) (((kidsT u).length : Nat) : Int) = ((min (kidsT t).length (kidsT u).length : Nat) : Int) by omega]
      refine hW _ (loop (by omega) _ 0 none rfl ?_)
      rw [List.drop_zero, List.drop_zero]
      unfold lexL
      rw [mk_kids t ot, mk_kids u ou]
    · refine ⟨_, _, _, _, a2, rfl, rfl, ?_⟩
      refine ⟨_, _, _, _, b2, rfl, rfl, ?_⟩
      refine ⟨fun c2 => ?_, fun c2 => ?_⟩
      · rw [if_neg (by omega), if_pos (by omega)]
        exact ⟨rfl, rfl⟩
      · rw [if_pos (by omega)]
        exact ⟨rfl, rfl⟩
/-- a branch or a hydrogen -/
def OAt (h : AH) : Option Nat → Option Tr → Prop
  | none, none => True
  | some x, some t => BrAt h x t ∧ okT0 t ∧ szT t ≤ 16
  | _, _ => False
theorem cmp16 {t u : Tr} {x y : Nat} (hx : OAt h (some x) (some t)) (hy : OAt h (some y) (some u)) : wp (d + 17) 414 (0, ent 5 [vR (some x), vR (some y)], [], h) (gives h (cmpT t u)) :=
  cmp_spec 16 t u x y hx.2.2 hx.2.1 hy.2.1 (by have := hx.2.2; omega) (by have := hy.2.2; omega) hx.1 hy.1
theorem like_spec {r q : Option Nat} {o p : Option Tr} (h1 : OAt h r o) (h2 : OAt h q p) : wp (d + 18) 419 (0, ent 2 [vR r, vR q], [], h) (gives h (z01 (eqO o p))) := by
  cases r with
  | none =>
    cases o with
    | some t => exact absurd h1 id
    | none =>
      cases q with
      | none =>
        cases p with
        | some t => exact absurd h2 id
        | none =>
          refine wp.go [] 20 fun W C hW hC => ?_
          refine ⟨fun _ => ⟨Or.inr rfl, rfl, rfl⟩, fun c => absurd rfl c⟩
      | some y =>
        cases p with
        | none => exact absurd h2 id
        | some u =>
          refine wp.go [] 20 fun W C hW hC => ?_
          refine ⟨fun c => (by cases c), fun _ => ?_⟩
          exact ⟨Or.inl rfl, rfl, rfl⟩
  | some x =>
    cases o with
    | none => exact absurd h1 id
    | some t =>
      cases q with
      | none =>
        cases p with
        | some t => exact absurd h2 id
        | none =>
          refine wp.go [] 20 fun W C hW hC => ?_
          refine ⟨fun c => (by cases c), fun _ => ?_⟩
          exact ⟨Or.inl rfl, rfl, rfl⟩
      | some y =>
        cases p with
        | none => exact absurd h2 id
        | some u =>
          refine wp.go [] 30 fun W C hW hC => ?_
          refine ⟨fun c => ?_, fun _ => ?_⟩
          · cases c
            have := BrAt_uniq h1.1 h2.1 h1.2.1 h2.2.1
            subst this
            refine ⟨Or.inr rfl, ?_, rfl⟩
            show _ = Sum.inl (some (vI (z01 (eqT t t))))
            rw [eqT_self]; rfl
          · refine ⟨_, _, _, h1.1.choose_spec.choose_spec.2.1, rfl, ?_⟩
            refine hC _ _ _ (use (cmp16 h1 h2) ?_); rintro _ _ ⟨rfl, rfl⟩
            refine ⟨fun c => ⟨Or.inl rfl, ?_, rfl⟩, fun c => ⟨Or.inr rfl, ?_, rfl⟩⟩
            · show _ = Sum.inl (some (vI (z01 (eqT t u))))
              unfold eqT
              rw [decide_eq_false c]; rfl
            · show _ = Sum.inl (some (vI (z01 (eqT t u))))
              unfold eqT
              rw [decide_eq_true c]; rfl
end CMP
