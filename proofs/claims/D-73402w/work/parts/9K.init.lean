/-! THE TWIN's CONSTRUCTOR -/
def slN : Nat → Nat
  | 0 => 0
  | k + 1 => slN k + ln (k + 1)
def ihp (h : AH) (M sl k : Nat) (fs : List AV) : AH := (M + (k + 1), sl + slN k, fun a => if M < a ∧ a ≤ M + k then (tg (a - M), List.replicate (ln (a - M)) 0) else h.I a, h.R, fun a => if a = M then (3, fs) else h.F a, h.S)
section INIT
variable {d : Nat} {h : AH} {M sl : Nat} {fs fs' : List AV}
theorem ihF {k : Nat} : (ihp h M sl k fs).F M = (3, fs) := if_pos rfl
theorem ih_new {k : Nat} : (ihp h M sl k fs).newI (tg (k + 1)) (List.replicate (ln (k + 1)) 0) = ihp h M sl (k + 1) fs := by
  have e : va_up (ihp h M sl k fs).I (M + (k + 1)) (tg (k + 1), List.replicate (ln (k + 1)) 0) = (ihp h M sl (k + 1) fs).I := by
    funext a
    show (if a = M + (k + 1) then (tg (k + 1), List.replicate (ln (k + 1)) 0) else if M < a ∧ a ≤ M + k then (tg (a - M), List.replicate (ln (a - M)) 0) else h.I a) = if M < a ∧ a ≤ M + (k + 1) then (tg (a - M), List.replicate (ln (a - M)) 0) else h.I a
    by_cases c : a = M + (k + 1)
    · subst c
      rw [if_pos rfl, if_pos ⟨by omega, by omega⟩, Nat.add_sub_cancel_left]
    · rw [if_neg c]
      by_cases c2 : M < a ∧ a ≤ M + k
      · rw [if_pos c2, if_pos ⟨c2.1, by omega⟩]
      · rw [if_neg c2, if_neg (by omega)]
  show (M + (k + 1) + 1, sl + slN k + (List.replicate (ln (k + 1)) (0 : Int)).length, va_up (ihp h M sl k fs).I (M + (k + 1)) (tg (k + 1), List.replicate (ln (k + 1)) 0), h.R, (ihp h M sl k fs).F, h.S) = _
  rw [e, List.length_replicate, Nat.add_assoc sl]
  rfl
theorem ih_put {k : Nat} : (ihp h M sl k fs).setF M fs' = ihp h M sl k fs' := by
  have e : va_up (ihp h M sl k fs).F M (((ihp h M sl k fs).F M).1, fs') = (ihp h M sl k fs').F := by
    rw [ihF]
    funext a
    show (if a = M then (3, fs') else if a = M then (3, fs) else h.F a) = if a = M then (3, fs') else h.F a
    by_cases c : a = M
    · rw [if_pos c, if_pos c]
    · rw [if_neg c, if_neg c, if_neg c]
  show ((ihp h M sl k fs).1, (ihp h M sl k fs).2.1, (ihp h M sl k fs).I, (ihp h M sl k fs).R, va_up (ihp h M sl k fs).F M (((ihp h M sl k fs).F M).1, fs'), (ihp h M sl k fs).S) = _
  rw [e]
  rfl
theorem ih_start {fs0 : List AV} (hF : h.F M = (3, fs0)) (hs : h.sz = M + 1) : h = ihp h M h.sl 0 fs0 := by
  have e1 : (fun a => if M < a ∧ a ≤ M + 0 then (tg (a - M), List.replicate (ln (a - M)) 0) else h.I a) = h.I := by
    funext a
    rw [if_neg (by omega)]
  have e2 : (fun a => if a = M then (3, fs0) else h.F a) = h.F := by
    funext a
    by_cases c : a = M
    · rw [if_pos c, c, hF]
    · rw [if_neg c]
  unfold ihp
  rw [e1, e2, ← hs]
  rfl
abbrev fs3 : List AV := [vR none, vR none, vI 0, vR none, vR none, vR none, vI 0, vI 0, vI 0, vR none, vR none, vR none, vR none, vI 0, vI 0, vR none, vR none, vR none, vR none, vR none, vR none, vR none, vR none, vR none, vR none, vR none, vR none, vI 0, vR none, vR none, vR none, vR none, vR none, vR none, vR none, vR none, vR none, vR none, vI 0, vR none, vR none, vR none, vR none, vR none, vI 0, vR none, vR none, vR none, vL 0, vL 0, vL 0, vL 0, vR none, vR none, vR none, vI 0, vR none, vI 0, vR none, vR none]
def A00 (j : Nat) : List Int := cond (Nat.beq j 1) ((List.replicate 17 0).set 0 1) (List.replicate (ln j) 0)
def twNew (h : AH) (M : Nat) : AH := tw (M + 46, h.sl + slN 45, h.I, h.R, h.F, h.S) M A00 (fun _ => 0)
theorem init_0 {Q : Rs → AH → Prop} (hQ : wp (d + 1) 268 (76, [some (vR (some M))], [], ihp h M sl 9 [vR (some (M + 1)), vR (some (M + 2)), vI 0, vR (some (M + 3)), vR (some (M + 4)), vR (some (M + 5)), vI 0, vI 0, vI 0, vR (some (M + 6)), vR (some (M + 7)), vR (some (M + 8)), vR (some (M + 9)), vI 0, vI 0, vR none, vR none, vR none, vR none, vR none, vR none, vR none, vR none, vR none, vR none, vR none, vR none, vI 0, vR none, vR none, vR none, vR none, vR none, vR none, vR none, vR none, vR none, vR none, vI 0, vR none, vR none, vR none, vR none, vR none, vI 0, vR none, vR none, vR none, vL 0, vL 0, vL 0, vL 0, vR none, vR none, vR none, vI 0, vR none, vI 0, vR none, vR none]) Q) : wp (d + 1) 268 (4, [some (vR (some M))], [], ihp h M sl 0 [vR none, vR none, vI 0, vR none, vR none, vR none, vI 0, vI 0, vI 0, vR none, vR none, vR none, vR none, vI 0, vI 0, vR none, vR none, vR none, vR none, vR none, vR none, vR none, vR none, vR none, vR none, vR none, vR none, vI 0, vR none, vR none, vR none, vR none, vR none, vR none, vR none, vR none, vR none, vR none, vI 0, vR none, vR none, vR none, vR none, vR none, vI 0, vR none, vR none, vR none, vL 0, vL 0, vL 0, vL 0, vR none, vR none, vR none, vI 0, vR none, vI 0, vR none, vR none]) Q := by
  refine wp.go [76] 60 fun W C hW hC => ?_
  refine ⟨by decide, by decide, ?_⟩
  rw [show ∀ x : AH, x.newI 1 (List.replicate (Int.toNat 17) 0) = x.newI (tg (0 + 1)) (List.replicate (ln (0 + 1)) 0) from fun _ => rfl, ih_new]
  refine ⟨_, _, _, ihF, rfl, (Nat.le_of_ble_eq_true rfl), ?_⟩
  rw [ih_put]
  refine ⟨by decide, by decide, ?_⟩
  rw [show ∀ x : AH, x.newI 1 (List.replicate (Int.toNat 204) 0) = x.newI (tg (1 + 1)) (List.replicate (ln (1 + 1)) 0) from fun _ => rfl, ih_new]
  refine ⟨_, _, _, ihF, rfl, (Nat.le_of_ble_eq_true rfl), ?_⟩
  rw [ih_put]
  refine ⟨by decide, by decide, ?_⟩
  rw [show ∀ x : AH, x.newI 1 (List.replicate (Int.toNat 51) 0) = x.newI (tg (2 + 1)) (List.replicate (ln (2 + 1)) 0) from fun _ => rfl, ih_new]
  refine ⟨_, _, _, ihF, rfl, (Nat.le_of_ble_eq_true rfl), ?_⟩
  rw [ih_put]
  refine ⟨by decide, by decide, ?_⟩
  rw [show ∀ x : AH, x.newI 4 (List.replicate (Int.toNat 3) 0) = x.newI (tg (3 + 1)) (List.replicate (ln (3 + 1)) 0) from fun _ => rfl, ih_new]
  refine ⟨_, _, _, ihF, rfl, (Nat.le_of_ble_eq_true rfl), ?_⟩
  rw [ih_put]
  refine ⟨by decide, by decide, ?_⟩
  rw [show ∀ x : AH, x.newI 3 (List.replicate (Int.toNat 120) 0) = x.newI (tg (4 + 1)) (List.replicate (ln (4 + 1)) 0) from fun _ => rfl, ih_new]
  refine ⟨_, _, _, ihF, rfl, (Nat.le_of_ble_eq_true rfl), ?_⟩
  rw [ih_put]
  refine ⟨by decide, by decide, ?_⟩
  rw [show ∀ x : AH, x.newI 1 (List.replicate (Int.toNat 17) 0) = x.newI (tg (5 + 1)) (List.replicate (ln (5 + 1)) 0) from fun _ => rfl, ih_new]
  refine ⟨_, _, _, ihF, rfl, (Nat.le_of_ble_eq_true rfl), ?_⟩
  rw [ih_put]
  refine ⟨by decide, by decide, ?_⟩
  rw [show ∀ x : AH, x.newI 1 (List.replicate (Int.toNat 20) 0) = x.newI (tg (6 + 1)) (List.replicate (ln (6 + 1)) 0) from fun _ => rfl, ih_new]
  refine ⟨_, _, _, ihF, rfl, (Nat.le_of_ble_eq_true rfl), ?_⟩
  rw [ih_put]
  refine ⟨by decide, by decide, ?_⟩
  rw [show ∀ x : AH, x.newI 1 (List.replicate (Int.toNat 20) 0) = x.newI (tg (7 + 1)) (List.replicate (ln (7 + 1)) 0) from fun _ => rfl, ih_new]
  refine ⟨_, _, _, ihF, rfl, (Nat.le_of_ble_eq_true rfl), ?_⟩
  rw [ih_put]
  refine ⟨by decide, by decide, ?_⟩
  rw [show ∀ x : AH, x.newI 1 (List.replicate (Int.toNat 20) 0) = x.newI (tg (8 + 1)) (List.replicate (ln (8 + 1)) 0) from fun _ => rfl, ih_new]
  refine ⟨_, _, _, ihF, rfl, (Nat.le_of_ble_eq_true rfl), ?_⟩
  rw [ih_put]
  exact hW _ hQ
theorem init_9 {Q : Rs → AH → Prop} (hQ : wp (d + 1) 268 (150, [some (vR (some M))], [], ihp h M sl 18 [vR (some (M + 1)), vR (some (M + 2)), vI 0, vR (some (M + 3)), vR (some (M + 4)), vR (some (M + 5)), vI 0, vI 0, vI 0, vR (some (M + 6)), vR (some (M + 7)), vR (some (M + 8)), vR (some (M + 9)), vI 0, vI 0, vR (some (M + 10)), vR (some (M + 11)), vR (some (M + 12)), vR (some (M + 13)), vR (some (M + 14)), vR (some (M + 15)), vR (some (M + 16)), vR (some (M + 17)), vR (some (M + 18)), vR none, vR none, vR none, vI 0, vR none, vR none, vR none, vR none, vR none, vR none, vR none, vR none, vR none, vR none, vI 0, vR none, vR none, vR none, vR none, vR none, vI 0, vR none, vR none, vR none, vL 0, vL 0, vL 0, vL 0, vR none, vR none, vR none, vI 0, vR none, vI 0, vR none, vR none]) Q) : wp (d + 1) 268 (76, [some (vR (some M))], [], ihp h M sl 9 [vR (some (M + 1)), vR (some (M + 2)), vI 0, vR (some (M + 3)), vR (some (M + 4)), vR (some (M + 5)), vI 0, vI 0, vI 0, vR (some (M + 6)), vR (some (M + 7)), vR (some (M + 8)), vR (some (M + 9)), vI 0, vI 0, vR none, vR none, vR none, vR none, vR none, vR none, vR none, vR none, vR none, vR none, vR none, vR none, vI 0, vR none, vR none, vR none, vR none, vR none, vR none, vR none, vR none, vR none, vR none, vI 0, vR none, vR none, vR none, vR none, vR none, vI 0, vR none, vR none, vR none, vL 0, vL 0, vL 0, vL 0, vR none, vR none, vR none, vI 0, vR none, vI 0, vR none, vR none]) Q := by
  refine wp.go [150] 60 fun W C hW hC => ?_
  refine ⟨by decide, by decide, ?_⟩
  rw [show ∀ x : AH, x.newI 1 (List.replicate (Int.toNat 64) 0) = x.newI (tg (9 + 1)) (List.replicate (ln (9 + 1)) 0) from fun _ => rfl, ih_new]
  refine ⟨_, _, _, ihF, rfl, (Nat.le_of_ble_eq_true rfl), ?_⟩
  rw [ih_put]
  refine ⟨by decide, by decide, ?_⟩
  rw [show ∀ x : AH, x.newI 1 (List.replicate (Int.toNat 256) 0) = x.newI (tg (10 + 1)) (List.replicate (ln (10 + 1)) 0) from fun _ => rfl, ih_new]
  refine ⟨_, _, _, ihF, rfl, (Nat.le_of_ble_eq_true rfl), ?_⟩
  rw [ih_put]
  refine ⟨by decide, by decide, ?_⟩
  rw [show ∀ x : AH, x.newI 1 (List.replicate (Int.toNat 64) 0) = x.newI (tg (11 + 1)) (List.replicate (ln (11 + 1)) 0) from fun _ => rfl, ih_new]
  refine ⟨_, _, _, ihF, rfl, (Nat.le_of_ble_eq_true rfl), ?_⟩
  rw [ih_put]
  refine ⟨by decide, by decide, ?_⟩
  rw [show ∀ x : AH, x.newI 1 (List.replicate (Int.toNat 64) 0) = x.newI (tg (12 + 1)) (List.replicate (ln (12 + 1)) 0) from fun _ => rfl, ih_new]
  refine ⟨_, _, _, ihF, rfl, (Nat.le_of_ble_eq_true rfl), ?_⟩
  rw [ih_put]
  refine ⟨by decide, by decide, ?_⟩
  rw [show ∀ x : AH, x.newI 2 (List.replicate (Int.toNat 64) 0) = x.newI (tg (13 + 1)) (List.replicate (ln (13 + 1)) 0) from fun _ => rfl, ih_new]
  refine ⟨_, _, _, ihF, rfl, (Nat.le_of_ble_eq_true rfl), ?_⟩
  rw [ih_put]
  refine ⟨by decide, by decide, ?_⟩
  rw [show ∀ x : AH, x.newI 2 (List.replicate (Int.toNat 64) 0) = x.newI (tg (14 + 1)) (List.replicate (ln (14 + 1)) 0) from fun _ => rfl, ih_new]
  refine ⟨_, _, _, ihF, rfl, (Nat.le_of_ble_eq_true rfl), ?_⟩
  rw [ih_put]
  refine ⟨by decide, by decide, ?_⟩
  rw [show ∀ x : AH, x.newI 2 (List.replicate (Int.toNat 64) 0) = x.newI (tg (15 + 1)) (List.replicate (ln (15 + 1)) 0) from fun _ => rfl, ih_new]
  refine ⟨_, _, _, ihF, rfl, (Nat.le_of_ble_eq_true rfl), ?_⟩
  rw [ih_put]
  refine ⟨by decide, by decide, ?_⟩
  rw [show ∀ x : AH, x.newI 1 (List.replicate (Int.toNat 256) 0) = x.newI (tg (16 + 1)) (List.replicate (ln (16 + 1)) 0) from fun _ => rfl, ih_new]
  refine ⟨_, _, _, ihF, rfl, (Nat.le_of_ble_eq_true rfl), ?_⟩
  rw [ih_put]
  refine ⟨by decide, by decide, ?_⟩
  rw [show ∀ x : AH, x.newI 1 (List.replicate (Int.toNat 17) 0) = x.newI (tg (17 + 1)) (List.replicate (ln (17 + 1)) 0) from fun _ => rfl, ih_new]
  refine ⟨_, _, _, ihF, rfl, (Nat.le_of_ble_eq_true rfl), ?_⟩
  rw [ih_put]
  exact hW _ hQ
theorem init_18 {Q : Rs → AH → Prop} (hQ : wp (d + 1) 268 (221, [some (vR (some M))], [], ihp h M sl 27 [vR (some (M + 1)), vR (some (M + 2)), vI 0, vR (some (M + 3)), vR (some (M + 4)), vR (some (M + 5)), vI 0, vI 0, vI 0, vR (some (M + 6)), vR (some (M + 7)), vR (some (M + 8)), vR (some (M + 9)), vI 0, vI 0, vR (some (M + 10)), vR (some (M + 11)), vR (some (M + 12)), vR (some (M + 13)), vR (some (M + 14)), vR (some (M + 15)), vR (some (M + 16)), vR (some (M + 17)), vR (some (M + 18)), vR (some (M + 19)), vR (some (M + 20)), vR (some (M + 21)), vI 0, vR (some (M + 22)), vR (some (M + 23)), vR (some (M + 24)), vR (some (M + 25)), vR (some (M + 26)), vR (some (M + 27)), vR none, vR none, vR none, vR none, vI 0, vR none, vR none, vR none, vR none, vR none, vI 0, vR none, vR none, vR none, vL 0, vL 0, vL 0, vL 0, vR none, vR none, vR none, vI 0, vR none, vI 0, vR none, vR none]) Q) : wp (d + 1) 268 (150, [some (vR (some M))], [], ihp h M sl 18 [vR (some (M + 1)), vR (some (M + 2)), vI 0, vR (some (M + 3)), vR (some (M + 4)), vR (some (M + 5)), vI 0, vI 0, vI 0, vR (some (M + 6)), vR (some (M + 7)), vR (some (M + 8)), vR (some (M + 9)), vI 0, vI 0, vR (some (M + 10)), vR (some (M + 11)), vR (some (M + 12)), vR (some (M + 13)), vR (some (M + 14)), vR (some (M + 15)), vR (some (M + 16)), vR (some (M + 17)), vR (some (M + 18)), vR none, vR none, vR none, vI 0, vR none, vR none, vR none, vR none, vR none, vR none, vR none, vR none, vR none, vR none, vI 0, vR none, vR none, vR none, vR none, vR none, vI 0, vR none, vR none, vR none, vL 0, vL 0, vL 0, vL 0, vR none, vR none, vR none, vI 0, vR none, vI 0, vR none, vR none]) Q := by
  refine wp.go [221] 60 fun W C hW hC => ?_
  refine ⟨by decide, by decide, ?_⟩
  rw [show ∀ x : AH, x.newI 1 (List.replicate (Int.toNat 272) 0) = x.newI (tg (18 + 1)) (List.replicate (ln (18 + 1)) 0) from fun _ => rfl, ih_new]
  refine ⟨_, _, _, ihF, rfl, (Nat.le_of_ble_eq_true rfl), ?_⟩
  rw [ih_put]
  refine ⟨by decide, by decide, ?_⟩
  rw [show ∀ x : AH, x.newI 1 (List.replicate (Int.toNat 272) 0) = x.newI (tg (19 + 1)) (List.replicate (ln (19 + 1)) 0) from fun _ => rfl, ih_new]
  refine ⟨_, _, _, ihF, rfl, (Nat.le_of_ble_eq_true rfl), ?_⟩
  rw [ih_put]
  refine ⟨by decide, by decide, ?_⟩
  rw [show ∀ x : AH, x.newI 1 (List.replicate (Int.toNat 4) 0) = x.newI (tg (20 + 1)) (List.replicate (ln (20 + 1)) 0) from fun _ => rfl, ih_new]
  refine ⟨_, _, _, ihF, rfl, (Nat.le_of_ble_eq_true rfl), ?_⟩
  rw [ih_put]
  refine ⟨by decide, by decide, ?_⟩
  rw [show ∀ x : AH, x.newI 1 (List.replicate (Int.toNat 4) 0) = x.newI (tg (21 + 1)) (List.replicate (ln (21 + 1)) 0) from fun _ => rfl, ih_new]
  refine ⟨_, _, _, ihF, rfl, (Nat.le_of_ble_eq_true rfl), ?_⟩
  rw [ih_put]
  refine ⟨by decide, by decide, ?_⟩
  rw [show ∀ x : AH, x.newI 1 (List.replicate (Int.toNat 4) 0) = x.newI (tg (22 + 1)) (List.replicate (ln (22 + 1)) 0) from fun _ => rfl, ih_new]
  refine ⟨_, _, _, ihF, rfl, (Nat.le_of_ble_eq_true rfl), ?_⟩
  rw [ih_put]
  refine ⟨by decide, by decide, ?_⟩
  rw [show ∀ x : AH, x.newI 1 (List.replicate (Int.toNat 4) 0) = x.newI (tg (23 + 1)) (List.replicate (ln (23 + 1)) 0) from fun _ => rfl, ih_new]
  refine ⟨_, _, _, ihF, rfl, (Nat.le_of_ble_eq_true rfl), ?_⟩
  rw [ih_put]
  refine ⟨by decide, by decide, ?_⟩
  rw [show ∀ x : AH, x.newI 1 (List.replicate (Int.toNat 256) 0) = x.newI (tg (24 + 1)) (List.replicate (ln (24 + 1)) 0) from fun _ => rfl, ih_new]
  refine ⟨_, _, _, ihF, rfl, (Nat.le_of_ble_eq_true rfl), ?_⟩
  rw [ih_put]
  refine ⟨by decide, by decide, ?_⟩
  rw [show ∀ x : AH, x.newI 1 (List.replicate (Int.toNat 16) 0) = x.newI (tg (25 + 1)) (List.replicate (ln (25 + 1)) 0) from fun _ => rfl, ih_new]
  refine ⟨_, _, _, ihF, rfl, (Nat.le_of_ble_eq_true rfl), ?_⟩
  rw [ih_put]
  refine ⟨by decide, by decide, ?_⟩
  rw [show ∀ x : AH, x.newI 1 (List.replicate (Int.toNat 64) 0) = x.newI (tg (26 + 1)) (List.replicate (ln (26 + 1)) 0) from fun _ => rfl, ih_new]
  refine ⟨_, _, _, ihF, rfl, (Nat.le_of_ble_eq_true rfl), ?_⟩
  rw [ih_put]
  exact hW _ hQ
theorem init_27 {Q : Rs → AH → Prop} (hQ : wp (d + 1) 268 (294, [some (vR (some M))], [], ihp h M sl 36 [vR (some (M + 1)), vR (some (M + 2)), vI 0, vR (some (M + 3)), vR (some (M + 4)), vR (some (M + 5)), vI 0, vI 0, vI 0, vR (some (M + 6)), vR (some (M + 7)), vR (some (M + 8)), vR (some (M + 9)), vI 0, vI 0, vR (some (M + 10)), vR (some (M + 11)), vR (some (M + 12)), vR (some (M + 13)), vR (some (M + 14)), vR (some (M + 15)), vR (some (M + 16)), vR (some (M + 17)), vR (some (M + 18)), vR (some (M + 19)), vR (some (M + 20)), vR (some (M + 21)), vI 0, vR (some (M + 22)), vR (some (M + 23)), vR (some (M + 24)), vR (some (M + 25)), vR (some (M + 26)), vR (some (M + 27)), vR (some (M + 28)), vR (some (M + 29)), vR (some (M + 30)), vR (some (M + 31)), vI 0, vR (some (M + 32)), vR (some (M + 33)), vR (some (M + 34)), vR (some (M + 35)), vR (some (M + 36)), vI 0, vR none, vR none, vR none, vL 0, vL 0, vL 0, vL 0, vR none, vR none, vR none, vI 0, vR none, vI 0, vR none, vR none]) Q) : wp (d + 1) 268 (221, [some (vR (some M))], [], ihp h M sl 27 [vR (some (M + 1)), vR (some (M + 2)), vI 0, vR (some (M + 3)), vR (some (M + 4)), vR (some (M + 5)), vI 0, vI 0, vI 0, vR (some (M + 6)), vR (some (M + 7)), vR (some (M + 8)), vR (some (M + 9)), vI 0, vI 0, vR (some (M + 10)), vR (some (M + 11)), vR (some (M + 12)), vR (some (M + 13)), vR (some (M + 14)), vR (some (M + 15)), vR (some (M + 16)), vR (some (M + 17)), vR (some (M + 18)), vR (some (M + 19)), vR (some (M + 20)), vR (some (M + 21)), vI 0, vR (some (M + 22)), vR (some (M + 23)), vR (some (M + 24)), vR (some (M + 25)), vR (some (M + 26)), vR (some (M + 27)), vR none, vR none, vR none, vR none, vI 0, vR none, vR none, vR none, vR none, vR none, vI 0, vR none, vR none, vR none, vL 0, vL 0, vL 0, vL 0, vR none, vR none, vR none, vI 0, vR none, vI 0, vR none, vR none]) Q := by
  refine wp.go [294] 60 fun W C hW hC => ?_
  refine ⟨by decide, by decide, ?_⟩
  rw [show ∀ x : AH, x.newI 1 (List.replicate (Int.toNat 64) 0) = x.newI (tg (27 + 1)) (List.replicate (ln (27 + 1)) 0) from fun _ => rfl, ih_new]
  refine ⟨_, _, _, ihF, rfl, (Nat.le_of_ble_eq_true rfl), ?_⟩
  rw [ih_put]
  refine ⟨by decide, by decide, ?_⟩
  rw [show ∀ x : AH, x.newI 1 (List.replicate (Int.toNat 12) 0) = x.newI (tg (28 + 1)) (List.replicate (ln (28 + 1)) 0) from fun _ => rfl, ih_new]
  refine ⟨_, _, _, ihF, rfl, (Nat.le_of_ble_eq_true rfl), ?_⟩
  rw [ih_put]
  refine ⟨by decide, by decide, ?_⟩
  rw [show ∀ x : AH, x.newI 1 (List.replicate (Int.toNat 12) 0) = x.newI (tg (29 + 1)) (List.replicate (ln (29 + 1)) 0) from fun _ => rfl, ih_new]
  refine ⟨_, _, _, ihF, rfl, (Nat.le_of_ble_eq_true rfl), ?_⟩
  rw [ih_put]
  refine ⟨by decide, by decide, ?_⟩
  rw [show ∀ x : AH, x.newI 1 (List.replicate (Int.toNat 3200) 0) = x.newI (tg (30 + 1)) (List.replicate (ln (30 + 1)) 0) from fun _ => rfl, ih_new]
  refine ⟨_, _, _, ihF, rfl, (Nat.le_of_ble_eq_true rfl), ?_⟩
  rw [ih_put]
  refine ⟨by decide, by decide, ?_⟩
  rw [show ∀ x : AH, x.newI 1 (List.replicate (Int.toNat 17) 0) = x.newI (tg (31 + 1)) (List.replicate (ln (31 + 1)) 0) from fun _ => rfl, ih_new]
  refine ⟨_, _, _, ihF, rfl, (Nat.le_of_ble_eq_true rfl), ?_⟩
  rw [ih_put]
  refine ⟨by decide, by decide, ?_⟩
  rw [show ∀ x : AH, x.newI 1 (List.replicate (Int.toNat 16) 0) = x.newI (tg (32 + 1)) (List.replicate (ln (32 + 1)) 0) from fun _ => rfl, ih_new]
  refine ⟨_, _, _, ihF, rfl, (Nat.le_of_ble_eq_true rfl), ?_⟩
  rw [ih_put]
  refine ⟨by decide, by decide, ?_⟩
  rw [show ∀ x : AH, x.newI 2 (List.replicate (Int.toNat 41) 0) = x.newI (tg (33 + 1)) (List.replicate (ln (33 + 1)) 0) from fun _ => rfl, ih_new]
  refine ⟨_, _, _, ihF, rfl, (Nat.le_of_ble_eq_true rfl), ?_⟩
  rw [ih_put]
  refine ⟨by decide, by decide, ?_⟩
  rw [show ∀ x : AH, x.newI 2 (List.replicate (Int.toNat 41) 0) = x.newI (tg (34 + 1)) (List.replicate (ln (34 + 1)) 0) from fun _ => rfl, ih_new]
  refine ⟨_, _, _, ihF, rfl, (Nat.le_of_ble_eq_true rfl), ?_⟩
  rw [ih_put]
  refine ⟨by decide, by decide, ?_⟩
  rw [show ∀ x : AH, x.newI 2 (List.replicate (Int.toNat 41) 0) = x.newI (tg (35 + 1)) (List.replicate (ln (35 + 1)) 0) from fun _ => rfl, ih_new]
  refine ⟨_, _, _, ihF, rfl, (Nat.le_of_ble_eq_true rfl), ?_⟩
  rw [ih_put]
  exact hW _ hQ
theorem init_36 {Q : Rs → AH → Prop} (hQ : wp (d + 1) 268 (366, [some (vR (some M))], [], ihp h M sl 45 [vR (some (M + 1)), vR (some (M + 2)), vI 0, vR (some (M + 3)), vR (some (M + 4)), vR (some (M + 5)), vI 0, vI 0, vI 0, vR (some (M + 6)), vR (some (M + 7)), vR (some (M + 8)), vR (some (M + 9)), vI 0, vI 0, vR (some (M + 10)), vR (some (M + 11)), vR (some (M + 12)), vR (some (M + 13)), vR (some (M + 14)), vR (some (M + 15)), vR (some (M + 16)), vR (some (M + 17)), vR (some (M + 18)), vR (some (M + 19)), vR (some (M + 20)), vR (some (M + 21)), vI 0, vR (some (M + 22)), vR (some (M + 23)), vR (some (M + 24)), vR (some (M + 25)), vR (some (M + 26)), vR (some (M + 27)), vR (some (M + 28)), vR (some (M + 29)), vR (some (M + 30)), vR (some (M + 31)), vI 0, vR (some (M + 32)), vR (some (M + 33)), vR (some (M + 34)), vR (some (M + 35)), vR (some (M + 36)), vI 0, vR (some (M + 37)), vR (some (M + 38)), vR (some (M + 39)), vL 0, vL 0, vL 0, vL 0, vR (some (M + 40)), vR (some (M + 41)), vR (some (M + 42)), vI 0, vR (some (M + 43)), vI 0, vR (some (M + 44)), vR (some (M + 45))]) Q) : wp (d + 1) 268 (294, [some (vR (some M))], [], ihp h M sl 36 [vR (some (M + 1)), vR (some (M + 2)), vI 0, vR (some (M + 3)), vR (some (M + 4)), vR (some (M + 5)), vI 0, vI 0, vI 0, vR (some (M + 6)), vR (some (M + 7)), vR (some (M + 8)), vR (some (M + 9)), vI 0, vI 0, vR (some (M + 10)), vR (some (M + 11)), vR (some (M + 12)), vR (some (M + 13)), vR (some (M + 14)), vR (some (M + 15)), vR (some (M + 16)), vR (some (M + 17)), vR (some (M + 18)), vR (some (M + 19)), vR (some (M + 20)), vR (some (M + 21)), vI 0, vR (some (M + 22)), vR (some (M + 23)), vR (some (M + 24)), vR (some (M + 25)), vR (some (M + 26)), vR (some (M + 27)), vR (some (M + 28)), vR (some (M + 29)), vR (some (M + 30)), vR (some (M + 31)), vI 0, vR (some (M + 32)), vR (some (M + 33)), vR (some (M + 34)), vR (some (M + 35)), vR (some (M + 36)), vI 0, vR none, vR none, vR none, vL 0, vL 0, vL 0, vL 0, vR none, vR none, vR none, vI 0, vR none, vI 0, vR none, vR none]) Q := by
  refine wp.go [366] 60 fun W C hW hC => ?_
  refine ⟨by decide, by decide, ?_⟩
  rw [show ∀ x : AH, x.newI 2 (List.replicate (Int.toNat 41) 0) = x.newI (tg (36 + 1)) (List.replicate (ln (36 + 1)) 0) from fun _ => rfl, ih_new]
  refine ⟨_, _, _, ihF, rfl, (Nat.le_of_ble_eq_true rfl), ?_⟩
  rw [ih_put]
  refine ⟨by decide, by decide, ?_⟩
  rw [show ∀ x : AH, x.newI 2 (List.replicate (Int.toNat 41) 0) = x.newI (tg (37 + 1)) (List.replicate (ln (37 + 1)) 0) from fun _ => rfl, ih_new]
  refine ⟨_, _, _, ihF, rfl, (Nat.le_of_ble_eq_true rfl), ?_⟩
  rw [ih_put]
  refine ⟨by decide, by decide, ?_⟩
  rw [show ∀ x : AH, x.newI 1 (List.replicate (Int.toNat 4) 0) = x.newI (tg (38 + 1)) (List.replicate (ln (38 + 1)) 0) from fun _ => rfl, ih_new]
  refine ⟨_, _, _, ihF, rfl, (Nat.le_of_ble_eq_true rfl), ?_⟩
  rw [ih_put]
  refine ⟨by decide, by decide, ?_⟩
  rw [show ∀ x : AH, x.newI 3 (List.replicate (Int.toNat 24576) 0) = x.newI (tg (39 + 1)) (List.replicate (ln (39 + 1)) 0) from fun _ => rfl, ih_new]
  refine ⟨_, _, _, ihF, rfl, (Nat.le_of_ble_eq_true rfl), ?_⟩
  rw [ih_put]
  refine ⟨by decide, by decide, ?_⟩
  rw [show ∀ x : AH, x.newI 1 (List.replicate (Int.toNat 256) 0) = x.newI (tg (40 + 1)) (List.replicate (ln (40 + 1)) 0) from fun _ => rfl, ih_new]
  refine ⟨_, _, _, ihF, rfl, (Nat.le_of_ble_eq_true rfl), ?_⟩
  rw [ih_put]
  refine ⟨by decide, by decide, ?_⟩
  rw [show ∀ x : AH, x.newI 3 (List.replicate (Int.toNat 96) 0) = x.newI (tg (41 + 1)) (List.replicate (ln (41 + 1)) 0) from fun _ => rfl, ih_new]
  refine ⟨_, _, _, ihF, rfl, (Nat.le_of_ble_eq_true rfl), ?_⟩
  rw [ih_put]
  refine ⟨by decide, by decide, ?_⟩
  rw [show ∀ x : AH, x.newI 3 (List.replicate (Int.toNat 96) 0) = x.newI (tg (42 + 1)) (List.replicate (ln (42 + 1)) 0) from fun _ => rfl, ih_new]
  refine ⟨_, _, _, ihF, rfl, (Nat.le_of_ble_eq_true rfl), ?_⟩
  rw [ih_put]
  refine ⟨by decide, by decide, ?_⟩
  rw [show ∀ x : AH, x.newI 1 (List.replicate (Int.toNat 16) 0) = x.newI (tg (43 + 1)) (List.replicate (ln (43 + 1)) 0) from fun _ => rfl, ih_new]
  refine ⟨_, _, _, ihF, rfl, (Nat.le_of_ble_eq_true rfl), ?_⟩
  rw [ih_put]
  refine ⟨by decide, by decide, ?_⟩
  rw [show ∀ x : AH, x.newI 1 (List.replicate (Int.toNat 4) 0) = x.newI (tg (44 + 1)) (List.replicate (ln (44 + 1)) 0) from fun _ => rfl, ih_new]
  refine ⟨_, _, _, ihF, rfl, (Nat.le_of_ble_eq_true rfl), ?_⟩
  rw [ih_put]
  exact hW _ hQ
theorem init_spec {h : AH} (hF : h.F M = (3, fs3)) (hs : h.sz = M + 1) : wp (d + 1) 268 (0, ent 1 [vR (some M)], [], h) (fun r h' => r = .inl none ∧ h' = twNew h M) := by
  have last : wp (d + 1) 268 (366, [some (vR (some M))], [], ihp h M h.sl 45 [vR (some (M + 1)), vR (some (M + 2)), vI 0, vR (some (M + 3)), vR (some (M + 4)), vR (some (M + 5)), vI 0, vI 0, vI 0, vR (some (M + 6)), vR (some (M + 7)), vR (some (M + 8)), vR (some (M + 9)), vI 0, vI 0, vR (some (M + 10)), vR (some (M + 11)), vR (some (M + 12)), vR (some (M + 13)), vR (some (M + 14)), vR (some (M + 15)), vR (some (M + 16)), vR (some (M + 17)), vR (some (M + 18)), vR (some (M + 19)), vR (some (M + 20)), vR (some (M + 21)), vI 0, vR (some (M + 22)), vR (some (M + 23)), vR (some (M + 24)), vR (some (M + 25)), vR (some (M + 26)), vR (some (M + 27)), vR (some (M + 28)), vR (some (M + 29)), vR (some (M + 30)), vR (some (M + 31)), vI 0, vR (some (M + 32)), vR (some (M + 33)), vR (some (M + 34)), vR (some (M + 35)), vR (some (M + 36)), vI 0, vR (some (M + 37)), vR (some (M + 38)), vR (some (M + 39)), vL 0, vL 0, vL 0, vL 0, vR (some (M + 40)), vR (some (M + 41)), vR (some (M + 42)), vI 0, vR (some (M + 43)), vI 0, vR (some (M + 44)), vR (some (M + 45))]) (fun r h' => r = .inl none ∧ h' = twNew h M) := by
    show wp (d + 1) 268 (366, [some (vR (some M))], [], tw (M + 46, h.sl + slN 45, h.I, h.R, h.F, h.S) M (fun j => List.replicate (ln j) 0) (fun _ => 0)) _
    refine wp.go [] 20 fun W C hW hC => ?_
    refine ⟨_, _, _, _, twF, rfl, rfl, ?_⟩
    refine ⟨_, twI rfl rfl, by decide, (by rw [List.length_replicate]; decide), ?_⟩
    rw [twSetI rfl rfl]
    refine ⟨rfl, ?_⟩
    unfold twNew
    congr 1
  refine wp.go [4] 10 fun W C hW hC => ?_
  have h0 := ih_start hF hs
  have key : wp (d + 1) 268 (4, [some (vR (some M))], [], ihp h M h.sl 0 fs3) (fun r h' => r = .inl none ∧ h' = twNew h M) := init_0 (d := d) (h := h) (M := M) (sl := h.sl) (init_9 (init_18 (init_27 (init_36 last))))
  rw [← h0] at key
  exact hW _ key
end INIT
theorem A00_lens : lens A00 := by
  intro j
  unfold A00
  cases e : Nat.beq j 1 with
  | true => rw [Nat.eq_of_beq_eq_true e]; rfl
  | false => rw [cond_false, List.length_replicate]
abbrev S0 : AS := (gOne, [], fun _ => none, [])
theorem gt_rep (n i : Nat) : gt (List.replicate n 0) i = 0 := by
  unfold gt
  by_cases h : i < n
  · rw [List.getElem?_eq_getElem (by rw [List.length_replicate]; exact h), List.getElem_replicate]; rfl
  · rw [List.getElem?_eq_none (by rw [List.length_replicate]; omega)]; rfl
theorem TW0 : TW A00 (fun _ => 0) S0 := by
  refine ⟨A00_lens, ⟨rfl, fun c hc => ?_⟩, ⟨rfl, Nat.zero_le _, fun i G hi => by simp at hi⟩, fun k hk => ⟨?_, fun G hG => by cases hG⟩, ⟨rfl, Nat.zero_le _, fun i hi => absurd hi (Nat.not_lt_zero i)⟩, Or.inl rfl, Or.inl rfl⟩
  · have hc : c < 1 := hc
    obtain rfl : c = 0 := by omega
    rfl
  · exact gt_rep 3 k
theorem S0_ok : S0.ok := ⟨one_ok, fun G h => (nomatch h), fun k G h => (by cases h), Nat.zero_le _, fun b h => (nomatch h)⟩
