section ACTS
variable {d : Nat} {h0 : AH} {M : Nat} {A : Nat → List Int} {sc : Nat → Int}
/-- Model.degree -/
theorem degree_spec (hA : lens A) {c b : Nat} (hc : c < 16) (hb : gt (A 1) (1 + c) = (b : Int)) (hb2 : b < 2147483648) : wp (d + 2) 274 (0, ent 2 [vR (some M), vI c], [], tw h0 M A sc) (gives (tw h0 M A sc) ((bcnt b 31 : Nat) : Int)) := by
  refine wp.go [] 20 fun W C hW hC => ?_
  refine ⟨_, _, _, _, twF, rfl, rfl, ?_⟩
  conv => whnf
  rw [iadd_eq (by omega)]
  refine ⟨_, _, _, twI rfl rfl, rfl, (by first | decide | omega), gt_some (by simp (disch := decide) only [up_eq, upn_ne, List.length_set, cp_length, ln1, ln2, ln3, ln4, ln5, ln6, ln7, ln8, ln9, ln10, ln11, ln12, ln13, ln14, ln15, ln16, ln17, ln18, ln19, ln20, ln21, ln22, ln23, ln24, ln25, ln26, ln27, ln28, ln29, ln30, ln31, ln32, ln33, ln34, ln35, ln36, ln37, ln38, ln39, ln40, ln41, ln42, ln43, ln44, ln45, lens.eq hA]; omega), ?_⟩
  rw [show ((1 + (c : Int)).toNat) = 1 + c by omega, hb]
  refine hC _ _ _ (use (size_spec hb2) ?_)
  rintro r h ⟨rfl, rfl⟩
  exact ⟨rfl, rfl⟩
/-- Model.closedUp -/
theorem closedUp_spec {h : AH} {a k : Nat} (ha : a < 65536) (hk : k < 16) : wp (d + 1) 280 (0, ent 3 [vI a, vI k], [], h) (gives h (((a % 2 ^ k) ||| (a / 2 ^ (k + 1) * 2 ^ k) : Nat) : Int)) := by
  refine wp.go [] 20 fun W C hW hC => ?_
  conv => whnf
  refine ⟨?_, rfl⟩
  have hp : 2 ^ k ≤ 2 ^ 15 := Nat.pow_le_pow_right (by decide) (by omega)
  have hp0 := Nat.two_pow_pos k
  have e1 : ishl 1 (k : Int) = ((2 ^ k : Nat) : Int) := by
    have := ishl_eq (a := 1) (k := k) (by omega) (by omega)
    rw [Nat.one_mul] at this
    exact this
  have e2 : isub ((2 ^ k : Nat) : Int) 1 = ((2 ^ k - 1 : Nat) : Int) := by rw [isub_eq (by omega)]; omega
  have e3 : iadd (k : Int) 1 = ((k + 1 : Nat) : Int) := by rw [iadd_eq (by omega)]; omega
  have h1 : a / 2 ^ (k + 1) * 2 ^ k ≤ a := by
    have h2 : a / 2 ^ (k + 1) * 2 ^ (k + 1) ≤ a := Nat.div_mul_le_self _ _
    have h3 : a / 2 ^ (k + 1) * 2 ^ k ≤ a / 2 ^ (k + 1) * 2 ^ (k + 1) := Nat.mul_le_mul_left _ (Nat.pow_le_pow_right (by decide) (by omega))
    omega
  have h4 : a % 2 ^ k ≤ a := Nat.mod_le _ _
  show Sum.inl (some (vI (ior (iand a (isub (ishl 1 k) 1)) (ishl (ishr a (iadd k 1)) k)))) = _
  rw [e1, e2, e3, iand_eq (by omega) (by omega), ishr_eq (by omega) (by omega), ishl_eq (by omega) (by omega), Nat.and_two_pow_sub_one_eq_mod, ior_eq (by omega) (by omega)]
theorem closedUp_bit {a k i : Nat} : ((a % 2 ^ k) ||| (a / 2 ^ (k + 1) * 2 ^ k)).testBit i = if i < k then a.testBit i else a.testBit (i + 1) := by
  rw [Nat.testBit_or, Nat.testBit_mod_two_pow, Nat.mul_comm, Nat.testBit_two_pow_mul]
  by_cases c : i < k
  · rw [if_pos c, decide_eq_true c, decide_eq_false (by omega)]; simp
  · rw [if_neg c, decide_eq_false c, decide_eq_true (by omega), Nat.testBit_div_two_pow]
    simp [show i - k + (k + 1) = i + 1 by omega, show k + 1 + (i - k) = i + 1 by omega]
/-- a row moves down by 17 -/
def sh (w : List Int) : Nat → List Int
  | 0 => w
  | k + 1 => (sh w k).set k (gt (sh w k) (k + 17))
theorem sh_length {w : List Int} : ∀ {k : Nat}, (sh w k).length = w.length
  | 0 => rfl
  | k + 1 => by unfold sh; rw [List.length_set, sh_length]
theorem sh_gt {w : List Int} {i : Nat} : ∀ {k : Nat}, k + 17 ≤ w.length → gt (sh w k) i = if i < k then gt w (i + 17) else gt w i
  | 0, _ => by rw [if_neg (by omega)]; rfl
  | k + 1, h => by
    unfold sh
    rw [gt_set (by rw [sh_length]; omega), sh_gt (i := k + 17) (by omega), if_neg (show ¬ (k + 17 < k) by omega), sh_gt (i := i) (by omega)]
    by_cases c : i = k
    · subst c; rw [if_pos rfl, if_pos (by omega)]
    · rw [if_neg c]
      by_cases c2 : i < k
      · rw [if_pos c2, if_pos (by omega)]
      · rw [if_neg c2, if_neg (by omega)]
/-- the second loop of Model.keepsAct -/
theorem keepsAct_l2 (hA : lens A) {u : Nat} (hu : sc 0 = (u : Int)) (hu2 : u ≤ 11) : ∀ (j k : Nat), j + k = 17 →
    wp (d + 1) 276 (52, [some (vR (some M)), some (vI k)], [], tw h0 M (up A 2 (cp (A 2) (17 * u) (A 1) 0 k)) sc)
      (fun r h' => r = .inl none ∧ h' = tw h0 M (up A 2 (cp (A 2) (17 * u) (A 1) 0 17)) (up sc 0 ((u + 1 : Nat) : Int))) := by
  intro j
  induction j with
  | zero =>
    intro k hk
    obtain rfl : k = 17 := by omega
    refine wp.go [52] 20 fun W C hW hC => ?_
    refine ⟨fun _ => ?_, fun c => absurd c (by decide)⟩
    refine ⟨_, _, _, _, twF, rfl, rfl, ?_⟩
    refine ⟨_, _, _, twF, rfl, (Nat.le_of_ble_eq_true rfl), ?_⟩
    rw [twP0, hu, iadd_eq (by omega)]
    exact ⟨rfl, rfl⟩
  | succ j ih =>
    intro k hk
    refine wp.go [52] 40 fun W C hW hC => ?_
    refine ⟨fun c => absurd c (by omega), fun _ => ?_⟩
    refine ⟨_, _, _, _, twF, rfl, rfl, ?_⟩
    refine ⟨_, _, _, _, twF, rfl, rfl, ?_⟩
    refine ⟨_, _, _, _, twF, rfl, rfl, ?_⟩
    conv => whnf
    rw [hu, imul_eq (by omega), iadd_eq (by omega)]
    refine ⟨_, _, _, twI rfl rfl, rfl, (by first | decide | omega), gt_some (by simp (disch := decide) only [up_eq, upn_ne, List.length_set, cp_length, ln1, ln2, ln3, ln4, ln5, ln6, ln7, ln8, ln9, ln10, ln11, ln12, ln13, ln14, ln15, ln16, ln17, ln18, ln19, ln20, ln21, ln22, ln23, ln24, ln25, ln26, ln27, ln28, ln29, ln30, ln31, ln32, ln33, ln34, ln35, ln36, ln37, ln38, ln39, ln40, ln41, ln42, ln43, ln44, ln45, lens.eq hA]; omega), ?_⟩
    (refine ⟨_, twI rfl rfl, (by first | decide | omega), (by simp (disch := decide) only [up_eq, upn_ne, List.length_set, cp_length, ln1, ln2, ln3, ln4, ln5, ln6, ln7, ln8, ln9, ln10, ln11, ln12, ln13, ln14, ln15, ln16, ln17, ln18, ln19, ln20, ln21, ln22, ln23, ln24, ln25, ln26, ln27, ln28, ln29, ln30, ln31, ln32, ln33, ln34, ln35, ln36, ln37, ln38, ln39, ln40, ln41, ln42, ln43, ln44, ln45, lens.eq hA]; omega), ?_⟩; rw [twSetI rfl rfl])
    conv => whnf
    rw [iadd_eq (by omega)]
    have e : up (up A 2 (cp (A 2) (17 * u) (A 1) 0 k)) 2 ((up A 2 (cp (A 2) (17 * u) (A 1) 0 k) 2).set (17 * (u : Int) + k).toNat (gt (up A 2 (cp (A 2) (17 * u) (A 1) 0 k) 1) (k : Int).toNat)) = up A 2 (cp (A 2) (17 * u) (A 1) 0 (k + 1)) := by
      rw [up_eq, upn_ne _ _ (by decide), show (17 * (u : Int) + k).toNat = 17 * u + k by omega, up_up, cp_succ, Nat.zero_add]
      rfl
    rw [e]
    exact hW _ (ih (k + 1) (by omega))
/-- the first loop of Model.keepsAct -/
theorem keepsAct_l1 (hA : lens A) (hu : sc 0 = 12) {Q : Rs → AH → Prop} (hQ : wp (d + 1) 276 (52, [some (vR (some M)), some (vI 0)], [], tw h0 M (up A 2 (sh (A 2) 187)) (up sc 0 11)) Q) : ∀ (j k : Nat), j + k = 187 →
    wp (d + 1) 276 (12, [some (vR (some M)), some (vI ((17 + k : Nat) : Int))], [], tw h0 M (up A 2 (sh (A 2) k)) sc) Q := by
  intro j
  induction j with
  | zero =>
    intro k hk
    obtain rfl : k = 187 := by omega
    refine wp.go [12, 52] 20 fun W C hW hC => ?_
    refine ⟨fun _ => ?_, fun c => absurd c (by decide)⟩
    refine ⟨_, _, _, _, twF, rfl, rfl, ?_⟩
    refine ⟨_, _, _, twF, rfl, (Nat.le_of_ble_eq_true rfl), ?_⟩
    rw [twP0, hu]
    exact hW _ hQ
  | succ j ih =>
    intro k hk
    refine wp.go [12, 52] 40 fun W C hW hC => ?_
    refine ⟨fun c => absurd c (by omega), fun _ => ?_⟩
    refine ⟨_, _, _, _, twF, rfl, rfl, ?_⟩
    refine ⟨_, _, _, _, twF, rfl, rfl, ?_⟩
    conv => whnf
    rw [isub_eq (by omega)]
    refine ⟨_, _, _, twI rfl rfl, rfl, (by first | decide | omega), gt_some (by rw [up_eq, sh_length, hA.eq, ln2]; omega), ?_⟩
    refine ⟨_, twI rfl rfl, (by first | decide | omega), (by rw [up_eq, sh_length, hA.eq, ln2]; omega), ?_⟩
    rw [twSetI rfl rfl]
    conv => whnf
    rw [iadd_eq (by omega)]
    have e : up (up A 2 (sh (A 2) k)) 2 ((up A 2 (sh (A 2) k) 2).set (((17 + k : Nat) : Int) - 17).toNat (gt (up A 2 (sh (A 2) k) 2) ((17 + k : Nat) : Int).toNat)) = up A 2 (sh (A 2) (k + 1)) := by
      rw [up_eq, up_up, show (((17 + k : Nat) : Int) - 17).toNat = k by omega, show ((17 + k : Nat) : Int).toNat = k + 17 by omega]
      rfl
    rw [e, show ((17 + k : Nat) : Int) + 1 = ((17 + (k + 1) : Nat) : Int) by omega]
    exact hW _ (ih (k + 1) (by omega))
/-- what is to be undone: the oldest first -/
def hist (W : List Int) (u : Int) (ps : List Gr) : Prop := u = ((ps.length : Nat) : Int) ∧ ps.length ≤ 12 ∧ ∀ i G, ps[i]? = some G → G.1 ≤ 16 ∧ isRow W (17 * i) G
def pushG (ps : List Gr) (G : Gr) : List Gr := (if ps.length = 12 then ps.tail else ps) ++ [G]
theorem keepsAct_spec (hA : lens A) {ps : List Gr} {G : Gr} (hh : hist (A 2) (sc 0) ps) (hG : G.1 ≤ 16) (hr : isRow (A 1) 0 G) : wp (d + 1) 276 (0, ent 2 [vR (some M)], [], tw h0 M A sc)
    (fun r h' => r = .inl none ∧ ∃ V u, h' = tw h0 M (up A 2 V) (up sc 0 u) ∧ V.length = 204 ∧ hist V u (pushG ps G)) := by
  obtain ⟨h1, h2, h3⟩ := hh
  have hl := hA.eq 2
  rw [ln2] at hl
  refine wp.go [12, 52] 20 fun W C hW hC => ?_
  refine ⟨_, _, _, _, twF, rfl, rfl, ?_⟩
  refine ⟨fun c => ?_, fun c => ?_⟩
  · have c : sc 0 ≠ 12 := c
    have k := keepsAct_l2 (d := d) (h0 := h0) (M := M) hA (u := ps.length) h1 (by omega) 17 0 rfl
    have e : up A 2 (cp (A 2) (17 * ps.length) (A 1) 0 0) = A := upn_self
    rw [e] at k
    refine hW _ (wpd.mono ?_ _ _ _ k)
    rintro r h ⟨rfl, rfl⟩
    refine ⟨rfl, _, _, rfl, by rw [cp_length, hl], by unfold pushG; rw [if_neg (by omega)]; simp, by unfold pushG; rw [if_neg (by omega)]; simp; omega, ?_⟩
    intro i G' hi
    unfold pushG at hi
    rw [if_neg (by omega)] at hi
    by_cases c2 : i < ps.length
    · rw [List.getElem?_append_left c2] at hi
      refine ⟨(h3 i G' hi).1, (h3 i G' hi).2.congr (h3 i G' hi).1 fun j hj => ?_⟩
      rw [cp_gt (by omega), if_neg (by omega)]
    · rw [List.getElem?_append_right (by omega)] at hi
      have c3 : i = ps.length := by
        have := (List.getElem?_eq_some_iff.mp hi).1
        simp at this
        omega
      subst c3
      rw [Nat.sub_self] at hi
      cases hi
      refine ⟨hG, hr.congr hG fun j hj => ?_⟩
      rw [cp_gt (by omega), if_pos ⟨by omega, by omega⟩, Nat.add_sub_cancel_left]
  · have c : sc 0 = 12 := c
    have hlen : ps.length = 12 := by omega
    have hl2 : lens (up A 2 (sh (A 2) 187)) := hA.up (by rw [sh_length, hl]; rfl)
    have k := keepsAct_l2 (d := d) (h0 := h0) (M := M) (A := up A 2 (sh (A 2) 187)) (sc := up sc 0 11) hl2 (u := 11) rfl (by omega) 17 0 rfl
    have e : up (up A 2 (sh (A 2) 187)) 2 (cp (up A 2 (sh (A 2) 187) 2) (17 * 11) (up A 2 (sh (A 2) 187) 1) 0 0) = up A 2 (sh (A 2) 187) := upn_self
    rw [e] at k
    have k2 := keepsAct_l1 (d := d) (h0 := h0) (M := M) hA c k 187 0 rfl
    have e2 : up A 2 (sh (A 2) 0) = A := upn_self
    rw [e2] at k2
    refine hW _ (wpd.mono ?_ _ _ _ k2)
    rintro r h ⟨rfl, rfl⟩
    rw [up_up, up_up, up_eq, upn_ne _ _ (by decide)]
    have hp : pushG ps G = ps.tail ++ [G] := by unfold pushG; rw [if_pos hlen]
    have ht : ps.tail.length = 11 := by rw [List.length_tail]; omega
    refine ⟨rfl, _, _, rfl, by rw [cp_length, sh_length, hl], by rw [hp]; simp [ht], by rw [hp]; simp [ht], ?_⟩
    intro i G' hi
    rw [hp] at hi
    have hsl : (sh (A 2) 187).length = 204 := by rw [sh_length, hl]
    by_cases c2 : i < 11
    · rw [List.getElem?_append_left (by omega), List.getElem?_tail] at hi
      refine ⟨(h3 _ G' hi).1, (h3 _ G' hi).2.congr (h3 _ G' hi).1 fun j hj => ?_⟩
      rw [cp_gt (by omega), if_neg (by omega), sh_gt (by omega), if_pos (by omega), show 17 * i + j + 17 = 17 * (i + 1) + j by omega]
    · rw [List.getElem?_append_right (by omega)] at hi
      have c3 : i = 11 := by
        have := (List.getElem?_eq_some_iff.mp hi).1
        simp at this
        omega
      subst c3
      rw [ht, Nat.sub_self] at hi
      cases hi
      refine ⟨hG, hr.congr hG fun j hj => ?_⟩
      rw [cp_gt (by omega), if_pos ⟨by omega, by omega⟩, Nat.add_sub_cancel_left]
end ACTS
