/-! TEXTS of the library: numbers appended, signs found -/
section SBI
variable {d : Nat} {h : AH} {s v : Nat}
theorem dig_at : ∀ n, n < 100 → gt digO n = ((48 + n % 10 : Nat) : Int) ∧ gt digT n = ((48 + n / 10 : Nat) : Int) := by decide +kernel
theorem set_two {Y : List Int} {o : Nat} {a b : Int} (h : o + 2 ≤ Y.length) : (Y.set (o + 1) b).set o a = Y.take o ++ (a :: b :: Y.drop (o + 2)) := by
  have e : Y = Y.take o ++ (Y[o]'(by omega) :: Y[o + 1]'(by omega) :: Y.drop (o + 2)) := by
    conv => lhs; rw [← List.take_append_drop o Y, List.drop_eq_getElem_cons (show o < Y.length by omega), List.drop_eq_getElem_cons (show o + 1 < Y.length by omega)]
  have hl : (Y.take o).length = o := by rw [List.length_take]; omega
  generalize Y.take o = L1 at e hl ⊢
  generalize Y[o]'(by omega) = x at e
  generalize Y[o + 1]'(by omega) = y at e
  generalize Y.drop (o + 2) = L2 at e ⊢
  subst e
  have s1 := set_mid (L1 := L1 ++ [x]) (L2 := L2) (w := y) (v := b)
  rw [List.length_append, List.length_singleton, hl] at s1
  have s2 := set_mid (L1 := L1) (L2 := b :: L2) (w := x) (v := a)
  rw [hl] at s2
  rw [show L1 ++ x :: y :: L2 = (L1 ++ [x]) ++ y :: L2 by simp, s1, show (L1 ++ [x]) ++ b :: L2 = L1 ++ x :: b :: L2 by simp, s2]
theorem dig_len : digO.length = 100 ∧ digT.length = 100 := by decide
theorem ssz_spec {n : Nat} (h1 : 1 ≤ n) (h99 : n ≤ 99) : wp (d + 1) 14 (0, ent 4 [vI ((n : Nat) : Int)], [], h) (gives h (((numT n).length : Nat) : Int)) := by
  have e1 : ∀ n, n < 100 → ineg ((n : Nat) : Int) = -((n : Nat) : Int) := by decide +kernel
  refine wp.go [16] 40 fun W C hW hC => ?_
  refine ⟨fun w => absurd w (by omega), fun _ => ?_⟩
  conv => whnf
  rw [e1 n (by omega)]
  refine hW _ ?_
  refine wp.go [16] 40 fun W C hW hC => ?_
  refine ⟨fun w => absurd w (by decide), fun _ => ?_⟩
  refine ⟨fun c => ?_, fun c => ?_⟩
  · refine hW _ ?_
    rw [show imul 10 (-10) = -100 by decide, show iadd 1 1 = 2 by decide]
    refine wp.go [] 40 fun W C hW hC => ?_
    refine ⟨fun w => absurd w (by decide), fun _ => ?_⟩
    refine ⟨fun w => absurd w (by omega), fun _ => ?_⟩
    have : (numT n).length = 2 := by unfold numT; rw [if_pos (by omega)]; rfl
    rw [this]
    exact ⟨rfl, rfl⟩
  · have : (numT n).length = 1 := by unfold numT; rw [if_neg (by omega)]; rfl
    rw [this]
    exact ⟨rfl, rfl⟩
/-- the digits come into the row, from an end -/
theorem gch_spec {Y : List Int} {n o zo zt : Nat} (h1 : 1 ≤ n) (h99 : n ≤ 99) (hI : h.I v = (3, Y)) (hO : h.S 1 = some zo ∧ h.I zo = (203, digO)) (hT : h.S 2 = some zt ∧ h.I zt = (203, digT)) (hl : o + (numT n).length ≤ Y.length) (hY : Y.length ≤ 1000) : wp (d + 1) 15 (0, ent 7 [vI ((n : Nat) : Int), vI ((o + (numT n).length : Nat) : Int), vR (some v)], [], h) (fun r h' => (∃ x, r = .inl (some (vI x))) ∧ h' = h.setI v (cpy (numT n) Y 0 o (numT n).length)) := by
  have e1 : ∀ n, n < 100 → ineg ((n : Nat) : Int) = -((n : Nat) : Int) ∧ ineg (-((n : Nat) : Int)) = ((n : Nat) : Int) := by decide +kernel
  have e2 : ∀ n, n < 100 → i2b ((48 + n % 10 : Nat) : Int) = ((48 + n % 10 : Nat) : Int) ∧ i2b ((48 + n / 10 : Nat) : Int) = ((48 + n / 10 : Nat) : Int) := by decide +kernel
  have nezo : zo ≠ v := fun w => by have := hO.2; rw [w, hI] at this; cases this
  have nezt : zt ≠ v := fun w => by have := hT.2; rw [w, hI] at this; cases this
  refine wp.go [22] 40 fun W C hW hC => ?_
  refine ⟨fun _ => ?_, fun w => absurd w (by omega)⟩
  refine ⟨fun w => absurd rfl w, fun _ => ?_⟩
  conv => whnf
  rw [(e1 n (by omega)).1]
  refine hW _ ?_
  refine wp.go [] 80 fun W C hW hC => ?_
  refine ⟨fun _ => ?_, fun w => absurd w (by omega)⟩
  conv => whnf
  rw [iadd_eq (by omega), hO.1, (e1 n (by omega)).2]
  refine ⟨_, _, _, hO.2, rfl, by omega, gt_at n (by omega) (by rw [dig_len.1]; omega), ?_⟩
  rw [(dig_at n (by omega)).1]
  refine ⟨_, _, hI, by have := (numT_len n).1; omega, by have := (numT_len n).1; omega, Or.inl ⟨rfl, ?_⟩⟩
  rw [(e2 n (by omega)).1]
  refine ⟨fun c => ?_, fun c => ?_⟩
  · have hn : numT n = [((48 + n % 10 : Nat) : Int)] := by unfold numT; rw [if_neg (by omega)]
    rw [hn] at hl ⊢
    refine ⟨fun _ => ?_, fun w => absurd rfl w⟩
    refine ⟨⟨_, rfl⟩, ?_⟩
    congr 1
    rw [show (((o + [((48 + n % 10 : Nat) : Int)].length : Nat) : Int) + -1).toNat = o by simp; omega]
    unfold cpy
    have hl : o + 1 ≤ Y.length := hl
    rw [List.set_eq_take_append_cons_drop, if_pos (by omega)]
    rfl
  · have hn : numT n = [((48 + n / 10 : Nat) : Int), ((48 + n % 10 : Nat) : Int)] := by unfold numT; rw [if_pos (by omega)]
    rw [hn] at hl ⊢
    have hl : o + 2 ≤ Y.length := hl
    have hl2 : (((o + [((48 + n / 10 : Nat) : Int), ((48 + n % 10 : Nat) : Int)].length : Nat) : Int)) = ((o + 2 : Nat) : Int) := rfl
    rw [hl2]
    have t1 : (((o + 2 : Nat) : Int) + -1).toNat = o + 1 := by omega
    rw [t1]
    conv => whnf
    rw [iadd_eq (by omega), show (h.setI v (Y.set (o + 1) ((48 + n % 10 : Nat) : Int))).S 2 = some zt from hT.1, (e1 n (by omega)).2]
    refine ⟨_, _, _, (setI_ne nezt).trans hT.2, rfl, by omega, gt_at n (by omega) (by rw [dig_len.2]; omega), ?_⟩
    rw [(dig_at n (by omega)).2]
    refine ⟨_, _, setI_at hI, by omega, by rw [List.length_set]; omega, Or.inl ⟨rfl, ?_⟩⟩
    rw [(e2 n (by omega)).2]
    refine ⟨fun _ => ?_, fun w => absurd rfl w⟩
    refine ⟨⟨_, rfl⟩, ?_⟩
    rw [setI_setI]
    congr 1
    rw [show (((o + 2 : Nat) : Int) + -1 + -1).toNat = o by omega]
    rw [set_two hl]
    rfl
theorem appI_spec {t : Tx} {G n zo zt : Nat} (k : SbX h s v t G) (hv : v < h.sz) (hn1 : 1 ≤ n) (h99 : n ≤ 99) (hO : h.S 1 = some zo ∧ h.I zo = (203, digO)) (hT : h.S 2 = some zt ∧ h.I zt = (203, digT)) (hzo : zo < h.sz) (hzt : zt < h.sz) (hl : t.length + 2 ≤ 96) : wp (d + 7) 60 (0, ent 2 [vR (some s), vI ((n : Nat) : Int)], [], h) (sbEnd h s v t (numT n) G) := by
  obtain ⟨Y, hY, q2, q3, q4, q5, q6⟩ := id k
  have hnl := numT_len n
  have nezo : zo ≠ v := fun w => by have := hO.2; rw [w, hY.2] at this; cases this
  have nezt : zt ≠ v := fun w => by have := hT.2; rw [w, hY.2] at this; cases this
  have cc : wp (d + 6) 49 (0, ent 4 [vR (some s), vI ((n : Nat) : Int)], [], h) (sbEnd h s v t (numT n) G) := by
    obtain ⟨⟨w, HF⟩, HI⟩ := id hY
    refine wp.go [] 80 fun W C hW hC => ?_
    refine ⟨_, _, _, _, HF, rfl, rfl, ?_⟩
    refine hC _ _ _ (useE (wpd.up (by omega) (ssz_spec (d := 0) hn1 h99)) ?_)
    conv => whnf
    rw [iaddN (by omega)]
    refine ⟨_, _, _, HF, rfl, ?_⟩
    refine hC _ _ _ (use (wpd.up (by omega) (ens_spec (d := 0) (m := t.length + (numT n).length) hY hv q6 (by omega))) ?_)
    rintro _ h1 ⟨rfl, v', Z, k1, k2, k3, k4⟩
    obtain ⟨⟨w', HF1⟩, HI1⟩ := id k1
    have D1 : (h1.S 1 = some zo ∧ h1.I zo = (203, digO)) ∧ h1.S 2 = some zt ∧ h1.I zt = (203, digT) := by
      rcases k4 with ⟨d1, rfl, rfl, rfl⟩ | ⟨d1, rfl, d2, d3, d4, d5⟩
      · exact ⟨hO, hT⟩
      · rw [d5.2.2.2.2.1]
        exact ⟨⟨hO.1, ((d5.2.2.2.2.2 zo hzo).1 nezo).trans hO.2⟩, hT.1, ((d5.2.2.2.2.2 zt hzt).1 nezt).trans hT.2⟩
    refine ⟨_, _, _, HF1, rfl, ?_⟩
    refine hC _ _ _ (useE (wpd.up (by omega) (lat1_spec (d := 0) k1)) ?_)
    refine ⟨fun c => absurd c (by decide), fun _ => ?_⟩
    refine ⟨_, _, _, _, HF1, rfl, rfl, ?_⟩
    refine hC _ _ _ (use (wpd.up (by omega) (gch_spec (d := 0) (o := t.length) hn1 h99 HI1 D1.1 D1.2 (by omega) (by rcases k4 with ⟨d1, rfl, rfl, rfl⟩ | ⟨d1, rfl, d2, d3, d4, d5⟩; rw [List.append_nil]; omega; omega))) ?_)
    rintro _ _ ⟨⟨x, rfl⟩, rfl⟩
    have HF2 : (h1.setI v' (cpy (numT n) (Y ++ Z) 0 t.length (numT n).length)).F s = (13, [vR (some v'), vI 0, w', vI ((t.length : Nat) : Int)]) := HF1
    refine ⟨_, _, _, HF2, rfl, (Nat.le_of_ble_eq_true rfl), ?_⟩
    refine ⟨rfl, ?_⟩
    obtain ⟨m1, m2⟩ := cpy_mid (xs := numT n) (ys := Y ++ Z) (o := t.length) k3
    refine sb_grown (h1 := h1) (Z := Z) (Y := Y) (Y' := cpy (numT n) (Y ++ Z) 0 t.length (numT n).length) k hY hnl.1 (by omega) k4 k3 ⟨⟨w', ?_⟩, ?_⟩ m1 ?_ ?_ k2
    · refine (setF_at HF2).trans ?_
      rw [List.length_append]
      rfl
    · exact setI_at (h := h1) HI1
    · rw [List.length_append, m2, List.take_append_of_le_length q2, q3]
    · exact ⟨Nat.le_refl _, Nat.le_refl _, Nat.le_refl _, Nat.le_refl _, rfl, fun a ha => ⟨fun wa => setI_ne wa, rfl, fun wa => setF_ne wa⟩⟩
  obtain ⟨⟨w, HF⟩, HI⟩ := id hY
  refine wp.go [] 20 fun W C hW hC => ?_
  refine ⟨_, _, _, HF, rfl, ?_⟩
  refine hC _ _ _ (use (wpd.up (by omega) cc) ?_)
  rintro _ h1 ⟨rfl, q⟩
  exact ⟨rfl, q⟩
theorem isLat_spec {a : Nat} {t : Tx} (k : StrV h a t) : wp (d + 1) 73 (0, ent 1 [vR (some a)], [], h) (gives h 1) := by
  obtain ⟨v, w1, w2, a1, a2⟩ := k
  refine wp.go [] 20 fun W C hW hC => ?_
  refine ⟨fun c => absurd c (by decide), fun _ => ?_⟩
  refine ⟨_, _, _, _, a1, rfl, rfl, ?_⟩
  refine ⟨fun c => absurd rfl c, fun _ => ?_⟩
  exact ⟨Or.inr rfl, rfl, rfl⟩
theorem charAt_spec {a : Nat} {t : Tx} (k : StrV h a t) (ok : okX t) {i : Nat} (hi : i < t.length) : wp (d + 5) 76 (0, ent 2 [vR (some a), vI ((i : Nat) : Int)], [], h) (gives h (gt t i)) := by
  obtain ⟨v, w1, w2, a1, a2⟩ := id k
  have hb := okX_at (n := i) ok
  have c1 : wp (3) 63 (0, ent 2 [vI ((i : Nat) : Int), vI ((t.length : Nat) : Int)], [], h) (fun r h' => r = .inl none ∧ h' = h) := by
    have c2 : ∀ o : Option Nat, wp (2) 165 (0, ent 3 [vI ((i : Nat) : Int), vI ((t.length : Nat) : Int), vR o], [], h) (gives h ((i : Nat) : Int)) := by
      intro o
      refine wp.go [] 20 fun W C hW hC => ?_
      refine ⟨fun w => absurd w (by omega), fun _ => ?_⟩
      exact ⟨fun _ => ⟨rfl, rfl⟩, fun w => absurd w (by omega)⟩
    refine wp.go [] 20 fun W C hW hC => ?_
    refine hC _ _ _ (useE (wpd.up (by omega) (c2 _)) ?_)
    exact ⟨rfl, rfl⟩
  have c3 : wp (d + 4) 127 (0, ent 2 [vR (some v), vI ((i : Nat) : Int)], [], h) (gives h (gt t i)) := by
    refine wp.go [] 40 fun W C hW hC => ?_
    refine ⟨_, Or.inl ⟨_, _, a2, by decide, rfl⟩, ?_⟩
    refine hC _ _ _ (useE (wpd.up (by omega) (c1)) ?_)
    refine ⟨_, _, _, a2, rfl, by omega, gt_at i (by omega) hi, ?_⟩
    have e := i2c_low (gt t i).toNat (by omega)
    rw [show (((gt t i).toNat : Nat) : Int) = gt t i by omega] at e
    conv => whnf
    rw [e]
    exact ⟨by omega, by omega, rfl, rfl⟩
  refine wp.go [] 40 fun W C hW hC => ?_
  refine ⟨_, _, _, a1, rfl, ?_⟩
  refine hC _ _ _ (useE (wpd.up (by omega) (isLat_spec (d := 0) k)) ?_)
  refine ⟨fun c => absurd c (by decide), fun _ => ?_⟩
  refine ⟨_, _, _, _, a1, rfl, rfl, ?_⟩
  refine hC _ _ _ (useE (wpd.up (by omega) (c3)) ?_)
  exact ⟨by omega, by omega, rfl, rfl⟩
/-- where a sign stands first -/
def idxT (c : Int) : Tx → Nat → Int
  | [], _ => -1
  | a :: r, i => if a = c then ((i : Nat) : Int) else idxT c r (i + 1)
theorem idxT_rng (c : Int) : ∀ (t : Tx) (i : Nat), (idxT c t i < 0 ↔ c ∉ t)
  | [], i => by simp [idxT]
  | a :: r, i => by
    unfold idxT
    by_cases q : a = c
    · rw [if_pos q]
      constructor
      · intro w; omega
      · intro w; exact absurd (by rw [q]; exact List.mem_cons_self) w
    · rw [if_neg q, idxT_rng c r]
      rw [List.mem_cons]
      constructor
      · intro w w2
        rcases w2 with w2 | w2
        · exact q w2.symm
        · exact w w2
      · intro w w2; exact w (Or.inr w2)
theorem indexOf_spec {a : Nat} {t : Tx} (k : StrV h a t) (hl : t.length ≤ 1000) : wp (d + 5) 71 (0, ent 2 [vR (some a), vI 45], [], h) (gives h (idxT 45 t 0)) := by
  obtain ⟨v, w1, w2, a1, a2⟩ := id k
  have c0 : wp (1) 125 (0, ent 1 [vI 45], [], h) (gives h 1) := by
    refine wp.go [] 20 fun W C hW hC => ?_
    refine ⟨fun w => absurd w (by decide), fun _ => ?_⟩
    refine ⟨fun w => absurd w (by decide), fun _ => ?_⟩
    exact ⟨Or.inr rfl, rfl, rfl⟩
  have lp : ∀ (j i : Nat), j + i = t.length → idxT 45 (t.drop i) i = idxT 45 t 0 → wp (d + 2) 126 (7, [some (vR (some v)), some (vI 45), some (vI 0), some (vI ((t.length : Nat) : Int)), some (vI 45), some (vI ((i : Nat) : Int))], [], h) (gives h (idxT 45 t 0)) := by
    intro j
    induction j with
    | zero =>
      intro i hj he
      rw [List.drop_eq_nil_of_le (by omega)] at he
      rw [← he]
      refine wp.go [7] 20 fun W C hW hC => ?_
      exact ⟨fun _ => ⟨rfl, rfl⟩, fun w => absurd w (by omega)⟩
    | succ j ih =>
      intro i hj he
      have hi : i < t.length := by omega
      rw [List.drop_eq_getElem_cons hi] at he
      have he : (if t[i] = 45 then ((i : Nat) : Int) else idxT 45 (t.drop (i + 1)) (i + 1)) = idxT 45 t 0 := he
      have hg : gt t i = t[i] := by unfold gt; rw [List.getElem?_eq_getElem hi]; rfl
      refine wp.go [7] 40 fun W C hW hC => ?_
      refine ⟨fun w => absurd w (by omega), fun _ => ?_⟩
      refine ⟨_, _, _, a2, rfl, by omega, gt_at i (by omega) hi, ?_⟩
      rw [hg]
      refine ⟨fun w => ?_, fun w => ?_⟩
      · rw [if_neg w] at he
        (conv => whnf); simp (disch := omega) only [iadd_eq, isub_eq, imul_eq]
        exact hW _ (ih (i + 1) (by omega) he)
      · rw [if_pos w] at he
        rw [← he]
        exact ⟨rfl, rfl⟩
  have c1 : wp (d + 2) 126 (0, ent 6 [vR (some v), vI 45, vI 0, vI ((t.length : Nat) : Int)], [], h) (gives h (idxT 45 t 0)) := by
    refine wp.go [7] 20 fun W C hW hC => ?_
    conv => whnf
    rw [show i2b 45 = 45 by decide]
    exact hW _ (lp t.length 0 rfl rfl)
  have c2 : wp (d + 3) 124 (0, ent 4 [vR (some v), vI 45, vI 0, vI ((t.length : Nat) : Int)], [], h) (gives h (idxT 45 t 0)) := by
    refine wp.go [] 60 fun W C hW hC => ?_
    refine hC _ _ _ (useE (wpd.up (by omega) (c0)) ?_)
    refine ⟨fun _ => ?_, fun w => absurd w (by decide)⟩
    refine hC _ _ _ (useE (wpd.up (by omega) (max_spec (d := 0))) ?_)
    rw [show max (0 : Int) 0 = 0 by decide]
    refine ⟨_, Or.inl ⟨_, _, a2, by decide, rfl⟩, ?_⟩
    refine hC _ _ _ (useE (wpd.up (by omega) (min_spec (d := 0))) ?_)
    rw [show min ((t.length : Nat) : Int) ((t.length : Nat) : Int) = ((t.length : Nat) : Int) by omega]
    refine ⟨fun _ => ?_, fun w => ?_⟩
    · refine hC _ _ _ (useE (wpd.up (by omega) (c1)) ?_)
      exact ⟨rfl, rfl⟩
    · have : t = [] := List.length_eq_zero_iff.mp (by omega)
      subst this
      exact ⟨rfl, rfl⟩
  have c3 : wp (d + 4) 72 (0, ent 3 [vR (some a), vI 45, vI 0], [], h) (gives h (idxT 45 t 0)) := by
    refine wp.go [] 40 fun W C hW hC => ?_
    refine ⟨_, _, _, a1, rfl, ?_⟩
    refine hC _ _ _ (useE (wpd.up (by omega) (isLat_spec (d := 0) k)) ?_)
    refine ⟨fun c => absurd c (by decide), fun _ => ?_⟩
    refine ⟨_, _, _, _, a1, rfl, rfl, ?_⟩
    refine ⟨_, _, _, a1, rfl, ?_⟩
    refine hC _ _ _ (useE (wpd.up (by omega) (lenG_spec (d := 0) k.g (by omega))) ?_)
    refine hC _ _ _ (useE (wpd.up (by omega) (c2)) ?_)
    exact ⟨rfl, rfl⟩
  refine wp.go [] 20 fun W C hW hC => ?_
  refine ⟨_, _, _, a1, rfl, ?_⟩
  refine hC _ _ _ (useE (wpd.up (by omega) (c3)) ?_)
  exact ⟨rfl, rfl⟩
end SBI
