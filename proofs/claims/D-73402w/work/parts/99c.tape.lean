/-! TEXTS on the tape: signs, blanks, numbers -/
def chr (t : List Int) (k : Nat) : Int := if k < t.length then iand (gt t k) 255 else -1
abbrev isDig (t : List Int) (k : Nat) : Prop := 48 ≤ chr t k ∧ chr t k ≤ 57
theorem chr_in {t : List Int} {k : Nat} (h : chr t k ≠ -1) : k < t.length := by
  apply Classical.byContradiction
  intro hn
  unfold chr at h
  rw [if_neg hn] at h
  exact h rfl
def skpF (t : List Int) : Nat → Nat → Nat
  | 0, k => k
  | f + 1, k => if chr t k = 32 then skpF t f (k + 1) else k
/-- the first place from k on that is no blank -/
def skp (t : List Int) (k : Nat) : Nat := skpF t (t.length - k) k
theorem skp_blank {t : List Int} {k : Nat} (h : chr t k = 32) : skp t k = skp t (k + 1) := by
  have := chr_in (t := t) (k := k) (by rw [h]; decide)
  unfold skp
  rw [show t.length - k = (t.length - (k + 1)) + 1 by omega]
  show (if chr t k = 32 then _ else _) = _
  rw [if_pos h]
theorem skp_else {t : List Int} {k : Nat} (h : chr t k ≠ 32) : skp t k = k := by
  unfold skp
  cases t.length - k with
  | zero => rfl
  | succ n => show (if chr t k = 32 then _ else _) = _; rw [if_neg h]
theorem skp_le {t : List Int} : ∀ (j k : Nat), j + k = t.length → k ≤ skp t k ∧ skp t k ≤ t.length ∧ chr t (skp t k) ≠ 32
  | 0, k, h => by
    have : chr t k ≠ 32 := by unfold chr; rw [if_neg (by omega)]; decide
    rw [skp_else this]
    exact ⟨Nat.le_refl _, by omega, this⟩
  | j + 1, k, h => by
    by_cases c : chr t k = 32
    · have := skp_le (t := t) j (k + 1) (by omega)
      rw [skp_blank c]
      exact ⟨by omega, this.2⟩
    · rw [skp_else c]
      exact ⟨Nat.le_refl _, by omega, c⟩
def digF (t : List Int) : Nat → Nat → Nat → Nat × Nat
  | 0, k, v => (k, v)
  | f + 1, k, v => if isDig t k then digF t f (k + 1) (10 * v + (chr t k - 48).toNat) else (k, v)
/-- a number from k on, so far v: where it ends, what it is -/
def digs (t : List Int) (k v : Nat) : Nat × Nat := digF t (t.length - k) k v
theorem digs_dig {t : List Int} {k v : Nat} (h : isDig t k) : digs t k v = digs t (k + 1) (10 * v + (chr t k - 48).toNat) := by
  have := chr_in (t := t) (k := k) (by have := h.1; omega)
  unfold digs
  rw [show t.length - k = (t.length - (k + 1)) + 1 by omega]
  show (if isDig t k then _ else _) = _
  rw [if_pos h]
theorem digs_else {t : List Int} {k v : Nat} (h : ¬ isDig t k) : digs t k v = (k, v) := by
  unfold digs
  cases t.length - k with
  | zero => rfl
  | succ n => show (if isDig t k then _ else _) = _; rw [if_neg h]
theorem digs_le {t : List Int} : ∀ (j k v : Nat), j + k = t.length → k ≤ (digs t k v).1 ∧ (digs t k v).1 ≤ t.length
  | 0, k, v, h => by
    have : ¬ isDig t k := by
      intro q
      have := chr_in (t := t) (k := k) (by have := q.1; omega)
      omega
    rw [digs_else this]
    exact ⟨Nat.le_refl _, by show k ≤ t.length; omega⟩
  | j + 1, k, v, h => by
    by_cases c : isDig t k
    · rw [digs_dig c]
      have := digs_le (t := t) j (k + 1) (10 * v + (chr t k - 48).toNat) (by omega)
      exact ⟨by omega, this.2⟩
    · rw [digs_else c]
      exact ⟨Nat.le_refl _, by show k ≤ t.length; omega⟩
/-- a number as far as it counts: up to 16 it is told as it is -/
abbrev asN (v x : Nat) : Prop := v = x ∨ (16 < v ∧ 16 < x)
section TAPE
variable {d : Nat} {h0 : AH} {M : Nat} {A : Nat → List Int} {sc : Nat → Int} {t : List Int}
theorem byteAt_spec (hA : lens A) (hT : tapeOk (A 5) (sc 1) t) {k : Nat} : wp (d + 1) 290 (0, ent 2 [vR (some M), vI ((k : Nat) : Int)], [], tw h0 M A sc) (gives (tw h0 M A sc) (chr t k)) := by
  obtain ⟨t1, t2, t3⟩ := hT
  unfold chr
  refine wp.go [] 30 fun W C hW hC => ?_
  refine ⟨_, _, _, _, twF, rfl, rfl, ?_⟩
  rw [t1]
  refine ⟨fun c => ?_, fun c => ?_⟩
  · rw [if_neg (by omega)]
    exact ⟨rfl, rfl⟩
  · rw [if_pos (by omega)]
    refine ⟨_, _, _, _, twF, rfl, rfl, ?_⟩
    refine ⟨_, _, _, twI rfl rfl, rfl, (by omega), gt_at (k) (by omega) (lenlt (j := 5) (hA) (show (k) < 120 by omega)), ?_⟩
    rw [t3 k (by omega)]
    exact ⟨rfl, rfl⟩
theorem isDigit_spec (hA : lens A) (hT : tapeOk (A 5) (sc 1) t) {k : Nat} (hk : sc 2 = ((k : Nat) : Int)) : wp (d + 2) 295 (0, ent 1 [vR (some M)], [], tw h0 M A sc) (gives (tw h0 M A sc) (if isDig t k then 1 else 0)) := by
  refine wp.go [] 30 fun W C hW hC => ?_
  refine ⟨_, _, _, _, twF, rfl, rfl, ?_⟩
  rw [hk]
  refine ⟨_, _, _, twF, rfl, ?_⟩
  refine hC _ _ _ (use (byteAt_spec hA hT) ?_); rintro _ _ ⟨rfl, rfl⟩
  refine hC _ _ _ (use (isIn_s _ _ _ _) ?_); rintro _ _ ⟨rfl, rfl⟩
  refine ⟨?_, rfl, rfl⟩
  split
  · exact Or.inr rfl
  · exact Or.inl rfl
theorem fails_spec {k p : Nat} (hk : k ≤ 7) (hp : p ≤ 1000) : wp (d + 1) 294 (0, ent 3 [vR (some M), vI ((k : Nat) : Int), vI ((p : Nat) : Int)], [], tw h0 M A sc) (fun r h' => r = .inl (some (vI 0)) ∧ h' = tw h0 M A (up sc 3 ((8 * p + k : Nat) : Int))) := by
  refine wp.go [] 30 fun W C hW hC => ?_
  (conv => whnf); simp (disch := omega) only [iadd_eq, isub_eq, imul_eq]
  (refine ⟨_, _, _, twF, rfl, (Nat.le_of_ble_eq_true rfl), ?_⟩; rw [twP3])
  refine ⟨Or.inl rfl, rfl, ?_⟩
  rw [show 8 * ((p : Nat) : Int) + ((k : Nat) : Int) = ((8 * p + k : Nat) : Int) by omega]
theorem passes_spec (hA : lens A) (hT : tapeOk (A 5) (sc 1) t) : ∀ (j k : Nat), j + k = t.length → wp (d + 2) 289 (0, ent 1 [vR (some M)], [], tw h0 M A (up sc 2 ((k : Nat) : Int))) (fun r h' => r = .inl (some (vI (chr t (skp t k)))) ∧ h' = tw h0 M A (up sc 2 ((skp t k : Nat) : Int))) := by
  have hTu : ∀ x, tapeOk (A 5) (up sc 2 x 1) t := fun x => by rw [upn_ne _ _ (by decide)]; exact hT
  have hlen := hT.2.1
  have go : ∀ (j k : Nat), j + k = t.length → wp (d + 2) 289 (0, [some (vR (some M))], [], tw h0 M A (up sc 2 ((k : Nat) : Int))) (fun r h' => r = .inl (some (vI (chr t (skp t k)))) ∧ h' = tw h0 M A (up sc 2 ((skp t k : Nat) : Int))) := by
    intro j
    induction j with
    | zero =>
      intro k hj
      have hc : chr t k ≠ 32 := by unfold chr; rw [if_neg (by omega)]; decide
      rw [skp_else hc]
      refine wp.go [0] 40 fun W C hW hC => ?_
      refine ⟨_, _, _, _, twF, rfl, rfl, ?_⟩
      rw [up_eq]
      refine ⟨_, _, _, twF, rfl, ?_⟩
      refine hC _ _ _ (use (wpd.up (show d + 1 ≤ d + 1 by omega) (byteAt_spec (d := d) hA (hTu _))) ?_); rintro _ _ ⟨rfl, rfl⟩
      refine ⟨fun c => ?_, fun c => absurd c hc⟩
      refine ⟨_, _, _, _, twF, rfl, rfl, ?_⟩
      rw [up_eq]
      refine ⟨_, _, _, twF, rfl, ?_⟩
      refine hC _ _ _ (use (wpd.up (show d + 1 ≤ d + 1 by omega) (byteAt_spec (d := d) hA (hTu _))) ?_); rintro _ _ ⟨rfl, rfl⟩
      exact ⟨rfl, rfl⟩
    | succ j ih =>
      intro k hj
      refine wp.go [0] 40 fun W C hW hC => ?_
      refine ⟨_, _, _, _, twF, rfl, rfl, ?_⟩
      rw [up_eq]
      refine ⟨_, _, _, twF, rfl, ?_⟩
      refine hC _ _ _ (use (wpd.up (show d + 1 ≤ d + 1 by omega) (byteAt_spec (d := d) hA (hTu _))) ?_); rintro _ _ ⟨rfl, rfl⟩
      refine ⟨fun c => ?_, fun c => ?_⟩
      · rw [skp_else c]
        refine ⟨_, _, _, _, twF, rfl, rfl, ?_⟩
        rw [up_eq]
        refine ⟨_, _, _, twF, rfl, ?_⟩
        refine hC _ _ _ (use (wpd.up (show d + 1 ≤ d + 1 by omega) (byteAt_spec (d := d) hA (hTu _))) ?_); rintro _ _ ⟨rfl, rfl⟩
        exact ⟨rfl, rfl⟩
      · rw [skp_blank c] at hW ⊢
        refine ⟨_, _, _, _, twF, rfl, rfl, ?_⟩
        rw [up_eq]
        (conv => whnf); simp (disch := omega) only [iadd_eq, isub_eq, imul_eq]
        (refine ⟨_, _, _, twF, rfl, (Nat.le_of_ble_eq_true rfl), ?_⟩; rw [twP2])
        rw [up_up]
        exact hW _ (ih (k + 1) (by omega))
  intro j k hj
  exact go j k hj
theorem digits_spec (hA : lens A) (hT : tapeOk (A 5) (sc 1) t) {k : Nat} (hk : k ≤ t.length) : wp (d + 3) 296 (0, ent 2 [vR (some M)], [], tw h0 M A (up sc 2 ((k : Nat) : Int))) (fun r h' => ∃ v : Nat, r = .inl (some (vI ((v : Nat) : Int))) ∧ asN v (digs t k 0).2 ∧ h' = tw h0 M A (up sc 2 (((digs t k 0).1 : Nat) : Int))) := by
  have hTu : ∀ x, tapeOk (A 5) (up sc 2 x 1) t := fun x => by rw [upn_ne _ _ (by decide)]; exact hT
  have hlen := hT.2.1
  have loop : ∀ (j k v x : Nat), j + k = t.length → v ≤ 99999 → asN v x → wp (d + 3) 296 (2, [some (vR (some M)), some (vI ((v : Nat) : Int))], [], tw h0 M A (up sc 2 ((k : Nat) : Int))) (fun r h' => ∃ v : Nat, r = .inl (some (vI ((v : Nat) : Int))) ∧ asN v (digs t k x).2 ∧ h' = tw h0 M A (up sc 2 (((digs t k x).1 : Nat) : Int))) := by
    intro j
    induction j with
    | zero =>
      intro k v x hj hv hx
      have hc : ¬ isDig t k := by
        intro q
        have := chr_in (t := t) (k := k) (by have := q.1; omega)
        omega
      rw [digs_else hc]
      refine wp.go [2, 36] 40 fun W C hW hC => ?_
      refine ⟨_, _, _, twF, rfl, ?_⟩
      refine hC _ _ _ (use (isDigit_spec (d := d) (k := k) hA (hTu _) (up_eq _ _ _)) ?_); rintro _ _ ⟨rfl, rfl⟩
      exact ⟨fun _ => ⟨v, rfl, hx, rfl⟩, fun c => absurd (b1.mp c) hc⟩
    | succ j ih =>
      intro k v x hj hv hx
      by_cases hc : isDig t k
      · have hc2 := hc
        obtain ⟨c1, c2⟩ := id hc
        rw [digs_dig hc]
        have st : ∀ v' : Nat, v' ≤ 99999 → asN v' (10 * x + (chr t k - 48).toNat) → ∀ y : Int, wp (d + 3) 296 (36, [some (vR (some M)), some (vI y)], [vI ((v' : Nat) : Int)], tw h0 M A (up sc 2 ((k : Nat) : Int))) (fun r h' => ∃ v : Nat, r = .inl (some (vI ((v : Nat) : Int))) ∧ asN v (digs t (k + 1) (10 * x + (chr t k - 48).toNat)).2 ∧ h' = tw h0 M A (up sc 2 (((digs t (k + 1) (10 * x + (chr t k - 48).toNat)).1 : Nat) : Int))) := by
          intro v' hv' hx' y
          refine wp.go [2] 20 fun W C hW hC => ?_
          refine ⟨_, _, _, _, twF, rfl, rfl, ?_⟩
          rw [up_eq]
          (conv => whnf); simp (disch := omega) only [iadd_eq, isub_eq, imul_eq]
          (refine ⟨_, _, _, twF, rfl, (Nat.le_of_ble_eq_true rfl), ?_⟩; rw [twP2])
          rw [up_up]
          exact hW _ (ih (k + 1) v' _ (by omega) hv' hx')
        refine wp.go [2, 36] 40 fun W C hW hC => ?_
        refine ⟨_, _, _, twF, rfl, ?_⟩
        refine hC _ _ _ (use (isDigit_spec (d := d) (k := k) hA (hTu _) (up_eq _ _ _)) ?_); rintro _ _ ⟨rfl, rfl⟩
        refine ⟨fun c => absurd hc2 (b0.mp c), fun c => ?_⟩
        refine ⟨fun c => ?_, fun c => ?_⟩
        · refine ⟨_, _, _, _, twF, rfl, rfl, ?_⟩
          rw [up_eq]
          refine ⟨_, _, _, twF, rfl, ?_⟩
          refine hC _ _ _ (use (wpd.up (show d + 1 ≤ d + 2 by omega) (byteAt_spec (d := d) hA (hTu _))) ?_); rintro _ _ ⟨rfl, rfl⟩
          (conv => whnf); simp (disch := omega) only [iadd_eq, isub_eq, imul_eq]
          rw [show 10 * ((v : Nat) : Int) + chr t k - 48 = ((10 * v + (chr t k - 48).toNat : Nat) : Int) by omega]
          refine hW _ (st _ (by omega) ?_ _)
          rcases hx with rfl | ⟨hx1, hx2⟩
          · exact Or.inl rfl
          · exact Or.inr ⟨by omega, by omega⟩
        · refine hW _ (st v hv ?_ _)
          rcases hx with rfl | ⟨hx1, hx2⟩
          · exact Or.inr ⟨by omega, by omega⟩
          · exact Or.inr ⟨by omega, by omega⟩
      · rw [digs_else hc]
        refine wp.go [2, 36] 40 fun W C hW hC => ?_
        refine ⟨_, _, _, twF, rfl, ?_⟩
        refine hC _ _ _ (use (isDigit_spec (d := d) (k := k) hA (hTu _) (up_eq _ _ _)) ?_); rintro _ _ ⟨rfl, rfl⟩
        exact ⟨fun _ => ⟨v, rfl, hx, rfl⟩, fun c => absurd (b1.mp c) hc⟩
  refine wp.go [2] 10 fun W C hW hC => ?_
  exact hW _ (loop (t.length - k) k 0 0 (by omega) (by omega) (Or.inl rfl))
theorem degRead_spec (hA : lens A) {G : Gr} (hn : G.1 ≤ 16) (hr : isRow (A 6) 0 G) {c : Nat} (hc : c < G.1) : wp (d + 2) 293 (0, ent 2 [vR (some M), vI ((c : Nat) : Int)], [], tw h0 M A sc) (gives (tw h0 M A sc) ((deg G c : Nat) : Int)) := by
  have hrow := row_lt hn (c := c)
  refine wp.go [] 30 fun W C hW hC => ?_
  refine ⟨_, _, _, _, twF, rfl, rfl, ?_⟩
  (conv => whnf); simp (disch := omega) only [iadd_eq, isub_eq, imul_eq]
  refine ⟨_, _, _, twI rfl rfl, rfl, (by omega), gt_at (1 + c) (by omega) (lenlt (j := 6) (hA) (show (1 + c) < 17 by omega)), ?_⟩
  rw [isRow0 hr hc]
  refine hC _ _ _ (use (size_spec (d := d) (by omega)) ?_); rintro _ _ ⟨rfl, rfl⟩
  rw [row_deg hn]
  exact ⟨rfl, rfl⟩
end TAPE
