def kset (f : Nat → Option Gr) : Nat → Nat
  | 0 => 0
  | k + 1 => kset f k + (match f k with | none => 0 | some _ => 2 ^ k)
def aCount (S : AS) (D : Nat → Nat → Nat) (w : Int) : Int :=
  if w = 10 then ((S.2.1.length : Nat) : Int) else if w = 11 then ((S.2.2.2.length : Nat) : Int) else if w = 12 then ((kset S.2.2.1 3 : Nat) : Int) else if 1 ≤ w ∧ w ≤ 4 then ((wnG S.1 w.toNat : Nat) : Int)
  else if w = 0 then ((S.1.1 : Nat) : Int) else if w = 5 then ((lngG S.1 D : Nat) : Int) else if w = 6 then ((apaG S.1 D : Nat) : Int) else if w = 7 then ((unlG S.1 : Nat) : Int) else if w = 8 then ((asyG S.1 : Nat) : Int) else if w = 9 then 2 * ((S.1.1 : Nat) : Int) + 2 else -1
section ASKS3
variable {d : Nat} {h0 : AH} {M : Nat} {A : Nat → List Int} {sc : Nat → Int} {S : AS} {D : Nat → Nat → Nat}
theorem nei_loop (h : TW A sc S) (ho : S.ok) {c : Nat} (hc : c < S.1.1) {x2 : Int} :
    ∀ (j e k : Nat), j + e = S.1.1 → k ≤ 2147483647 → wp (d + 2) 368 (31, [some (vR (some M)), some (vI ((c : Nat) : Int)), some (vI x2), some (vI k), some (vI e)], [], tw h0 M A sc) (gives (tw h0 M A sc) (atN ((List.range' e j).filter (S.1.2 c)) k)) := by
  have hn := ho.1.1.2.1
  have hA := h.1
  have hr := h.2.1
  intro j
  induction j with
  | zero =>
    intro e k hj hk
    obtain rfl : e = S.1.1 := by omega
    refine wp.go [31] 40 fun W C hW hC => ?_
    refine ⟨_, _, _, _, twF, rfl, rfl, ?_⟩
    refine ⟨_, _, _, twI rfl rfl, rfl, (by omega), gt_at (0) (by omega) (lenlt (j := 1) (hA) (show (0) < 17 by omega)), ?_⟩
    rw [hr.1]
    exact ⟨fun _ => ⟨rfl, rfl⟩, fun c => absurd c (by omega)⟩
  | succ j ih =>
    intro e k hj hk
    have hrg : List.range' e (j + 1) = e :: List.range' (e + 1) j := rfl
    have hrow := row_lt (G := S.1) hn (c := c)
    rw [hrg, List.filter_cons]
    refine wp.go [31] 60 fun W C hW hC => ?_
    refine ⟨_, _, _, _, twF, rfl, rfl, ?_⟩
    refine ⟨_, _, _, twI rfl rfl, rfl, (by omega), gt_at (0) (by omega) (lenlt (j := 1) (hA) (show (0) < 17 by omega)), ?_⟩
    rw [hr.1]
    refine ⟨fun c => absurd c (by omega), fun _ => ?_⟩
    refine ⟨_, _, _, _, twF, rfl, rfl, ?_⟩
    (conv => whnf); simp (disch := omega) only [iadd_eq, isub_eq, imul_eq]
    refine ⟨_, _, _, twI rfl rfl, rfl, (by omega), gt_at (1 + c) (by omega) (lenlt (j := 1) (hA) (show (1 + c) < 17 by omega)), ?_⟩
    rw [isRow0 hr (by omega)]
    refine hC _ _ _ (use (has_spec (by omega) (by omega)) ?_); rintro _ _ ⟨rfl, rfl⟩
    rw [row_bit ho.1.1]
    cases z : S.1.2 c e with
    | false =>
      rw [z] at hW
      refine ⟨fun c => absurd rfl c, fun _ => ?_⟩
      (conv => whnf); simp (disch := omega) only [iadd_eq, isub_eq, imul_eq]
      exact hW _ (ih (e + 1) k (by omega) hk)
    | true =>
      rw [z, if_pos rfl] at hW
      refine ⟨fun _ => ?_, fun c => absurd c (by decide)⟩
      refine ⟨fun c2 => ?_, fun c2 => ?_⟩
      · (conv => whnf); simp (disch := omega) only [iadd_eq, isub_eq, imul_eq]
        obtain ⟨m, rfl⟩ : ∃ m, k = m + 1 := ⟨k - 1, by omega⟩
        have : ((m + 1 : Nat) : Int) + -1 = (m : Int) := by omega
        rw [this]
        rw [atN_succ] at hW
        exact hW _ (ih (e + 1) m (by omega) (by omega))
      · obtain rfl : k = 0 := by omega
        exact ⟨rfl, rfl⟩
theorem neighbour_tw (h : TW A sc S) (ho : S.ok) {c i : Int} (hi : i ≤ 2147483647) : wp (d + 3) 368 (0, ent 5 [vR (some M), vI c, vI i], [], tw h0 M A sc) (twEnd h0 M (vI (aNeighbour S c i)) S) := by
  have hn := ho.1.1.2.1
  unfold aNeighbour
  refine wp.go [31] 60 fun W C hW hC => ?_
  refine ⟨_, _, _, twF, rfl, ?_⟩
  refine hC _ _ _ (use (wpd.up (show d + 1 ≤ d + 2 by omega) (isC_s (d := d) h)) ?_); rintro _ _ ⟨rfl, rfl⟩
  refine ⟨fun c1 => ?_, fun c1 => ?_⟩
  · rw [if_pos (Or.inl (b0.mp c1))]
    exact ⟨rfl, _, _, rfl, h⟩
  have c1 := b1.mp c1
  obtain ⟨k, rfl⟩ : ∃ k : Nat, c = (k : Int) := ⟨c.toNat, by omega⟩
  refine ⟨fun c2 => ?_, fun c2 => ?_⟩
  · refine ⟨fun c3 => ?_, fun c3 => ?_⟩
    · obtain ⟨m, rfl⟩ : ∃ k : Nat, i = (k : Int) := ⟨i.toNat, by omega⟩
      rw [if_neg (by rintro (e | e); exact e c1; omega), if_neg (by omega)] at hW
      refine hW _ (wpd.up (show d + 2 ≤ d + 3 by omega) (use (nei_loop (d := d) (c := k) h ho (by omega) S.1.1 0 m rfl (by omega)) ?_))
      rintro _ _ ⟨rfl, rfl⟩
      rw [← List.range_eq_range']
      exact ⟨rfl, _, _, rfl, h⟩
    · rw [if_neg (by rintro (e | e); exact e c1; omega), if_pos (by omega)]
      refine ⟨_, _, _, twF, rfl, ?_⟩
      refine hC _ _ _ (use (degree_s (d := d) h ho (c := k) (by omega)) ?_); rintro _ _ ⟨rfl, rfl⟩
      exact ⟨rfl, _, _, rfl, h⟩
  · rw [if_pos (Or.inr (by omega))]
    exact ⟨rfl, _, _, rfl, h⟩
theorem kset_lt (f : Nat → Option Gr) : ∀ k, kset f k < 2 ^ k
  | 0 => Nat.one_pos
  | k + 1 => by
    have := kset_lt f k
    show kset f k + _ < 2 ^ (k + 1)
    rw [Nat.pow_succ]
    cases f k with
    | none => show kset f k + 0 < _; omega
    | some G => show kset f k + 2 ^ k < _; omega
theorem keptSet_s (h : TW A sc S) : wp (d + 1) 393 (0, ent 3 [vR (some M)], [], tw h0 M A sc) (gives (tw h0 M A sc) ((kset S.2.2.1 3 : Nat) : Int)) := by
  have hA := h.1
  have hK := h.2.2.2.1
  have loop : ∀ (j k : Nat), j + k = 3 → wp (d + 1) 393 (4, [some (vR (some M)), some (vI ((kset S.2.2.1 k : Nat) : Int)), some (vI k)], [], tw h0 M A sc) (gives (tw h0 M A sc) ((kset S.2.2.1 3 : Nat) : Int)) := by
    intro j
    induction j with
    | zero =>
      intro k hj
      obtain rfl : k = 3 := by omega
      refine wp.go [4] 40 fun W C hW hC => ?_
      exact ⟨fun _ => ⟨rfl, rfl⟩, fun c => absurd c (by omega)⟩
    | succ j ih =>
      intro k hj
      have q := ih (k + 1) (by omega)
      have hlt := kset_lt S.2.2.1 k
      have hlt2 : 2 ^ k ≤ 2 ^ 2 := Nat.pow_le_pow_right (by decide) (by omega)
      have hst : kset S.2.2.1 (k + 1) = kset S.2.2.1 k + (match S.2.2.1 k with | none => 0 | some _ => 2 ^ k) := rfl
      rw [hst] at q
      have hk := (hK k (by omega)).1
      refine wp.go [4] 60 fun W C hW hC => ?_
      refine ⟨fun c => absurd c (by omega), fun _ => ?_⟩
      refine ⟨_, _, _, _, twF, rfl, rfl, ?_⟩
      refine ⟨_, _, _, twI rfl rfl, rfl, (by omega), gt_at (k) (by omega) (lenlt (j := 4) (hA) (show (k) < 3 by omega)), ?_⟩
      rw [hk]
      cases e : S.2.2.1 k with
      | none =>
        rw [e] at q
        refine ⟨fun _ => ?_, fun c => absurd rfl c⟩
        conv => whnf
        have : ior ((kset S.2.2.1 k : Nat) : Int) 0 = ((kset S.2.2.1 k + 0 : Nat) : Int) := by
          have := ior_eq (a := kset S.2.2.1 k) (b := 0) (by omega) (by decide)
          rw [Nat.or_zero] at this
          exact this
        rw [this, iadd_eq (by omega)]
        exact hW _ q
      | some G =>
        rw [e] at q
        refine ⟨fun c => absurd c (show ¬ (1 : Int) = 0 by decide), fun _ => ?_⟩
        conv => whnf
        rw [pow_i (by omega), ior_eq (by omega) (by omega), iadd_eq (by omega)]
        have : kset S.2.2.1 k ||| 2 ^ k = kset S.2.2.1 k + 2 ^ k := by
          rw [Nat.add_comm, Nat.or_comm]
          have := Nat.two_pow_add_eq_or_of_lt hlt 1
          rw [Nat.mul_one] at this
          exact this.symm
        rw [this]
        exact hW _ q
  refine wp.go [4] 20 fun W C hW hC => ?_
  exact hW _ (loop 3 0 rfl)
theorem count_tw (h : TW A sc S) (ho : S.ok) (hD : Far S.1 D) {w : Int} : wp (d + 12) 392 (0, ent 2 [vR (some M), vI w], [], tw h0 M A sc) (twEnd h0 M (vI (aCount S D w)) S) := by
  have hn := ho.1.1.2.1
  have hA := h.1
  unfold aCount
  refine wp.go [] 60 fun W C hW hC => ?_
  refine ⟨fun c1 => ?_, fun c1 => ?_⟩
  · rw [if_neg c1]
    refine ⟨fun c2 => ?_, fun c2 => ?_⟩
    · rw [if_neg c2]
      refine ⟨fun c3 => ?_, fun c3 => ?_⟩
      · rw [if_neg c3]
        refine ⟨_, _, _, twF, rfl, ?_⟩
        refine hC _ _ _ (use (looks_tw h ho hD) ?_)
        rintro _ _ ⟨rfl, A', sc', tab, rfl, hM, hT⟩
        have hA := hT.1
        refine hC _ _ _ (use (wpd.up (show d + 1 ≤ d + 11 by omega) (isIn_s (d := d) _ _ _ _)) ?_); rintro _ _ ⟨rfl, rfl⟩
        refine ⟨fun c4 => ?_, fun c4 => ?_⟩
        · have c4 := b0.mp c4
          rw [if_neg c4]
          refine ⟨fun e => ?_, fun e0 => ⟨fun e => absurd e (by omega), fun _ => ⟨fun e => absurd e (by omega), fun _ => ⟨fun e => absurd e (by omega), fun _ => ⟨fun e => absurd e (by omega), fun _ => ⟨fun e => ?_, fun e5 => ⟨fun e => ?_, fun e6 => ⟨fun e => ?_, fun e7 => ⟨fun e => ?_, fun e8 => ⟨fun e => ?_, fun e9 => ?_⟩⟩⟩⟩⟩⟩⟩⟩⟩⟩
          · rw [if_pos e]
            refine ⟨_, _, _, _, twF, rfl, rfl, ?_⟩
            refine ⟨_, _, _, twI rfl rfl, rfl, (by omega), gt_at (0) (by omega) (lenlt (j := 1) (hA) (show (0) < 17 by omega)), ?_⟩
            rw [hT.2.1.1]
            exact ⟨rfl, _, _, rfl, hT⟩
          · rw [if_neg e0, if_pos e]
            refine ⟨_, _, _, twF, rfl, ?_⟩
            refine hC _ _ _ (use (wpd.up (show d + 2 ≤ d + 11 by omega) (longest_spec (d := d) ho.1.1 hD hM)) ?_); rintro _ _ ⟨rfl, rfl⟩
            exact ⟨rfl, _, _, rfl, hT⟩
          · rw [if_neg e0, if_neg e5, if_pos e]
            refine ⟨_, _, _, twF, rfl, ?_⟩
            refine hC _ _ _ (use (wpd.up (show d + 2 ≤ d + 11 by omega) (allApart_spec (d := d) ho.1.1 hD hM)) ?_); rintro _ _ ⟨rfl, rfl⟩
            exact ⟨rfl, _, _, rfl, hT⟩
          · rw [if_neg e0, if_neg e5, if_neg e6, if_pos e]
            refine ⟨_, _, _, twF, rfl, ?_⟩
            refine hC _ _ _ (use (wpd.up (show d + 3 ≤ d + 11 by omega) (unlike_spec (d := d) ho.1.1 hM.1)) ?_); rintro _ _ ⟨rfl, rfl⟩
            exact ⟨rfl, _, _, rfl, hT⟩
          · rw [if_neg e0, if_neg e5, if_neg e6, if_neg e7, if_pos e]
            refine ⟨_, _, _, twF, rfl, ?_⟩
            refine hC _ _ _ (use (wpd.up (show d + 3 ≤ d + 11 by omega) (asymmetricMany_spec (d := d) ho.1.1 hM.1)) ?_); rintro _ _ ⟨rfl, rfl⟩
            exact ⟨rfl, _, _, rfl, hT⟩
          · rw [if_neg e0, if_neg e5, if_neg e6, if_neg e7, if_neg e8, if_pos e]
            refine ⟨_, _, _, _, twF, rfl, rfl, ?_⟩
            refine ⟨_, _, _, twI rfl rfl, rfl, (by omega), gt_at (0) (by omega) (lenlt (j := 1) (hA) (show (0) < 17 by omega)), ?_⟩
            rw [hT.2.1.1]
            conv => whnf
            rw [imul_eq (by omega), iadd_eq (by omega)]
            exact ⟨rfl, _, _, rfl, hT⟩
          · rw [if_neg e0, if_neg e5, if_neg e6, if_neg e7, if_neg e8, if_neg e9]
            exact ⟨rfl, _, _, rfl, hT⟩
        · have c4 := b1.mp c4
          rw [if_pos c4]
          obtain ⟨k, rfl⟩ : ∃ k : Nat, w = (k : Int) := ⟨w.toNat, by omega⟩
          refine ⟨_, _, _, twF, rfl, ?_⟩
          refine hC _ _ _ (use (wpd.up (show d + 2 ≤ d + 11 by omega) (withNeighbours_spec (d := d) (m := k) ho.1.1 hM.1 (by omega))) ?_); rintro _ _ ⟨rfl, rfl⟩
          exact ⟨rfl, _, _, rfl, hT⟩
      · rw [if_pos c3]
        refine ⟨_, _, _, twF, rfl, ?_⟩
        refine hC _ _ _ (use (wpd.up (show d + 1 ≤ d + 11 by omega) (keptSet_s (d := d) h)) ?_); rintro _ _ ⟨rfl, rfl⟩
        exact ⟨rfl, _, _, rfl, h⟩
    · rw [if_pos c2]
      refine ⟨_, _, _, _, twF, rfl, rfl, ?_⟩
      exact ⟨by rw [← h.2.2.2.2.1.1], _, _, rfl, h⟩
  · rw [if_pos c1]
    refine ⟨_, _, _, _, twF, rfl, rfl, ?_⟩
    exact ⟨by rw [← h.2.2.1.1], _, _, rfl, h⟩
end ASKS3
