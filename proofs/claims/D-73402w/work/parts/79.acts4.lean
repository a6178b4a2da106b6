section ACTS4
variable {d : Nat} {h0 : AH} {M : Nat} {A : Nat → List Int} {sc : Nat → Int} {S : AS}
theorem end_tw (h : TW A sc S) (ho : S.ok) {n : Int} : wp (d + 2) 286 (0, ent 2 [vR (some M), vI n], [], tw h0 M A sc) (twEnd h0 M (vI (aEnd S n).1) (aEnd S n).2) := by
  obtain ⟨h1, h2, h3, h4, h5, h6, h7⟩ := id h
  unfold aEnd
  refine wp.go [] 90 fun W C hW hC => ?_
  refine ⟨_, _, _, _, twF, rfl, rfl, ?_⟩
  refine hC _ _ _ (use (isIn_s _ _ _ _) ?_)
  rintro r h' ⟨rfl, rfl⟩
  rw [h5.1]
  refine ⟨fun c1 => ?_, fun c1 => ?_⟩
  · have c2 := b1.mp c1
    rw [if_pos c2]
    refine ⟨_, _, _, twF, rfl, (Nat.le_of_ble_eq_true rfl), ?_⟩
    rw [twP1]
    refine ⟨rfl, _, _, rfl, h1, h2, h3, h4, ⟨?_, ?_, fun i hi => ?_⟩, h6, h7⟩
    · rw [up_eq, List.length_take]; omega
    · rw [List.length_take]; have := h5.2.1; omega
    · rw [List.length_take] at hi
      show gt (A 5) i = _
      rw [h5.2.2 i (by omega)]
      unfold gt
      rw [List.getElem?_take_of_lt (by omega)]
  · rw [if_neg (b0.mp c1)]
    exact ⟨rfl, _, _, rfl, h⟩
theorem keep_loop (hA : lens A) {s : Nat} (hs : s < 3) {Q : Rs → AH → Prop} (hQ : wp (d + 1) 270 (45, [some (vR (some M)), some (vI s), some (vI 17)], [], tw h0 M (up A 3 (cp (A 3) (17 * s) (A 1) 0 17)) sc) Q) : ∀ (j k : Nat), j + k = 17 →
    wp (d + 1) 270 (16, [some (vR (some M)), some (vI s), some (vI k)], [], tw h0 M (up A 3 (cp (A 3) (17 * s) (A 1) 0 k)) sc) Q := by
  intro j
  induction j with
  | zero =>
    intro k hk
    obtain rfl : k = 17 := by omega
    refine wp.go [16, 45] 20 fun W C hW hC => ?_
    refine ⟨fun _ => ?_, fun c => absurd c (by decide)⟩
    exact hW _ hQ
  | succ j ih =>
    intro k hk
    refine wp.go [16, 45] 40 fun W C hW hC => ?_
    refine ⟨fun c => absurd c (by omega), fun _ => ?_⟩
    refine ⟨_, _, _, _, twF, rfl, rfl, ?_⟩
    refine ⟨_, _, _, _, twF, rfl, rfl, ?_⟩
    conv => whnf
    rw [imul_eq (by omega), iadd_eq (by omega)]
    refine ⟨_, _, _, twI rfl rfl, rfl, (by first | decide | omega), gt_some (by simp (disch := decide) only [up_eq, upn_ne, List.length_set, cp_length, ln1, ln2, ln3, ln4, ln5, ln6, ln7, ln8, ln9, ln10, ln11, ln12, ln13, ln14, ln15, ln16, ln17, ln18, ln19, ln20, ln21, ln22, ln23, ln24, ln25, ln26, ln27, ln28, ln29, ln30, ln31, ln32, ln33, ln34, ln35, ln36, ln37, ln38, ln39, ln40, ln41, ln42, ln43, ln44, ln45, lens.eq hA]; omega), ?_⟩
    (refine ⟨_, twI rfl rfl, (by first | decide | omega), (by simp (disch := decide) only [up_eq, upn_ne, List.length_set, cp_length, ln1, ln2, ln3, ln4, ln5, ln6, ln7, ln8, ln9, ln10, ln11, ln12, ln13, ln14, ln15, ln16, ln17, ln18, ln19, ln20, ln21, ln22, ln23, ln24, ln25, ln26, ln27, ln28, ln29, ln30, ln31, ln32, ln33, ln34, ln35, ln36, ln37, ln38, ln39, ln40, ln41, ln42, ln43, ln44, ln45, lens.eq hA]; omega), ?_⟩; rw [twSetI rfl rfl])
    conv => whnf
    rw [iadd_eq (by omega), up_eq, upn_ne _ _ (by decide), up_up, show (17 * (s : Int) + k).toNat = 17 * s + k by omega, show ((k : Int).toNat) = 0 + k by omega, ← cp_succ]
    exact hW _ (ih (k + 1) (by omega))
theorem keep_tw (h : TW A sc S) (ho : S.ok) {n : Int} : wp (d + 2) 270 (0, ent 3 [vR (some M), vI n], [], tw h0 M A sc) (twEnd h0 M (vI (aKeep S n).1) (aKeep S n).2) := by
  obtain ⟨h1, h2, h3, h4, h5, h6, h7⟩ := id h
  have hl := h1.eq 1
  rw [ln1] at hl
  have hl3 := h1.eq 3
  rw [ln3] at hl3
  have hl4 := h1.eq 4
  rw [ln4] at hl4
  unfold aKeep
  refine wp.go [16] 90 fun W C hW hC => ?_
  refine hC _ _ _ (use (isIn_s _ _ _ _) ?_)
  rintro r h' ⟨rfl, rfl⟩
  refine ⟨fun c1 => ?_, fun c1 => ?_⟩
  · have c2 := b1.mp c1
    rw [if_pos c2]
    obtain ⟨s, rfl⟩ : ∃ s : Nat, n = (s : Int) := ⟨n.toNat, by omega⟩
    have hs : s < 3 := by omega
    have e : up A 3 (cp (A 3) (17 * s) (A 1) 0 0) = A := upn_self
    have k := keep_loop (d := d + 1) (h0 := h0) (M := M) (sc := sc) h1 hs (Q := twEnd h0 M (vI ((S.1.1 : Nat) : Int)) (S.1, S.2.1, up S.2.2.1 (s : Int).toNat (some S.1), S.2.2.2)) ?_ 17 0 rfl
    · rw [e] at k
      refine hW _ ?_
      rw [if_pos c2]
      exact k
    · refine wp.go [] 90 fun W C hW hC => ?_
      refine ⟨_, _, _, _, twF, rfl, rfl, ?_⟩
      refine ⟨_, _, twI rfl rfl, by omega, (by rw [upn_ne _ _ (by decide), hl4]; omega), Or.inr ⟨rfl, ?_⟩⟩
      rw [twSetI rfl rfl]
      refine ⟨_, _, _, _, twF, rfl, rfl, ?_⟩
      refine ⟨_, _, _, twI rfl rfl, rfl, by decide, gt_some (by rw [upn_ne _ _ (by decide), upn_ne _ _ (by decide), hl]; decide), ?_⟩
      rw [show ((0 : Int).toNat) = 0 from rfl, upn_ne _ _ (by decide), upn_ne _ _ (by decide), h2.1]
      refine ⟨rfl, _, _, rfl, (h1.up (by rw [cp_length, hl3]; rfl)).up (by rw [List.length_set, upn_ne _ _ (by decide), hl4]; rfl), h2, h3, ?_, h5, h6, h7⟩
      rw [up_eq, upn_ne _ _ (by decide), up_eq, upn_ne _ _ (by decide), show ((s : Int).toNat) = s from rfl, show bit1 1 = 1 by decide]
      intro k hk
      dsimp only
      rw [gt_set (by omega)]
      by_cases c5 : k = s
      · subst c5
        rw [if_pos rfl, up_eq]
        refine ⟨rfl, fun G e => ?_⟩
        cases e
        refine ⟨ho.1.1.2.1, h2.congr ho.1.1.2.1 fun i hi => ?_⟩
        rw [cp_gt (by omega), if_pos ⟨by omega, by omega⟩, Nat.add_sub_cancel_left]
      · rw [if_neg c5, upn_ne _ _ c5]
        refine ⟨(h4 k hk).1, fun G e => ⟨((h4 k hk).2 G e).1, ((h4 k hk).2 G e).2.congr ((h4 k hk).2 G e).1 fun i hi => ?_⟩⟩
        rw [cp_gt (by omega), if_neg (by omega)]
  · rw [if_neg (b0.mp c1)]
    exact ⟨rfl, _, _, rfl, h⟩
/-- which of the five words a byte is of -/
def wordOf (a b c e f : Int) (k : Nat) : Int := if k < 4 then a else if k < 8 then b else if k < 12 then c else if k < 16 then e else f
def byteOf (a b c e f : Int) (k : Nat) : Int := i2b (ishr (wordOf a b c e f k) (24 - 8 * (k % 4) : Nat))
theorem byteOf_eq {a b c e f : Int} : ∀ m, m < 20 → byteOf a b c e f m = (bytesOf a ++ (bytesOf b ++ (bytesOf c ++ (bytesOf e ++ bytesOf f))))[m]?.getD 0
  | 0, _ => by simp [byteOf, wordOf, bytesOf]
  | 1, _ => by simp [byteOf, wordOf, bytesOf]
  | 2, _ => by simp [byteOf, wordOf, bytesOf]
  | 3, _ => by simp [byteOf, wordOf, bytesOf]
  | 4, _ => by simp [byteOf, wordOf, bytesOf]
  | 5, _ => by simp [byteOf, wordOf, bytesOf]
  | 6, _ => by simp [byteOf, wordOf, bytesOf]
  | 7, _ => by simp [byteOf, wordOf, bytesOf]
  | 8, _ => by simp [byteOf, wordOf, bytesOf]
  | 9, _ => by simp [byteOf, wordOf, bytesOf]
  | 10, _ => by simp [byteOf, wordOf, bytesOf]
  | 11, _ => by simp [byteOf, wordOf, bytesOf]
  | 12, _ => by simp [byteOf, wordOf, bytesOf]
  | 13, _ => by simp [byteOf, wordOf, bytesOf]
  | 14, _ => by simp [byteOf, wordOf, bytesOf]
  | 15, _ => by simp [byteOf, wordOf, bytesOf]
  | 16, _ => by simp [byteOf, wordOf, bytesOf]
  | 17, _ => by simp [byteOf, wordOf, bytesOf]
  | 18, _ => by simp [byteOf, wordOf, bytesOf]
  | 19, _ => by simp [byteOf, wordOf, bytesOf]
  | n + 20, h => absurd h (by omega)
theorem i2b_i2b (x : Int) : i2b (i2b x) = i2b x := by
  unfold i2b
  rw [Int32.ofInt_toInt]
  simp
theorem feed_loop {a b c e f : Int} {n : Nat} (hn : n ≤ 100) {Q : Rs → AH → Prop}
    (hQ : ∀ T x, T.length = 120 → (∀ i, i < n → gt T i = gt (A 5) i) → (∀ i, i < 20 → gt T (n + i) = byteOf a b c e f i) → wp (d + 1) 285 (101, [some (vR (some M)), some (vI a), some (vI b), some (vI c), some (vI e), some (vI f), some (vI 20), x], [], tw h0 M (up A 5 T) sc) Q)
    (hs : sc 1 = (n : Int)) : ∀ (j k : Nat) (T : List Int) (x : Option AV), j + k = 20 → T.length = 120 → (∀ i, i < n → gt T i = gt (A 5) i) → (∀ i, i < k → gt T (n + i) = byteOf a b c e f i) →
    wp (d + 1) 285 (14, [some (vR (some M)), some (vI a), some (vI b), some (vI c), some (vI e), some (vI f), some (vI k), x], [], tw h0 M (up A 5 T) sc) Q := by
  intro j
  induction j with
  | zero =>
    intro k T x hk hl h1 h2
    obtain rfl : k = 20 := by omega
    refine wp.go [14, 101] 20 fun W C hW hC => ?_
    refine ⟨fun _ => ?_, fun c => absurd c (by decide)⟩
    exact hW _ (hQ T x hl h1 h2)
  | succ j ih =>
    intro k T x hk hl h1 h2
    have key : ∀ w, w = wordOf a b c e f k → wp (d + 1) 285 (67, [some (vR (some M)), some (vI a), some (vI b), some (vI c), some (vI e), some (vI f), some (vI k), x], [vI w], tw h0 M (up A 5 T) sc) Q := by
      rintro w rfl
      refine wp.go [14, 101] 90 fun W C hW hC => ?_
      refine ⟨_, _, _, _, twF, rfl, rfl, ?_⟩
      refine ⟨_, _, _, _, twF, rfl, rfl, ?_⟩
      conv => whnf
      refine ⟨by decide, ?_⟩
      conv => whnf
      rw [hs, irem_eq ⟨by omega, by omega⟩ ⟨by omega, by omega⟩, imul_eq (by omega), isub_eq (by omega), iadd_eq (by omega)]
      refine ⟨_, _, twI rfl rfl, by omega, (by rw [up_eq, hl]; omega), Or.inl ⟨rfl, ?_⟩⟩
      rw [twSetI rfl rfl, up_up, up_eq, show (((n : Int) + k).toNat) = n + k by omega]
      conv => whnf
      rw [iadd_eq (by omega)]
      have eb : i2b (i2b (ishr (wordOf a b c e f k) (24 - 8 * ((k : Int) % 4)))) = byteOf a b c e f k := by
        rw [i2b_i2b]
        unfold byteOf
        rw [show (24 : Int) - 8 * ((k : Int) % 4) = ((24 - 8 * (k % 4) : Nat) : Int) by omega]
      rw [eb]
      refine hW _ (ih (k + 1) _ _ (by omega) (by rw [List.length_set, hl]) (fun i hi => ?_) fun i hi => ?_)
      · rw [gt_set (by omega), if_neg (by omega), h1 i hi]
      · rw [gt_set (by omega)]
        by_cases c5 : i = k
        · subst c5; rw [if_pos rfl]
        · rw [if_neg (by omega), h2 i (by omega)]
    unfold wordOf at key
    refine wp.go [14, 67, 101] 90 fun W C hW hC => ?_
    refine ⟨fun c => absurd c (by omega), fun _ => ?_⟩
    refine ⟨fun c1 => ?_, fun c1 => hW _ (key _ (by rw [if_pos (by omega)]))⟩
    refine ⟨fun c2 => ?_, fun c2 => hW _ (key _ (by rw [if_neg (by omega), if_pos (by omega)]))⟩
    refine ⟨fun c3 => ?_, fun c3 => hW _ (key _ (by rw [if_neg (by omega), if_neg (by omega), if_pos (by omega)]))⟩
    refine ⟨fun c4 => hW _ (key _ (by rw [if_neg (by omega), if_neg (by omega), if_neg (by omega), if_neg (by omega)])), fun c4 => hW _ (key _ (by rw [if_neg (by omega), if_neg (by omega), if_neg (by omega), if_pos (by omega)]))⟩
theorem feed_tw (h : TW A sc S) {a b c e f : Int} : wp (d + 1) 285 (0, ent 8 [vR (some M), vI a, vI b, vI c, vI e, vI f], [], tw h0 M A sc) (twEnd h0 M (vI (aFeed S a b c e f).1) (aFeed S a b c e f).2) := by
  obtain ⟨h1, h2, h3, h4, h5, h6, h7⟩ := id h
  have hl5 := h1.eq 5
  rw [ln5] at hl5
  unfold aFeed
  refine wp.go [14] 90 fun W C hW hC => ?_
  refine ⟨_, _, _, _, twF, rfl, rfl, ?_⟩
  rw [h5.1]
  refine ⟨fun c1 => ?_, fun c1 => ?_⟩
  · have c1 : ((S.2.2.2.length : Nat) : Int) ≤ 100 := c1
    rw [if_neg (by omega)]
    have k := feed_loop (d := d) (h0 := h0) (M := M) (A := A) (sc := sc) (a := a) (b := b) (c := c) (e := e) (f := f) (n := S.2.2.2.length) (by omega) (Q := twEnd h0 M (vI ((S.2.2.2.length + 20 : Nat) : Int)) (S.1, S.2.1, S.2.2.1, S.2.2.2 ++ (bytesOf a ++ (bytesOf b ++ (bytesOf c ++ (bytesOf e ++ bytesOf f)))))) ?_ h5.1 20 0 (A 5) none rfl hl5 (fun _ _ => rfl) (fun i hi => absurd hi (by omega))
    · have e : up A 5 (A 5) = A := upn_self
      rw [e] at k
      refine hW _ ?_
      rw [if_neg (by omega)]
      exact k
    · intro T x hT k1 k2
      refine wp.go [] 90 fun W C hW hC => ?_
      refine ⟨_, _, _, _, twF, rfl, rfl, ?_⟩
      refine ⟨_, _, _, twF, rfl, (Nat.le_of_ble_eq_true rfl), ?_⟩
      rw [twP1, h5.1, iadd_eq (by omega)]
      refine ⟨_, _, _, _, twF, rfl, rfl, ?_⟩
      refine ⟨?_, _, _, rfl, h1.up (by rw [hT]; rfl), h2, h3, h4, ⟨?_, ?_, fun i hi => ?_⟩, h6, h7⟩
      · show Sum.inl (some (vI (((S.2.2.2.length : Nat) : Int) + 20))) = _
        rw [show ((S.2.2.2.length : Nat) : Int) + 20 = ((S.2.2.2.length + 20 : Nat) : Int) by omega]
      · show ((S.2.2.2.length : Nat) : Int) + 20 = (((S.2.2.2 ++ (bytesOf a ++ (bytesOf b ++ (bytesOf c ++ (bytesOf e ++ bytesOf f))))).length : Nat) : Int)
        rw [List.length_append]
        show _ = ((S.2.2.2.length + 20 : Nat) : Int)
        omega
      · show (S.2.2.2 ++ (bytesOf a ++ (bytesOf b ++ (bytesOf c ++ (bytesOf e ++ bytesOf f))))).length ≤ 120
        rw [List.length_append]
        show S.2.2.2.length + 20 ≤ 120
        omega
      · show gt T i = gt (S.2.2.2 ++ (bytesOf a ++ (bytesOf b ++ (bytesOf c ++ (bytesOf e ++ bytesOf f))))) i
        have hi : i < (S.2.2.2 ++ (bytesOf a ++ (bytesOf b ++ (bytesOf c ++ (bytesOf e ++ bytesOf f))))).length := hi
        rw [List.length_append] at hi
        have hi : i < S.2.2.2.length + 20 := hi
        by_cases c5 : i < S.2.2.2.length
        · rw [k1 i c5, h5.2.2 i c5]
          unfold gt
          rw [List.getElem?_append_left c5]
        · obtain ⟨m, rfl⟩ : ∃ m, i = S.2.2.2.length + m := ⟨i - S.2.2.2.length, by omega⟩
          rw [k2 m (by omega)]
          unfold gt
          rw [List.getElem?_append_right (by omega), Nat.add_sub_cancel_left]
          have hm : m < 20 := by omega
          exact byteOf_eq m hm
  · have c1 : 100 < ((S.2.2.2.length : Nat) : Int) := c1
    rw [if_pos (by omega)]
    exact ⟨rfl, _, _, rfl, h⟩
end ACTS4
