/-! THE TWIN's ways and what hangs on them -/
section HUNG
variable {d : Nat} {h0 : AH} {M : Nat} {A : Nat → List Int} {sc : Nat → Int} {tab : List Tr} {G : Gr} {D : Nat → Nat → Nat}
theorem Far.lt (hG : G.wf) (hD : Far G D) {a b : Nat} (ha : a < G.1) (hb : b < G.1) : D a b + 1 ≤ G.1 := by
  have h := hang_all hG hD (a := 16) (c := a) (b := b) (fr := -1) (Or.inr ⟨rfl, rfl⟩) ha hb rfl
  rw [← root_eq hG hD ha] at h
  omega
theorem laysPath_spec (hG : G.wf) (hD : Far G D) (hM : SeenM A sc tab G D) {a b : Nat} (ha : a < G.1) (hb : b < G.1) :
    wp (d + 2) 385 (0, ent 6 [vR (some M), vI ((a : Nat) : Int), vI ((b : Nat) : Int)], [], tw h0 M A sc) (fun r h' => r = .inl (some (vI ((D a b + 1 : Nat) : Int))) ∧ ∃ X, h' = tw h0 M (up A 44 X) sc ∧ X.length = 16 ∧ ∀ i, i ≤ D a b → gt X i = ((ptN (pthL G D (D a b) a b) i : Nat) : Int)) := by
  have hA := hM.1.1.1
  have hr := hM.1.2.1
  have hn := hG.2.1
  have hl44 : (A 44).length = 16 := by rw [hA.eq 44]; rfl
  have loop : ∀ (f n c : Nat) (X : List Int) (x5 : Option AV), c < G.1 → D c b = f → n + f ≤ 15 → X.length = 16 → gt X n = ((c : Nat) : Int) → wp (d + 2) 385 (13, [some (vR (some M)), some (vI ((a : Nat) : Int)), some (vI ((b : Nat) : Int)), some (vI ((n : Nat) : Int)), some (vI ((c : Nat) : Int)), x5], [], tw h0 M (up A 44 X) sc) (fun r h' => r = .inl (some (vI ((n + f + 1 : Nat) : Int))) ∧ ∃ X', h' = tw h0 M (up A 44 X') sc ∧ X'.length = 16 ∧ (∀ i, i ≤ n → gt X' i = gt X i) ∧ ∀ i, i ≤ f → gt X' (n + i) = ((ptN (pthL G D f c b) i : Nat) : Int)) := by
    intro f
    induction f with
    | zero =>
      intro n c X x5 hc hf hnf hX hg
      obtain rfl : c = b := (hD c b hc hb).2.1.mp hf
      refine wp.go [13, 22] 30 fun W C hW hC => ?_
      refine ⟨fun _ => ?_, fun c => absurd rfl c⟩
      conv => whnf
      rw [iadd_eq (by omega)]
      refine ⟨rfl, X, rfl, hX, fun _ _ => rfl, fun i hi => ?_⟩
      obtain rfl : i = 0 := by omega
      rw [pt_zero]; exact hg
    | succ f ih =>
      intro n c X x5 hc hf hnf hX hg
      have hcb : c ≠ b := by
        rintro rfl
        rw [(hD c c hc hc).2.1.mpr rfl] at hf
        omega
      obtain ⟨n1, n2⟩ := nxt_ok hD hG hc hb hcb
      have hq := (hG.2.2 _ _ n1).2.1
      have hA2 : lens (up A 44 X) := hA.up (by rw [hX]; rfl)
      have hrow := row_lt hn (c := c)
      have fc := hM.2 c b hc hb
      have find : ∀ (j e : Nat), j + e = nxt G D c b → wp (d + 2) 385 (22, [some (vR (some M)), some (vI ((a : Nat) : Int)), some (vI ((b : Nat) : Int)), some (vI ((n : Nat) : Int)), some (vI ((c : Nat) : Int)), some (vI ((e : Nat) : Int))], [], tw h0 M (up A 44 X) sc) (fun r h' => r = .inl (some (vI ((n + (f + 1) + 1 : Nat) : Int))) ∧ ∃ X', h' = tw h0 M (up A 44 X') sc ∧ X'.length = 16 ∧ (∀ i, i ≤ n → gt X' i = gt X i) ∧ ∀ i, i ≤ f + 1 → gt X' (n + i) = ((ptN (pthL G D (f + 1) c b) i : Nat) : Int)) := by
        intro j
        induction j with
        | zero =>
          intro e hj
          obtain rfl : e = nxt G D c b := by omega
          have fe := hM.2 (nxt G D c b) b hq hb
          refine wp.go [13, 22] 90 fun W C hW hC => ?_
          refine ⟨_, _, _, _, twF, rfl, rfl, ?_⟩
          (conv => whnf); simp (disch := omega) only [iadd_eq, isub_eq, imul_eq]
          refine ⟨_, _, _, twI rfl rfl, rfl, (by omega), gt_at (1 + c) (by omega) (lenlt (j := 18) (hA2) (show (1 + c) < 17 by omega)), ?_⟩
          rw [upn_ne _ _ (by decide), isRow0 hr hc]
          refine hC _ _ _ (use (has_spec (d := d) (by omega) (by omega)) ?_); rintro _ _ ⟨rfl, rfl⟩
          rw [row_bit hG]
          refine ⟨fun q => absurd n1 (b0.mp q), fun _ => ?_⟩
          refine ⟨_, _, _, _, twF, rfl, rfl, ?_⟩
          (conv => whnf); simp (disch := omega) only [iadd_eq, isub_eq, imul_eq]
          refine ⟨_, _, _, twI rfl rfl, rfl, (by omega), gt_at (16 * nxt G D c b + b) (by omega) (lenlt (j := 25) (hA2) (show (16 * nxt G D c b + b) < 256 by omega)), ?_⟩
          rw [upn_ne _ _ (by decide), fe]
          refine ⟨_, _, _, _, twF, rfl, rfl, ?_⟩
          (conv => whnf); simp (disch := omega) only [iadd_eq, isub_eq, imul_eq]
          refine ⟨_, _, _, twI rfl rfl, rfl, (by omega), gt_at (16 * c + b) (by omega) (lenlt (j := 25) (hA2) (show (16 * c + b) < 256 by omega)), ?_⟩
          rw [upn_ne _ _ (by decide), fc]
          (conv => whnf); simp (disch := omega) only [iadd_eq, isub_eq, imul_eq]
          refine ⟨fun _ => ?_, fun q => absurd (by omega) q⟩
          (conv => whnf); simp (disch := omega) only [iadd_eq, isub_eq, imul_eq]
          refine ⟨_, _, _, _, twF, rfl, rfl, ?_⟩
          (refine ⟨_, twI rfl rfl, (by omega), (ilt (n + 1) (by omega) (lenlt (j := 44) (hA2) (show (n + 1) < 16 by omega))), ?_⟩; rw [twSetI rfl rfl]; try rw [Int.toNat_natCast])
          rw [up_up, up_eq, show (((n : Nat) : Int) + 1).toNat = n + 1 by omega]
          have key := ih (n + 1) (nxt G D c b) (X.set (n + 1) ((nxt G D c b : Nat) : Int)) (some (vI ((nxt G D c b : Nat) : Int))) hq (by omega) (by omega) (by rw [List.length_set]; exact hX) (by rw [gt_set (by omega), if_pos rfl])
          refine hW _ (use key ?_)
          rintro _ _ ⟨rfl, X', rfl, i1, i2, i3⟩
          refine ⟨by rw [show n + 1 + f + 1 = n + (f + 1) + 1 by omega], X', rfl, i1, fun i hi => ?_, fun i hi => ?_⟩
          · rw [i2 i (by omega), gt_set (by omega), if_neg (by omega)]
          · cases i with
            | zero =>
              rw [Nat.add_zero, i2 n (by omega), gt_set (by omega), if_neg (by omega), pt_zero]
              exact hg
            | succ i =>
              rw [pt_succ, ← i3 i (by omega)]
              congr 1
              omega
        | succ j ihj =>
          intro e hj
          have step : wp (d + 2) 385 (68, [some (vR (some M)), some (vI ((a : Nat) : Int)), some (vI ((b : Nat) : Int)), some (vI ((n : Nat) : Int)), some (vI ((c : Nat) : Int)), some (vI ((e : Nat) : Int))], [], tw h0 M (up A 44 X) sc) (fun r h' => r = .inl (some (vI ((n + (f + 1) + 1 : Nat) : Int))) ∧ ∃ X', h' = tw h0 M (up A 44 X') sc ∧ X'.length = 16 ∧ (∀ i, i ≤ n → gt X' i = gt X i) ∧ ∀ i, i ≤ f + 1 → gt X' (n + i) = ((ptN (pthL G D (f + 1) c b) i : Nat) : Int)) := by
            refine wp.go [22] 10 fun W C hW hC => ?_
            (conv => whnf); simp (disch := omega) only [iadd_eq, isub_eq, imul_eq]
            exact hW _ (ihj (e + 1) (by omega))
          refine wp.go [13, 22, 68] 90 fun W C hW hC => ?_
          refine ⟨_, _, _, _, twF, rfl, rfl, ?_⟩
          (conv => whnf); simp (disch := omega) only [iadd_eq, isub_eq, imul_eq]
          refine ⟨_, _, _, twI rfl rfl, rfl, (by omega), gt_at (1 + c) (by omega) (lenlt (j := 18) (hA2) (show (1 + c) < 17 by omega)), ?_⟩
          rw [upn_ne _ _ (by decide), isRow0 hr hc]
          refine hC _ _ _ (use (has_spec (d := d) (by omega) (by omega)) ?_); rintro _ _ ⟨rfl, rfl⟩
          rw [row_bit hG]
          refine ⟨fun _ => hW _ step, fun q => ?_⟩
          have hce := b1.mp q
          have he := (hG.2.2 _ _ hce).2.1
          have fe := hM.2 e b he hb
          refine ⟨_, _, _, _, twF, rfl, rfl, ?_⟩
          (conv => whnf); simp (disch := omega) only [iadd_eq, isub_eq, imul_eq]
          refine ⟨_, _, _, twI rfl rfl, rfl, (by omega), gt_at (16 * e + b) (by omega) (lenlt (j := 25) (hA2) (show (16 * e + b) < 256 by omega)), ?_⟩
          rw [upn_ne _ _ (by decide), fe]
          refine ⟨_, _, _, _, twF, rfl, rfl, ?_⟩
          (conv => whnf); simp (disch := omega) only [iadd_eq, isub_eq, imul_eq]
          refine ⟨_, _, _, twI rfl rfl, rfl, (by omega), gt_at (16 * c + b) (by omega) (lenlt (j := 25) (hA2) (show (16 * c + b) < 256 by omega)), ?_⟩
          rw [upn_ne _ _ (by decide), fc]
          (conv => whnf); simp (disch := omega) only [iadd_eq, isub_eq, imul_eq]
          refine ⟨fun q => ?_, fun _ => hW _ step⟩
          have : e = nxt G D c b := Far.uniq hG hD hb hce n1 (by omega) (by omega)
          omega
      refine wp.go [13, 22] 30 fun W C hW hC => ?_
      refine ⟨fun q => absurd (by omega) hcb, fun _ => ?_⟩
      exact hW _ (find (nxt G D c b) 0 rfl)
  have hlt := Far.lt hG hD ha hb
  refine wp.go [13] 30 fun W C hW hC => ?_
  refine ⟨_, _, _, _, twF, rfl, rfl, ?_⟩
  (refine ⟨_, twI rfl rfl, (by omega), (ilt (0) (by omega) (lenlt (j := 44) (hA) (show (0) < 16 by omega))), ?_⟩; rw [twSetI rfl rfl]; try rw [Int.toNat_natCast])
  rw [show Int.toNat 0 = 0 from rfl]
  have key := loop (D a b) 0 a ((A 44).set 0 ((a : Nat) : Int)) none ha rfl (by omega) (by rw [List.length_set]; exact hl44) (by rw [gt_set (by omega), if_pos rfl])
  refine hW _ (use key ?_)
  rintro _ _ ⟨rfl, X', rfl, i1, i2, i3⟩
  refine ⟨by rw [Nat.zero_add], X', rfl, i1, fun i hi => ?_⟩
  have := i3 i hi
  rw [Nat.zero_add] at this
  exact this
/-- carbons that hang, by their texts, told from the end -/
def insV (tx : Nat → Tx) (b : Nat) : List Nat → List Nat
  | [] => [b]
  | x :: r => if difT (tx b) (tx x) < 0 then x :: insV tx b r else b :: x :: r
theorem insV_map (tx : Nat → Tx) (b : Nat) : ∀ l : List Nat, (insV tx b l).map tx = insR (tx b) (l.map tx)
  | [] => rfl
  | x :: r => by
    unfold insV
    rw [List.map_cons]
    unfold insR
    split
    · rw [List.map_cons, insV_map tx b r]
    · rfl
theorem insV_at (tx : Nat → Tx) (b : Nat) : ∀ (R1 R2 : List Nat), (∀ x, x ∈ R1 → difT (tx b) (tx x) < 0) → (∀ x, R2[0]? = some x → ¬ difT (tx b) (tx x) < 0) → insV tx b (R1 ++ R2) = R1 ++ b :: R2
  | [], [], _, _ => rfl
  | [], x :: r, _, h => by
    rw [List.nil_append, List.nil_append]
    unfold insV
    rw [if_neg (h x rfl)]
  | y :: s, R2, h1, h2 => by
    rw [List.cons_append]
    unfold insV
    rw [if_pos (h1 y List.mem_cons_self), insV_at tx b s R2 (fun x hx => h1 x (List.mem_cons_of_mem _ hx)) h2]
    rfl
/-- hung: the row of those carbons, seen from c -/
def hvAt (X : List Int) (c : Nat) (R : List Nat) : Prop := ∀ i x, R.reverse[i]? = some x → gt X i = ((16 * c + x : Nat) : Int)
end HUNG
