/-! A TREE STAYS A TREE: two of them, bound by a bond -/
theorem sumR_split {f : Nat → Nat} {n : Nat} : ∀ m, sumR (n + m) f = sumR n f + sumR m fun i => f (n + i)
  | 0 => rfl
  | m + 1 => by
    show sumR (n + m) f + f (n + m) = sumR n f + (sumR m (fun i => f (n + i)) + f (n + m))
    rw [sumR_split m]; omega
theorem cnt_split (p : Nat → Bool) (n m : Nat) : cnt (n + m) p = cnt n p + cnt m fun i => p (n + i) := sumR_split m
theorem cnt_congr {p q : Nat → Bool} {n : Nat} (h : ∀ i, i < n → p i = q i) : cnt n p = cnt n q := sumR_congr fun i hi => by rw [h i hi]
theorem cnt_none {p : Nat → Bool} {n : Nat} (h : ∀ i, i < n → p i = false) : cnt n p = 0 := sumR_none fun i hi => by rw [h i hi]; rfl
theorem cnt_one {p : Nat → Bool} {n k : Nat} (hk : k < n) (h : ∀ i, i < n → p i = Nat.beq i k) : cnt n p = 1 := by
  unfold cnt
  rw [sumR_only hk fun i hi hne => by rw [h i hi, beq_ff hne]; rfl, h k hk, Nat.beq_refl]; rfl
section GB
variable {G H : Gr} {c o : Nat} {D E : Nat → Nat → Nat}
theorem wf_ff (hG : G.wf) {a b : Nat} (h : ¬ (a < G.1 ∧ b < G.1)) : G.2 a b = false := by
  cases e : G.2 a b with
  | true => have := hG.2.2 _ _ e; exact absurd ⟨this.1, this.2.1⟩ h
  | false => rfl
theorem gb00 (hG : G.wf) {a b : Nat} (ha : a < G.1) (hb : b < G.1) : (gBind G H c o).2 a b = G.2 a b := by
  show (G.2 a b || (decide (G.1 ≤ a) && decide (G.1 ≤ b) && H.2 (a - G.1) (b - G.1)) || (Nat.beq a c && Nat.beq b (G.1 + o)) || (Nat.beq a (G.1 + o) && Nat.beq b c)) = _
  rw [decide_eq_false (show ¬ G.1 ≤ a by omega), beq_ff (show b ≠ G.1 + o by omega), beq_ff (show a ≠ G.1 + o by omega)]
  simp
theorem gb01 (hG : G.wf) {a j : Nat} (ha : a < G.1) : (gBind G H c o).2 a (G.1 + j) = (Nat.beq a c && Nat.beq j o) := by
  show (G.2 a (G.1 + j) || (decide (G.1 ≤ a) && decide (G.1 ≤ G.1 + j) && H.2 (a - G.1) (G.1 + j - G.1)) || (Nat.beq a c && Nat.beq (G.1 + j) (G.1 + o)) || (Nat.beq a (G.1 + o) && Nat.beq (G.1 + j) c)) = _
  rw [wf_ff hG (by omega), decide_eq_false (show ¬ G.1 ≤ a by omega), beq_ff (show a ≠ G.1 + o by omega)]
  have : Nat.beq (G.1 + j) (G.1 + o) = Nat.beq j o := by
    by_cases e : j = o
    · subst e; rw [Nat.beq_refl, Nat.beq_refl]
    · rw [beq_ff e, beq_ff (by omega)]
  rw [this]; simp
theorem gb10 (hG : G.wf) (hc : c < G.1) {i b : Nat} (hb : b < G.1) : (gBind G H c o).2 (G.1 + i) b = (Nat.beq i o && Nat.beq b c) := by
  show (G.2 (G.1 + i) b || (decide (G.1 ≤ G.1 + i) && decide (G.1 ≤ b) && H.2 (G.1 + i - G.1) (b - G.1)) || (Nat.beq (G.1 + i) c && Nat.beq b (G.1 + o)) || (Nat.beq (G.1 + i) (G.1 + o) && Nat.beq b c)) = _
  rw [wf_ff hG (by omega), decide_eq_false (show ¬ G.1 ≤ b by omega), beq_ff (show b ≠ G.1 + o by omega)]
  have : Nat.beq (G.1 + i) (G.1 + o) = Nat.beq i o := by
    by_cases e : i = o
    · subst e; rw [Nat.beq_refl, Nat.beq_refl]
    · rw [beq_ff e, beq_ff (by omega)]
  rw [this]; simp
theorem gb11 (hG : G.wf) (hc : c < G.1) {i j : Nat} : (gBind G H c o).2 (G.1 + i) (G.1 + j) = H.2 i j := by
  show (G.2 (G.1 + i) (G.1 + j) || (decide (G.1 ≤ G.1 + i) && decide (G.1 ≤ G.1 + j) && H.2 (G.1 + i - G.1) (G.1 + j - G.1)) || (Nat.beq (G.1 + i) c && Nat.beq (G.1 + j) (G.1 + o)) || (Nat.beq (G.1 + i) (G.1 + o) && Nat.beq (G.1 + j) c)) = _
  rw [wf_ff hG (by omega), decide_eq_true (show G.1 ≤ G.1 + i by omega), decide_eq_true (show G.1 ≤ G.1 + j by omega), beq_ff (show G.1 + i ≠ c by omega), beq_ff (show G.1 + j ≠ c by omega), Nat.add_sub_cancel_left, Nat.add_sub_cancel_left]
  simp
def dBind (n : Nat) (D E : Nat → Nat → Nat) (c o a b : Nat) : Nat := if a < n then (if b < n then D a b else D a c + 1 + E o (b - n)) else if b < n then E (a - n) o + 1 + D c b else E (a - n) (b - n)
theorem db00 {n a b : Nat} (ha : a < n) (hb : b < n) : dBind n D E c o a b = D a b := by unfold dBind; rw [if_pos ha, if_pos hb]
theorem db01 {n a j : Nat} (ha : a < n) : dBind n D E c o a (n + j) = D a c + 1 + E o j := by unfold dBind; rw [if_pos ha, if_neg (by omega), Nat.add_sub_cancel_left]
theorem db10 {n i b : Nat} (hb : b < n) : dBind n D E c o (n + i) b = E i o + 1 + D c b := by unfold dBind; rw [if_neg (by omega), if_pos hb, Nat.add_sub_cancel_left]
theorem db11 {n i j : Nat} : dBind n D E c o (n + i) (n + j) = E i j := by unfold dBind; rw [if_neg (by omega), if_neg (by omega), Nat.add_sub_cancel_left, Nat.add_sub_cancel_left]
theorem lt_or_add (n a : Nat) : a < n ∨ ∃ i, a = n + i := by
  by_cases h : a < n
  · exact Or.inl h
  · exact Or.inr ⟨a - n, by omega⟩
theorem bind_far (hG : G.wf) (hH : H.wf) (hD : Far G D) (hE : Far H E) (hc : c < G.1) (ho : o < H.1) : Far (gBind G H c o) (dBind G.1 D E c o) := by
  intro a b ha hb
  have ha : a < G.1 + H.1 := ha
  have hb : b < G.1 + H.1 := hb
  have d0 : ∀ x, x < G.1 → D x x = 0 := fun x hx => (hD x x hx hx).2.1.mpr rfl
  have e0 : ∀ x, x < H.1 → E x x = 0 := fun x hx => (hE x x hx hx).2.1.mpr rfl
  rcases lt_or_add G.1 a with a1 | ⟨i, rfl⟩
  · rcases lt_or_add G.1 b with b1 | ⟨j, rfl⟩
    · obtain ⟨s1, s2, s3⟩ := hD a b a1 b1
      rw [db00 a1 b1, db00 b1 a1]
      refine ⟨s1, s2, fun hne => ?_⟩
      obtain ⟨x, x1, x2, x3⟩ := s3 hne
      have hx := (hG.2.2 _ _ x1).2.1
      refine ⟨x, by rw [gb00 hG a1 hx]; exact x1, by rw [db00 hx b1]; exact x2, fun e he hne2 => ?_⟩
      rcases lt_or_add G.1 e with e1 | ⟨k, rfl⟩
      · rw [gb00 hG a1 e1] at he
        rw [db00 e1 b1]; exact x3 e he hne2
      · rw [gb01 hG a1, Bool.and_eq_true, Nat.beq_eq, Nat.beq_eq] at he
        obtain ⟨rfl, rfl⟩ := he
        rw [db10 b1, e0 _ ho]; omega
    · have b1 : j < H.1 := by omega
      rw [db01 a1, db10 a1]
      obtain ⟨s1, s2, s3⟩ := hD a c a1 hc
      obtain ⟨t1, t2, t3⟩ := hE o j ho b1
      refine ⟨by omega, ⟨fun h => by omega, fun h => by omega⟩, fun _ => ?_⟩
      by_cases hac : a = c
      · subst hac
        refine ⟨G.1 + o, by rw [gb01 hG a1, Nat.beq_refl, Nat.beq_refl]; rfl, by rw [db11, d0 _ a1]; omega, fun e he hne2 => ?_⟩
        rcases lt_or_add G.1 e with e1 | ⟨k, rfl⟩
        · rw [gb00 hG a1 e1] at he
          rw [db01 e1]
          rcases Far.pm hG hD he a1 with p | p
          · rw [p]; omega
          · rw [d0 _ a1] at p; omega
        · rw [gb01 hG a1, Bool.and_eq_true, Nat.beq_eq, Nat.beq_eq] at he
          exact absurd (by rw [he.2]) hne2
      · obtain ⟨x, x1, x2, x3⟩ := s3 hac
        have hx := (hG.2.2 _ _ x1).2.1
        refine ⟨x, by rw [gb00 hG a1 hx]; exact x1, by rw [db01 hx]; omega, fun e he hne2 => ?_⟩
        rcases lt_or_add G.1 e with e1 | ⟨k, rfl⟩
        · rw [gb00 hG a1 e1] at he
          rw [db01 e1, x3 e he hne2]; omega
        · rw [gb01 hG a1, Bool.and_eq_true, Nat.beq_eq, Nat.beq_eq] at he
          exact absurd he.1 hac
  · have a1 : i < H.1 := by omega
    rcases lt_or_add G.1 b with b1 | ⟨j, rfl⟩
    · rw [db10 b1, db01 b1]
      obtain ⟨s1, s2, s3⟩ := hD c b hc b1
      obtain ⟨t1, t2, t3⟩ := hE i o a1 ho
      refine ⟨by omega, ⟨fun h => by omega, fun h => by omega⟩, fun _ => ?_⟩
      by_cases hio : i = o
      · subst hio
        refine ⟨c, by rw [gb10 hG hc hc, Nat.beq_refl, Nat.beq_refl]; rfl, by rw [db00 hc b1, e0 _ a1]; omega, fun e he hne2 => ?_⟩
        rcases lt_or_add G.1 e with e1 | ⟨k, rfl⟩
        · rw [gb10 hG hc e1, Bool.and_eq_true, Nat.beq_eq, Nat.beq_eq] at he
          exact absurd he.2 hne2
        · rw [gb11 hG hc] at he
          rw [db10 b1]
          rcases Far.pm hH hE he a1 with p | p
          · rw [p]; omega
          · rw [e0 _ a1] at p; omega
      · obtain ⟨x, x1, x2, x3⟩ := t3 hio
        refine ⟨G.1 + x, by rw [gb11 hG hc]; exact x1, by rw [db10 b1]; omega, fun e he hne2 => ?_⟩
        rcases lt_or_add G.1 e with e1 | ⟨k, rfl⟩
        · rw [gb10 hG hc e1, Bool.and_eq_true, Nat.beq_eq, Nat.beq_eq] at he
          exact absurd he.1 hio
        · rw [gb11 hG hc] at he
          rw [db10 b1, x3 k he (by omega)]; omega
    · have b1 : j < H.1 := by omega
      obtain ⟨t1, t2, t3⟩ := hE i j a1 b1
      rw [db11, db11]
      refine ⟨t1, ⟨fun h => by rw [t2.mp h], fun h => t2.mpr (Nat.add_left_cancel h)⟩, fun hne => ?_⟩
      obtain ⟨x, x1, x2, x3⟩ := t3 (fun h => hne (by rw [h]))
      refine ⟨G.1 + x, by rw [gb11 hG hc]; exact x1, by rw [db11]; exact x2, fun e he hne2 => ?_⟩
      rcases lt_or_add G.1 e with e1 | ⟨k, rfl⟩
      · rw [gb10 hG hc e1, Bool.and_eq_true, Nat.beq_eq, Nat.beq_eq] at he
        obtain ⟨rfl, rfl⟩ := he
        rw [db01 e1, d0 _ e1]; omega
      · rw [gb11 hG hc] at he
        rw [db11]; exact x3 k he (by omega)
theorem wf_row (hG : G.wf) {a : Nat} : cnt G.1 (G.2 a) = deg G a := (deg_cnt G a).symm
theorem deg_big (hG : G.wf) {a : Nat} (ha : ¬ a < G.1) : deg G a = 0 := by rw [deg_cnt]; exact cnt_none fun i hi => wf_ff hG (by omega)
theorem bind_deg (hG : G.wf) (hH : H.wf) (hc : c < G.1) (ho : o < H.1) (a : Nat) : deg (gBind G H c o) a = if a < G.1 then deg G a + (if a = c then 1 else 0) else deg H (a - G.1) + (if a = G.1 + o then 1 else 0) := by
  rw [deg_cnt]
  show cnt (G.1 + H.1) _ = _
  rw [cnt_split]
  rcases lt_or_add G.1 a with a1 | ⟨i, rfl⟩
  · rw [if_pos a1, deg_cnt]
    congr 1
    · exact cnt_congr fun i hi => gb00 hG a1 hi
    · by_cases e : a = c
      · rw [if_pos e]
        exact cnt_one ho fun i hi => by rw [gb01 hG a1, e, Nat.beq_refl]; rfl
      · rw [if_neg e]
        exact cnt_none fun i hi => by rw [gb01 hG a1, beq_ff e]; rfl
  · rw [if_neg (by omega), Nat.add_sub_cancel_left, deg_cnt, Nat.add_comm]
    congr 1
    · exact cnt_congr fun j hj => gb11 hG hc
    · by_cases e : i = o
      · rw [if_pos (by rw [e])]
        exact cnt_one hc fun j hj => by rw [gb10 hG hc hj, e, Nat.beq_refl]; rfl
      · rw [if_neg (by omega)]
        exact cnt_none fun j hj => by rw [gb10 hG hc hj, beq_ff e]; rfl
theorem bind_ok (hG : G.ok) (hH : H.ok) (hc : c < G.1) (ho : o < H.1) (hn : G.1 + H.1 ≤ 16) (h1 : deg G c ≠ 4) (h2 : deg H o ≠ 4) : (gBind G H c o).ok := by
  obtain ⟨hG, gd, D, hD⟩ := hG
  obtain ⟨hH, hd, E, hE⟩ := hH
  refine ⟨bind_wf hG hH hc ho hn, fun a => ?_, _, bind_far hG hH hD hE hc ho⟩
  rw [bind_deg hG hH hc ho]
  have := gd a
  have := hd (a - G.1)
  have := gd c
  have := hd o
  by_cases c1 : a < G.1
  · rw [if_pos c1]
    by_cases c2 : a = c
    · rw [if_pos c2, c2]; omega
    · rw [if_neg c2]; omega
  · rw [if_neg c1]
    by_cases c2 : a = G.1 + o
    · rw [if_pos c2, c2, Nat.add_sub_cancel_left]; omega
    · rw [if_neg c2]; omega
abbrev gOne : Gr := (1, fun _ _ => false)
theorem one_ok : gOne.ok := by
  refine ⟨⟨Nat.le_refl _, (show (1 : Nat) ≤ 16 by decide), fun a b h => by cases h⟩, fun a => by rw [deg_cnt]; exact Nat.zero_le _, fun _ _ => 0, fun a b ha hb => ?_⟩
  have ha : a < 1 := ha
  have hb : b < 1 := hb
  exact ⟨rfl, ⟨fun _ => by omega, fun _ => rfl⟩, fun h => absurd (by omega) h⟩
theorem grow_eq : gGrow G c = gBind G gOne c 0 := by
  unfold gGrow gBind
  refine Prod.ext rfl ?_
  funext a b
  show (G.2 a b || (Nat.beq a c && Nat.beq b G.1) || (Nat.beq a G.1 && Nat.beq b c)) = (G.2 a b || (decide (G.1 ≤ a) && decide (G.1 ≤ b) && false) || (Nat.beq a c && Nat.beq b (G.1 + 0)) || (Nat.beq a (G.1 + 0) && Nat.beq b c))
  rw [Nat.add_zero, Bool.and_false, Bool.or_false]
theorem grow_ok (hG : G.ok) (hc : c < G.1) (hn : G.1 < 16) (h1 : deg G c ≠ 4) : (gGrow G c).ok := by
  rw [grow_eq]
  exact bind_ok hG one_ok hc (Nat.lt_succ_self 0) (show G.1 + 1 ≤ 16 by omega) h1 (by rw [deg_cnt]; exact (by decide : cnt 1 (fun _ => false) ≠ 4))
theorem grow_deg (hG : G.wf) (hc : c < G.1) (a : Nat) (ha : a ≤ G.1) : deg (gGrow G c) a = if a < G.1 then deg G a + (if a = c then 1 else 0) else 1 := by
  rw [grow_eq, bind_deg hG one_ok.1 hc (Nat.lt_succ_self 0)]
  by_cases h : a < G.1
  · rw [if_pos h, if_pos h]
  · rw [if_neg h, if_neg h, if_pos (by omega)]
    have : a - G.1 = 0 := by omega
    rw [this]
    show deg gOne 0 + 1 = 1
    rfl
end GB
