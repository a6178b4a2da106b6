/-! ALL BRANCHES of a size, as they are put together -/
def downF {α : Type} (f : Nat → List α) : Nat → List α
  | 0 => []
  | n + 1 => f (n + 1) ++ downF f n
theorem downF_mem {α : Type} {f : Nat → List α} {x : α} {s : Nat} (h1 : 1 ≤ s) (hx : x ∈ f s) : ∀ {n : Nat}, s ≤ n → x ∈ downF f n
  | 0, h => by omega
  | n + 1, h => by
    unfold downF
    rw [List.mem_append]
    by_cases e : s = n + 1
    · subst e; exact Or.inl hx
    · exact Or.inr (downF_mem h1 hx (by omega))
def ovO (b : Tr) : Option Tr → Bool
  | none => false
  | some a => decide (0 < cmpT b a)
/-- rows of trees: so many at most, so many carbons together, none above a size, none greater than the one ahead -/
def rowsB (B : Nat → List Tr) : Nat → Nat → Nat → Option Tr → List (List Tr)
  | 0, left, _, _ => cond (Nat.beq left 0) [[]] []
  | p + 1, left, most, ah => cond (Nat.beq left 0) [[]] (downF (fun s => (B s).flatMap fun b => cond (ovO b ah) [] ((rowsB B p (left - s) s (some b)).map fun r => b :: r)) (min left most))
theorem rows_mem {B : Nat → List Tr} : ∀ (p : Nat) (l : List Tr) (left most : Nat) (ah : Option Tr), (∀ x, x ∈ l → x ∈ B (szT x)) → l.length ≤ p → sortedT l → sumS l = left → (∀ x, x ∈ l → szT x ≤ most) → (∀ a, ah = some a → ∀ x, x ∈ l → cmpT x a ≤ 0) → l ∈ rowsB B p left most ah
  | 0, [], left, most, ah, _, _, _, hs, _, _ => by
    have : left = 0 := hs.symm
    subst this
    exact List.mem_singleton.mpr rfl
  | 0, _ :: _, _, _, _, _, h, _, _, _, _ => by simp at h
  | p + 1, [], left, most, ah, _, _, _, hs, _, _ => by
    have : left = 0 := hs.symm
    subst this
    exact List.mem_singleton.mpr rfl
  | p + 1, b :: r, left, most, ah, hB, hl, hs, hsum, hm, ha => by
    have hsum : szT b + sumS r = left := by rw [← hsum]; unfold sumS; rw [List.map_cons, List.sum_cons]
    have hb := sz_pos b
    unfold rowsB
    rw [beq_ff (show left ≠ 0 by omega), cond_false]
    refine downF_mem (s := szT b) hb ?_ (by have := hm b List.mem_cons_self; omega)
    rw [List.mem_flatMap]
    refine ⟨b, hB b List.mem_cons_self, ?_⟩
    have : ovO b ah = false := by
      cases ah with
      | none => rfl
      | some a => exact decide_eq_false (by have := ha a rfl b List.mem_cons_self; omega)
    rw [this, cond_false, List.mem_map]
    refine ⟨r, ?_, rfl⟩
    rw [show left - szT b = sumS r by omega]
    refine rows_mem p r _ _ _ (fun x hx => hB x (List.mem_cons_of_mem _ hx)) (by simp at hl; omega) hs.2 rfl (fun x hx => cmp_sz (hs.1 x hx)) ?_
    intro a e x hx
    cases e
    have := hs.1 x hx
    have := cmpT_neg b x
    omega
/-- what hangs on it are branches all through: at most three on each carbon, the greatest first -/
def brO : Tr → Prop
  | .var _ => True
  | .op a b => (brO a ∧ (kidsT a).length ≤ 3 ∧ sortedT (kidsT a)) ∧ brO b
theorem brO_kid : ∀ {t : Tr}, brO t → ∀ a, a ∈ kidsT t → brO a ∧ (kidsT a).length ≤ 3 ∧ sortedT (kidsT a)
  | .var _, _, a, h => nomatch h
  | .op x y, h, a, ha => by
    rcases List.mem_cons.mp ha with rfl | ha
    · exact h.1
    · exact brO_kid h.2 a ha
theorem brO_mk : ∀ {l : List Tr}, (∀ a, a ∈ l → brO a ∧ (kidsT a).length ≤ 3 ∧ sortedT (kidsT a)) → brO (mkT l)
  | [], _ => trivial
  | a :: r, h => ⟨h a List.mem_cons_self, brO_mk fun x hx => h x (List.mem_cons_of_mem _ hx)⟩
/-- all branches of up to five carbons -/
abbrev leafT : Tr := .var 0
def brL1 : List Tr := [.var 0]
def brL2 : List Tr := [.op (.var 0) (.var 0)]
def brL3 : List Tr := [.op (.op (.var 0) (.var 0)) (.var 0), .op (.var 0) (.op (.var 0) (.var 0))]
def brL4 : List Tr := [.op (.op (.op (.var 0) (.var 0)) (.var 0)) (.var 0), .op (.op (.var 0) (.op (.var 0) (.var 0))) (.var 0), .op (.op (.var 0) (.var 0)) (.op (.var 0) (.var 0)), .op (.var 0) (.op (.var 0) (.op (.var 0) (.var 0)))]
def brL5 : List Tr := [.op (.op (.op (.op (.var 0) (.var 0)) (.var 0)) (.var 0)) (.var 0), .op (.op (.op (.var 0) (.op (.var 0) (.var 0))) (.var 0)) (.var 0), .op (.op (.op (.var 0) (.var 0)) (.op (.var 0) (.var 0))) (.var 0), .op (.op (.var 0) (.op (.var 0) (.op (.var 0) (.var 0)))) (.var 0), .op (.op (.op (.var 0) (.var 0)) (.var 0)) (.op (.var 0) (.var 0)), .op (.op (.var 0) (.op (.var 0) (.var 0))) (.op (.var 0) (.var 0)), .op (.op (.var 0) (.var 0)) (.op (.op (.var 0) (.var 0)) (.var 0)), .op (.op (.var 0) (.var 0)) (.op (.var 0) (.op (.var 0) (.var 0)))]
def brL (s : Nat) : List Tr := match s with
  | 0 => []
  | 1 => brL1
  | 2 => brL2
  | 3 => brL3
  | 4 => brL4
  | 5 => brL5
  | _ => []
theorem brL_eq (s : Nat) (h : s < 5) : brL (s + 1) = (rowsB brL 3 s s none).map mkT := by
  match s, h with
  | 0, _ => rfl
  | 1, _ => rfl
  | 2, _ => rfl
  | 3, _ => rfl
  | 4, _ => rfl
theorem brL_mem : ∀ (n : Nat) (t : Tr), szT t ≤ n → n ≤ 5 → okT0 t → brO t → (kidsT t).length ≤ 3 → sortedT (kidsT t) → t ∈ brL (szT t)
  | 0, t, h, _, _, _, _, _ => by have := sz_pos t; omega
  | n + 1, t, h, hn, ho, hb, hl, hs => by
    have h1 := sz_pos t
    have hk : szT t = (szT t - 1) + 1 := by omega
    have hsz : szT t = 1 + sumS (kidsT t) := by
      have := sz_mk (kidsT t)
      rw [mk_kids t ho] at this
      exact this
    rw [hk, brL_eq _ (by omega), List.mem_map]
    refine ⟨kidsT t, rows_mem 3 _ _ _ _ (fun x hx => ?_) hl hs (by omega) (fun x hx => ?_) (fun a e => by cases e), mk_kids t ho⟩
    · obtain ⟨k1, k2, k3⟩ := brO_kid hb x hx
      exact brL_mem n x (by have := sz_kid t x hx; omega) (by omega) (ok_kid t ho x hx) k1 k2 k3
    · have := sz_kid t x hx; omega
/-- all wholes of a size: of one centroid, of two halves -/
def wholeL (n : Nat) : List Tr := (rowsB brL 4 (n - 1) ((n - 1) / 2) none).map mkT ++ cond (Nat.beq (n % 2) 0) ((brL (n / 2)).flatMap fun a => (brL (n / 2)).flatMap fun b => cond (decide (0 ≤ cmpT a b)) [mkT (b :: kidsT a)] []) []
section WH
variable {G : Gr} {D : Nat → Nat → Nat}
theorem TT_br (hG : G.wf) (hD : Far G D) (hd : ∀ a, deg G a ≤ 4) : ∀ a c, G.2 a c = true → brO (TT G a c) ∧ (kidsT (TT G a c)).length ≤ 3 ∧ sortedT (kidsT (TT G a c)) := by
  refine br_ind hG hD _ fun a c hac ih => ?_
  refine ⟨?_, ?_, ?_⟩
  · rw [TT_eq hG hD (Or.inl hac)]
    refine brO_mk fun x hx => ?_
    rw [srt_mem, List.mem_map] at hx
    obtain ⟨e, he, rfl⟩ := hx
    obtain ⟨k1, k2⟩ := (ch_mem hG).mp he
    exact ih e k1 k2
  · rw [kids_len hG hD (Or.inl hac)]
    have := ch_len hG hac
    have := hd c
    omega
  · rw [TT_kids hG hD (Or.inl hac)]
    exact srt_sorted _
theorem TT_br0 (hG : G.wf) (hD : Far G D) (hd : ∀ a, deg G a ≤ 4) (c : Nat) : brO (TT G 16 c) ∧ (kidsT (TT G 16 c)).length ≤ 4 ∧ sortedT (kidsT (TT G 16 c)) := by
  refine ⟨?_, ?_, ?_⟩
  · rw [TT_eq hG hD (Or.inr rfl)]
    refine brO_mk fun x hx => ?_
    rw [srt_mem, List.mem_map] at hx
    obtain ⟨e, he, rfl⟩ := hx
    obtain ⟨k1, k2⟩ := (ch_mem hG).mp he
    exact TT_br hG hD hd c e k1
  · rw [kids_len hG hD (Or.inr rfl), ch_root hG]
    exact hd c
  · rw [TT_kids hG hD (Or.inr rfl)]
    exact srt_sorted _
/-- a root of up to eleven carbons is among all wholes -/
theorem root_whole {T : Tr} (hT : rootOk T) (ho : okT0 T) (hb : brO T) (hl : (kidsT T).length ≤ 4) (hs : sortedT (kidsT T)) (hn : szT T ≤ 11) : T ∈ wholeL (szT T) := by
  have hsz : szT T = 1 + sumS (kidsT T) := by
    have := sz_mk (kidsT T)
    rw [mk_kids T ho] at this
    exact this
  unfold wholeL
  rw [List.mem_append]
  by_cases c : ∃ x, (kidsT T)[0]? = some x ∧ 2 * szT x = szT T
  · right
    obtain ⟨x, hx, hx2⟩ := c
    have hcmp := hT.2 x hx hx2
    cases e : kidsT T with
    | nil => rw [e] at hx; cases hx
    | cons y r =>
      rw [e] at hx hcmp hs hl hsz
      cases hx
      rw [List.tail_cons] at hcmp
      have hsum : sumS (x :: r) = szT x + sumS r := by unfold sumS; rw [List.map_cons, List.sum_cons]
      have hmem : ∀ z, z ∈ x :: r → z ∈ kidsT T := fun z hz => by rw [e]; exact hz
      have hr : szT (mkT r) = szT x := by rw [sz_mk]; show 1 + sumS r = _; omega
      have hor : ∀ z, z ∈ r → okT0 z := fun z hz => ok_kid T ho z (hmem z (List.mem_cons_of_mem _ hz))
      have e2 : Nat.beq (szT T % 2) 0 = true := by rw [show szT T % 2 = 0 by omega]; rfl
      rw [e2, cond_true, List.mem_flatMap]
      have e3 : szT T / 2 = szT x := by omega
      rw [e3]
      refine ⟨mkT r, ?_, ?_⟩
      · have := brL_mem 5 (mkT r) (by omega) (Nat.le_refl _) (ok_mk r hor) (brO_mk fun z hz => brO_kid hb z (hmem z (List.mem_cons_of_mem _ hz))) (by rw [kids_mk]; simp at hl; omega) (by rw [kids_mk]; exact hs.2)
        rw [hr] at this; exact this
      · rw [List.mem_flatMap]
        obtain ⟨k1, k2, k3⟩ := brO_kid hb x (hmem x List.mem_cons_self)
        refine ⟨x, brL_mem 5 x (by omega) (Nat.le_refl _) (ok_kid T ho x (hmem x List.mem_cons_self)) k1 k2 k3, ?_⟩
        rw [decide_eq_true hcmp, cond_true, List.mem_singleton, kids_mk, ← e, mk_kids T ho]
  · left
    rw [List.mem_map]
    have hlt : ∀ x, x ∈ kidsT T → 2 * szT x < szT T := by
      intro x hx
      have h1 := hT.1 x hx
      cases e : kidsT T with
      | nil => rw [e] at hx; cases hx
      | cons y r =>
        have hy : 2 * szT y < szT T := by
          have := hT.1 y (by rw [e]; exact List.mem_cons_self)
          have : 2 * szT y ≠ szT T := fun k => c ⟨y, by rw [e]; rfl, k⟩
          omega
        rw [e] at hx hs
        rcases List.mem_cons.mp hx with rfl | hx
        · exact hy
        · have := cmp_sz (hs.1 x hx); omega
    refine ⟨kidsT T, rows_mem 4 _ _ _ _ (fun x hx => ?_) hl hs (by omega) (fun x hx => by have := hlt x hx; omega) (fun a e => by cases e), mk_kids T ho⟩
    obtain ⟨k1, k2, k3⟩ := brO_kid hb x hx
    exact brL_mem 5 x (by have := hlt x hx; omega) (Nat.le_refl _) (ok_kid T ho x hx) k1 k2 k3
end WH
