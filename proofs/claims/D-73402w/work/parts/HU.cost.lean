/-! WHAT A NAME COSTS, by trees: κ is what a branch costs at least, what a chain costs by what is seen and how long it is, what brackets cost -/
abbrev Kc : Type := Nat × (Nat → Nat → Nat) × (Nat → Nat → Nat)
/-- how many ends lie farthest -/
def eT : Tr → Nat
  | .var _ => 1
  | .op a b => if tallT b < tallT a + 1 then eT a else if tallT b = tallT a + 1 then eT b + eT a else eT b
/-- what hangs along the ways to them, together; what all that hangs costs -/
def xbT (κ : Kc) : Tr → Nat × Nat
  | .var _ => (0, 0)
  | .op a b => (if tallT b < tallT a + 1 then (xbT κ a).1 + eT a * (xbT κ b).2 else if tallT b = tallT a + 1 then (xbT κ b).1 + eT b * (κ.1 + eT a * κ.2.1 (szT a) (tallT a) + (xbT κ a).1 + κ.2.2 (szT a) (tallT a)) + ((xbT κ a).1 + eT a * (xbT κ b).2) else (xbT κ b).1 + eT b * (κ.1 + eT a * κ.2.1 (szT a) (tallT a) + (xbT κ a).1 + κ.2.2 (szT a) (tallT a)), (xbT κ b).2 + (κ.1 + eT a * κ.2.1 (szT a) (tallT a) + (xbT κ a).1 + κ.2.2 (szT a) (tallT a)))
def xT (κ : Kc) (t : Tr) : Nat := (xbT κ t).1
def cT (κ : Kc) (t : Tr) : Nat := κ.1 + eT t * κ.2.1 (szT t) (tallT t) + xT κ t + κ.2.2 (szT t) (tallT t)
/-- over the tallest of what hangs -/
def tS (h : Nat) (f : Tr → Nat) (l : List Tr) : Nat := (l.map fun k => if tallT k + 1 = h then f k else 0).sum
theorem bs_sum (κ : Kc) : ∀ t, (xbT κ t).2 = ((kidsT t).map (cT κ)).sum
  | .var _ => rfl
  | .op a b => by
    show (xbT κ b).2 + _ = cT κ a + ((kidsT b).map (cT κ)).sum
    rw [bs_sum κ b]
    unfold cT xT
    omega
theorem tS_none {f : Tr → Nat} {h : Nat} : ∀ {l : List Tr}, (∀ k, k ∈ l → tallT k + 1 ≠ h) → tS h f l = 0
  | [], _ => rfl
  | a :: r, q => by
    show (if tallT a + 1 = h then f a else 0) + tS h f r = 0
    rw [if_neg (q a List.mem_cons_self), tS_none (l := r) fun k hk => q k (List.mem_cons_of_mem _ hk)]
theorem tS_cons {f : Tr → Nat} {h : Nat} {a : Tr} {r : List Tr} : tS h f (a :: r) = (if tallT a + 1 = h then f a else 0) + tS h f r := rfl
theorem tS_add {f g : Tr → Nat} {h : Nat} : ∀ {l : List Tr}, tS h (fun k => f k + g k) l = tS h f l + tS h g l
  | [] => rfl
  | a :: r => by
    rw [tS_cons, tS_cons, tS_cons, tS_add (l := r)]
    by_cases q : tallT a + 1 = h
    · rw [if_pos q, if_pos q, if_pos q]; omega
    · rw [if_neg q, if_neg q, if_neg q]; omega
theorem tS_mul {f : Tr → Nat} {c h : Nat} : ∀ {l : List Tr}, tS h (fun k => f k * c) l = tS h f l * c
  | [] => (Nat.zero_mul c).symm
  | a :: r => by
    rw [tS_cons, tS_cons, tS_mul (l := r), Nat.add_mul]
    by_cases q : tallT a + 1 = h
    · rw [if_pos q, if_pos q]
    · rw [if_neg q, if_neg q, Nat.zero_mul]
theorem eT_sum : ∀ t, kidsT t ≠ [] → eT t = tS (tallT t) eT (kidsT t)
  | .var _, h => absurd rfl h
  | .op a b, _ => by
    have ih := eT_sum b
    have hb := tall_kid b
    have pb := tall_pos b
    show (if tallT b < tallT a + 1 then eT a else if tallT b = tallT a + 1 then eT b + eT a else eT b) = tS (max (tallT a + 1) (tallT b)) eT (a :: kidsT b)
    rw [tS_cons]
    by_cases c1 : tallT b < tallT a + 1
    · rw [if_pos c1, show max (tallT a + 1) (tallT b) = tallT a + 1 by omega, if_pos rfl, tS_none (fun k hk => by have := hb k hk; omega)]
      rfl
    · have hne : kidsT b ≠ [] := by
        rcases tall_at b with ⟨q1, q2⟩ | ⟨k, q1, -⟩
        · have := tall_pos a; omega
        · intro q; rw [q] at q1; cases q1
      rw [if_neg c1]
      by_cases c2 : tallT b = tallT a + 1
      · rw [if_pos c2, show max (tallT a + 1) (tallT b) = tallT b by omega, if_pos c2.symm, ← ih hne]
        omega
      · rw [if_neg c2, show max (tallT a + 1) (tallT b) = tallT b by omega, if_neg (by omega), ← ih hne]
        omega
theorem xT_sum (κ : Kc) : ∀ t, xT κ t + tS (tallT t) (fun k => eT k * cT κ k) (kidsT t) = tS (tallT t) (fun k => xT κ k + eT k * (xbT κ t).2) (kidsT t)
  | .var _ => rfl
  | .op a b => by
    have ih := xT_sum κ b
    have hb := tall_kid b
    have pb := tall_pos b
    obtain ⟨ca, hca⟩ : ∃ c, c = cT κ a := ⟨_, rfl⟩
    have hca2 : κ.1 + eT a * κ.2.1 (szT a) (tallT a) + (xbT κ a).1 + κ.2.2 (szT a) (tallT a) = ca := hca.symm
    have e1 : xT κ (.op a b) = (if tallT b < tallT a + 1 then (xbT κ a).1 + eT a * (xbT κ b).2 else if tallT b = tallT a + 1 then (xbT κ b).1 + eT b * ca + ((xbT κ a).1 + eT a * (xbT κ b).2) else (xbT κ b).1 + eT b * ca) := by rw [← hca2]; rfl
    have e2 : (xbT κ (.op a b)).2 = (xbT κ b).2 + ca := by rw [← hca2]; rfl
    have e3 : tallT (.op a b) = max (tallT a + 1) (tallT b) := rfl
    have e4 : kidsT (.op a b) = a :: kidsT b := rfl
    have e5 : (xbT κ b).1 = xT κ b := rfl
    have e6 : (xbT κ a).1 = xT κ a := rfl
    rw [e1, e2, e3, e4, tS_cons, tS_cons, ← hca, e5, e6]
    have hsp : ∀ h, tS h (fun k => xT κ k + eT k * ((xbT κ b).2 + ca)) (kidsT b) = tS h (fun k => xT κ k + eT k * (xbT κ b).2) (kidsT b) + tS h eT (kidsT b) * ca := by
      intro h
      rw [← tS_mul, ← tS_add]
      unfold tS
      congr 1
      refine List.map_congr_left fun k _ => ?_
      by_cases q : tallT k + 1 = h
      · rw [if_pos q, if_pos q]
        show xT κ k + eT k * ((xbT κ b).2 + ca) = xT κ k + eT k * (xbT κ b).2 + eT k * ca
        rw [Nat.mul_add]; omega
      · rw [if_neg q, if_neg q]
    rw [hsp, Nat.mul_add]
    by_cases c1 : tallT b < tallT a + 1
    · rw [if_pos c1, show max (tallT a + 1) (tallT b) = tallT a + 1 by omega, if_pos rfl, if_pos rfl, tS_none (f := fun k => eT k * cT κ k) (fun k hk => by have := hb k hk; omega), tS_none (f := fun k => xT κ k + eT k * (xbT κ b).2) (fun k hk => by have := hb k hk; omega), tS_none (f := eT) (fun k hk => by have := hb k hk; omega), Nat.zero_mul]
      omega
    · have hne : kidsT b ≠ [] := by
        rcases tall_at b with ⟨q1, q2⟩ | ⟨k, q1, -⟩
        · have := tall_pos a; omega
        · intro q; rw [q] at q1; cases q1
      have he := eT_sum b hne
      rw [if_neg c1, show max (tallT a + 1) (tallT b) = tallT b by omega, ← he]
      by_cases c2 : tallT b = tallT a + 1
      · rw [if_pos c2, if_pos c2.symm, if_pos c2.symm]
        omega
      · rw [if_neg c2, if_neg (fun q => c2 q.symm), if_neg (fun q => c2 q.symm)]
        omega
/-- over the kids of a tree of the graph -/
theorem tS_srt {h : Nat} {f : Tr → Nat} (l : List Tr) : tS h f (srtT l) = tS h f l := srt_sum _ l
section GRAPHC
variable {G : Gr} {D : Nat → Nat → Nat} {κ : Kc}
/-- over the tallest of what hangs at c -/
def gS (G : Gr) (a c : Nat) (f : Nat → Nat) : Nat := ((ch G a c).map fun d => if tallT (TT G c d) + 1 = tallT (TT G a c) then f d else 0).sum
theorem gS_tS (hG : G.wf) (hD : Far G D) {a c : Nat} (h : G.2 a c = true) (f : Tr → Nat) : tS (tallT (TT G a c)) f (kidsT (TT G a c)) = gS G a c fun d => f (TT G c d) := by
  rw [TT_kids hG hD (Or.inl h), tS_srt]
  unfold tS gS
  rw [List.map_map]
  rfl
def bsG (κ : Kc) (G : Gr) (a c : Nat) : Nat := ((ch G a c).map fun d => cT κ (TT G c d)).sum
theorem bsG_eq (hG : G.wf) (hD : Far G D) {a c : Nat} (h : G.2 a c = true) : (xbT κ (TT G a c)).2 = bsG κ G a c := by
  rw [bs_sum, TT_kids hG hD (Or.inl h), srt_sum, List.map_map]
  rfl
theorem eT_G (hG : G.wf) (hD : Far G D) {a c : Nat} (h : G.2 a c = true) (hne : ch G a c ≠ []) : eT (TT G a c) = gS G a c fun d => eT (TT G c d) := by
  rw [← gS_tS hG hD h eT]
  refine eT_sum _ fun q => hne ?_
  have := kids_len hG hD (Or.inl h : G.2 a c = true ∨ a = 16)
  rw [q] at this
  exact List.eq_nil_of_length_eq_zero this.symm
theorem xT_G (hG : G.wf) (hD : Far G D) {a c : Nat} (h : G.2 a c = true) : xT κ (TT G a c) + gS G a c (fun d => eT (TT G c d) * cT κ (TT G c d)) = gS G a c fun d => xT κ (TT G c d) + eT (TT G c d) * bsG κ G a c := by
  have := xT_sum κ (TT G a c)
  rw [gS_tS hG hD h (fun k => eT k * cT κ k), gS_tS hG hD h (fun k => xT κ k + eT k * (xbT κ (TT G a c)).2), bsG_eq hG hD h] at this
  exact this
theorem eT_leaf (hG : G.wf) (hD : Far G D) {a c : Nat} (h : G.2 a c = true) (hne : ch G a c = []) : TT G a c = .var 0 := by
  rw [TT_eq hG hD (Or.inl h), hne]
  rfl
end GRAPHC
