/-! THE ROOT of a whole: one centroid, or two halves -/
section ROOT
variable {G : Gr} {D : Nat → Nat → Nat}
theorem filter_perm_ne {a : Nat} : ∀ (l : List Nat), l.Nodup → a ∈ l → (a :: l.filter fun e => !(Nat.beq e a)).Perm l
  | [], _, h => nomatch h
  | x :: r, hn, h => by
    obtain ⟨h1, h2⟩ := List.nodup_cons.mp hn
    by_cases c : x = a
    · subst c
      rw [List.filter_cons, if_neg (by rw [Nat.beq_refl]; decide)]
      have : r.filter (fun e => !(Nat.beq e x)) = r := by
        rw [List.filter_eq_self]
        intro e he
        rw [nbeq]
        rintro rfl
        exact h1 he
      rw [this]
    · rw [List.filter_cons, if_pos (nbeq.mpr c)]
      have := filter_perm_ne r h2 (by rcases List.mem_cons.mp h with rfl | h; exact absurd rfl c; exact h)
      exact (List.Perm.swap _ _ _).trans (List.Perm.cons _ this)
/-- seen from nowhere: what is seen from a neighbour, and the branch to that one -/
theorem TT_two (hG : G.wf) (hD : Far G D) {a b : Nat} (hab : G.2 a b = true) : TT G 16 a = mkT (insT (TT G a b) (kidsT (TT G b a))) := by
  have hba := (hG.2.2 _ _ hab).2.2.1
  rw [TT_kids hG hD (Or.inl hba), TT_eq hG hD (Or.inr rfl), ch_root hG]
  congr 1
  have ho : ∀ x, x ∈ (ch G b a).map (TT G a) → okT0 x := by
    intro x hx
    obtain ⟨e, -, rfl⟩ := List.mem_map.mp hx
    exact TT_ok G a e
  rw [← srt_cons (TT_ok G a b) _ ho]
  have hp : (b :: ch G b a).Perm (nb G a) := filter_perm_ne (nb G a) (nb_nodup G a) ((nb_mem hG).mpr hab)
  refine (srt_perm (List.Perm.map (TT G a) hp) fun x hx => ?_).symm
  obtain ⟨e, -, rfl⟩ := List.mem_map.mp hx
  exact TT_ok G a e
theorem cmp_sz {a b : Tr} (h : 0 ≤ cmpT a b) : szT b ≤ szT a := by
  unfold cmpT at h
  split at h
  · exact absurd h (by decide)
  · omega
theorem cmp_lt {a b : Tr} (h : szT a < szT b) : cmpT a b < 0 := by
  unfold cmpT; rw [if_pos h]; decide
theorem ins_head {x : Tr} : ∀ {l : List Tr}, (∀ y, y ∈ l → cmpT y x < 0) → insT x l = x :: l
  | [], _ => rfl
  | y :: r, h => by unfold insT; rw [if_pos (h y List.mem_cons_self)]
/-- two centroids: each half is half of all -/
theorem two_half (hG : G.wf) (hD : Far G D) {a b : Nat} (hab : G.2 a b = true) (h1 : isCen G D a = true) (h2 : isCen G D b = true) : 2 * szT (TT G a b) = G.1 ∧ 2 * szT (TT G b a) = G.1 := by
  have hba := (hG.2.2 _ _ hab).2.2.1
  have k1 := (isCen_iff hG).mp h1 b hab
  have k2 := (isCen_iff hG).mp h2 a hba
  have k3 := bsz_both hG hD hab
  rw [TT_sz hG hD _ _ hab, TT_sz hG hD _ _ hba]
  omega
theorem one_less (hG : G.wf) (hD : Far G D) {c e : Nat} (hce : G.2 c e = true) (h1 : isCen G D c = true) (h2 : isCen G D e = false) : 2 * bsz G D c e < G.1 := by
  have k1 := (isCen_iff hG).mp h1 e hce
  have hec := (hG.2.2 _ _ hce).2.2.1
  apply Classical.byContradiction
  intro hn
  have k3 := bsz_both hG hD hce
  have : isCen G D e = true := by
    rw [isCen_iff hG]
    intro f hf
    by_cases c1 : f = c
    · subst c1; omega
    · have := bsz_child hG hD hce hf c1; omega
  rw [this] at h2; cases h2
theorem two_kids (hG : G.wf) (hD : Far G D) {a b : Nat} (hab : G.2 a b = true) (h1 : isCen G D a = true) (h2 : isCen G D b = true) : kidsT (TT G 16 a) = TT G a b :: kidsT (TT G b a) := by
  obtain ⟨s1, s2⟩ := two_half hG hD hab h1 h2
  rw [TT_two hG hD hab, kids_mk]
  refine ins_head fun y hy => cmp_lt ?_
  have := sz_kid _ _ hy
  omega
/-- a tree that is the root of a whole -/
abbrev rootOk (T : Tr) : Prop := (∀ x, x ∈ kidsT T → 2 * szT x ≤ szT T) ∧ (∀ x, (kidsT T)[0]? = some x → 2 * szT x = szT T → 0 ≤ cmpT (mkT (kidsT T).tail) x)
theorem root_cert (hG : G.wf) (hD : Far G D) {r : Nat} (hr : r < G.1) (h : rootOk (TT G 16 r)) : TT G 16 (fstC G D) = TT G 16 r := by
  obtain ⟨h1, h2⟩ := h
  rw [TT_root hG hD hr] at h1 h2
  have hcen : isCen G D r = true := by
    rw [isCen_iff hG]
    intro e he
    rw [← TT_sz hG hD _ _ he]
    apply h1
    rw [TT_kids hG hD (Or.inr rfl), srt_mem, List.mem_map]
    exact ⟨e, (by rw [ch_root hG]; exact (nb_mem hG).mpr he), rfl⟩
  have hm : r ∈ cens G D := cens_mem.mpr ⟨hr, hcen⟩
  rcases cens_cases hG hD with ⟨c, e, k1, k2⟩ | ⟨a, b, e, k1, k2, k3, k4, k5⟩
  · rw [e] at hm
    obtain rfl : r = c := List.mem_singleton.mp hm
    have : fstC G D = r := by unfold fstC; rw [e]
    rw [this]
  · have hf : fstC G D = if 0 ≤ cmpT (TT G b a) (TT G a b) then a else b := by unfold fstC; rw [e]
    have k3' := (hG.2.2 _ _ k3).2.2.1
    obtain ⟨s1, s2⟩ := two_half hG hD k3 k4 k5
    rw [e] at hm
    rcases List.mem_cons.mp hm with rfl | hm
    · have q := two_kids hG hD k3 k4 k5
      have := h2 (TT G r b) (by rw [q]; rfl) s1
      rw [q, List.tail_cons, mk_kids _ (TT_ok G b r)] at this
      rw [hf, if_pos this]
    · obtain rfl : r = b := List.mem_singleton.mp hm
      have q := two_kids hG hD k3' k5 k4
      have := h2 (TT G r a) (by rw [q]; rfl) s2
      rw [q, List.tail_cons, mk_kids _ (TT_ok G a r)] at this
      by_cases c : 0 ≤ cmpT (TT G r a) (TT G a r)
      · rw [hf, if_pos c]
        have n := cmpT_neg (TT G a r) (TT G r a)
        have : TT G a r = TT G r a := (cmpT_eq (TT_ok G a r) (TT_ok G r a)).mp (by omega)
        rw [TT_two hG hD k3, TT_two hG hD k3', this]
      · rw [hf, if_neg c]
/-- the root that is told is one -/
theorem root_is (hG : G.wf) (hD : Far G D) : rootOk (TT G 16 (fstC G D)) := by
  have key : ∀ r, r < G.1 → isCen G D r = true → ∀ x, x ∈ kidsT (TT G 16 r) → 2 * szT x ≤ szT (TT G 16 r) := by
    intro r hr hc x hx
    rw [TT_root hG hD hr]
    rw [TT_kids hG hD (Or.inr rfl), srt_mem, List.mem_map] at hx
    obtain ⟨e, he, rfl⟩ := hx
    rw [ch_root hG, nb_mem hG] at he
    rw [TT_sz hG hD _ _ he]
    exact (isCen_iff hG).mp hc e he
  rcases cens_cases hG hD with ⟨c, e, k1, k2⟩ | ⟨a, b, e, k1, k2, k3, k4, k5⟩
  · have hf : fstC G D = c := by unfold fstC; rw [e]
    rw [hf]
    refine ⟨key c k1 k2, fun x hx hs => ?_⟩
    exfalso
    rw [TT_root hG hD k1] at hs
    have hx := List.mem_of_getElem? hx
    rw [TT_kids hG hD (Or.inr rfl), srt_mem, List.mem_map] at hx
    obtain ⟨f, he, rfl⟩ := hx
    rw [ch_root hG, nb_mem hG] at he
    rw [TT_sz hG hD _ _ he] at hs
    have hff : isCen G D f = false := by
      cases q : isCen G D f with
      | false => rfl
      | true =>
        have : f ∈ cens G D := cens_mem.mpr ⟨(hG.2.2 _ _ he).2.1, q⟩
        rw [e] at this
        have := List.mem_singleton.mp this
        exact absurd this.symm (hG.2.2 _ _ he).2.2.2
    have := one_less hG hD he k2 hff
    omega
  · have hf : fstC G D = if 0 ≤ cmpT (TT G b a) (TT G a b) then a else b := by unfold fstC; rw [e]
    have k3' := (hG.2.2 _ _ k3).2.2.1
    rw [hf]
    by_cases c : 0 ≤ cmpT (TT G b a) (TT G a b)
    · rw [if_pos c]
      refine ⟨key a (by omega) k4, fun x hx _ => ?_⟩
      rw [two_kids hG hD k3 k4 k5] at hx ⊢
      rw [List.tail_cons, mk_kids _ (TT_ok G b a)]
      cases hx
      exact c
    · rw [if_neg c]
      refine ⟨key b k2 k5, fun x hx _ => ?_⟩
      rw [two_kids hG hD k3' k5 k4] at hx ⊢
      rw [List.tail_cons, mk_kids _ (TT_ok G a b)]
      cases hx
      have n := cmpT_neg (TT G a b) (TT G b a)
      omega
end ROOT
