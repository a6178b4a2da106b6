/-! TEXTS of the library: where two rows of bytes differ first, the walk; String.compareTo -/
theorem okX_take {l : List Int} {n : Nat} (h : okX l) : okX (l.take n) := fun x hx => h x (List.mem_of_mem_take hx)
theorem okX_drop {l : List Int} {n : Nat} (h : okX l) : okX (l.drop n) := fun x hx => h x (List.mem_of_mem_drop hx)
theorem okX_at {l : List Int} {n : Nat} (h : okX l) : 0 ≤ gt l n ∧ gt l n ≤ 127 := by
  by_cases q : n < l.length
  · have := h _ (List.getElem_mem q)
    rw [show gt l n = l[n] by unfold gt; rw [List.getElem?_eq_getElem q]; rfl]
    exact this
  · rw [gt_beyond (by omega)]; decide
/-- they differ at a place for the first time, or nowhere ahead of an end -/
def misAt (a b : List Int) (i : Nat) : Prop := (∀ j, j < i → gt a j = gt b j) ∧ gt a i ≠ gt b i
abbrev sameTo (a b : List Int) (n : Nat) : Prop := ∀ j, j < n → gt a j = gt b j
theorem win_len {a : List Int} {o m : Nat} (h : o + m ≤ a.length) : ((a.drop o).take m).length = m := by rw [List.length_take, List.length_drop]; omega
theorem win_get {a : List Int} {o m j : Nat} (hj : j < m) : ((a.drop o).take m)[j]? = a[o + j]? := by rw [List.getElem?_take_of_lt hj, List.getElem?_drop]
theorem gt_of {a b : List Int} {i : Nat} (h : a[i]? = b[i]?) : gt a i = gt b i := by unfold gt; rw [h]
theorem gt_ne {a b : List Int} {i : Nat} (ha : i < a.length) (hb : i < b.length) (h : a[i]? ≠ b[i]?) : gt a i ≠ gt b i := by
  intro w
  rw [gt_some ha, gt_some hb, w] at h
  exact h rfl
/-- a window of so many bytes differs -/
theorem win_dif {a b : List Int} {o m k t : Nat} (ha : okX a) (hb : okX b) (h1 : o + m ≤ a.length) (h2 : o + m ≤ b.length) (hs : sameTo a b o) (h : lebN ((a.drop o).take m) ^^^ lebN ((b.drop o).take m) = 2 ^ k * (2 * t + 1)) : k / 8 < m ∧ misAt a b (o + k / 8) := by
  obtain ⟨i1, i2, i3⟩ := leb_first (okX_take (okX_drop ha)) (okX_take (okX_drop hb)) (by rw [win_len h1, win_len h2]) h
  rw [win_len h1] at i1
  rw [win_get i1, win_get i1] at i3
  refine ⟨i1, fun j hj => ?_, gt_ne (by omega) (by omega) i3⟩
  by_cases q : j < o
  · exact hs j q
  · have := i2 (j - o) (by omega)
    rw [win_get (by omega), win_get (by omega), show o + (j - o) = j by omega] at this
    exact gt_of this
theorem lebN_inj : ∀ {p q : List Int}, okX p → okX q → p.length = q.length → lebN p = lebN q → p = q
  | [], [], _, _, _, _ => rfl
  | [], _ :: _, _, _, h, _ => by simp at h
  | _ :: _, [], _, _, h, _ => by simp at h
  | a :: p, b :: q, hp, hq, hl, h => by
    have ha := hp a List.mem_cons_self
    have hb := hq b List.mem_cons_self
    have h : a.toNat + 256 * lebN p = b.toNat + 256 * lebN q := h
    have e1 : a = b := by omega
    have e2 := lebN_inj (fun x hx => hp x (List.mem_cons_of_mem _ hx)) (fun x hx => hq x (List.mem_cons_of_mem _ hx)) (by simpa using hl) (by omega)
    rw [e1, e2]
theorem win_same {a b : List Int} {o m : Nat} (ha : okX a) (hb : okX b) (h1 : o + m ≤ a.length) (h2 : o + m ≤ b.length) (hs : sameTo a b o) (h : lebN ((a.drop o).take m) = lebN ((b.drop o).take m)) : sameTo a b (o + m) := by
  have e := lebN_inj (okX_take (okX_drop ha)) (okX_take (okX_drop hb)) (by rw [win_len h1, win_len h2]) h
  intro j hj
  by_cases q : j < o
  · exact hs j q
  · have this : ((a.drop o).take m)[j - o]? = ((b.drop o).take m)[j - o]? := by rw [e]
    rw [win_get (by omega), win_get (by omega), show o + (j - o) = j by omega] at this
    exact gt_of this
theorem leb_half : ∀ {l : List Int}, okX l → l.length = 8 → lebN l < 9223372036854775808 ∧ lebN l % 4294967296 < 2147483648
  | [a, b, c, d, e, f, g, i], h, _ => by
    have h1 := h a (by simp)
    have h2 := h b (by simp)
    have h3 := h c (by simp)
    have h4 := h d (by simp)
    have h5 := h e (by simp)
    have h6 := h f (by simp)
    have h7 := h g (by simp)
    have h8 := h i (by simp)
    show a.toNat + 256 * (b.toNat + 256 * (c.toNat + 256 * (d.toNat + 256 * (e.toNat + 256 * (f.toNat + 256 * (g.toNat + 256 * (i.toNat + 256 * 0))))))) < _ ∧ (a.toNat + 256 * (b.toNat + 256 * (c.toNat + 256 * (d.toNat + 256 * (e.toNat + 256 * (f.toNat + 256 * (g.toNat + 256 * (i.toNat + 256 * 0)))))))) % _ < _
    omega
theorem leb_four : ∀ {l : List Int}, okX l → l.length = 4 → lebN l < 2147483648
  | [a, b, c, d], h, _ => by
    have h1 := h a (by simp)
    have h2 := h b (by simp)
    have h3 := h c (by simp)
    have h4 := h d (by simp)
    show a.toNat + 256 * (b.toNat + 256 * (c.toNat + 256 * (d.toNat + 256 * 0))) < _
    omega
theorem xor_half {u v : Nat} (hu : u < 9223372036854775808 ∧ u % 4294967296 < 2147483648) (hv : v < 9223372036854775808 ∧ v % 4294967296 < 2147483648) : u ^^^ v < 9223372036854775808 ∧ (u ^^^ v) % 4294967296 < 2147483648 := by
  refine ⟨show _ < 2 ^ 63 from Nat.xor_lt_two_pow hu.1 hv.1, ?_⟩
  rw [show (4294967296 : Nat) = 2 ^ 32 from rfl, Nat.xor_mod_two_pow]
  exact show _ < 2 ^ 31 from Nat.xor_lt_two_pow hu.2 hv.2
theorem sh3 : ∀ w, w < 16 → lshl ((w : Nat) : Int) 3 = ((8 * w : Nat) : Int) ∧ land ((16 + 8 * w : Nat) : Int) 7 = 0 ∧ land ((16 + 8 * w : Nat) : Int) 3 = 0 ∧ ishl ((w : Nat) : Int) 3 = ((8 * w : Nat) : Int) := by decide +kernel
theorem not_eq' : ∀ w, w < 128 → ixor ((w : Nat) : Int) (-1) = -((w : Nat) : Int) - 1 := by decide +kernel
section MIS
variable {d : Nat} {h : AH} {u p q : Nat} {a b : List Int}
theorem getL_spec (hU : h.F u = (228, [])) (hA : h.I p = (3, a)) (ok : okX a) {w : Nat} (hw : w < 16) (hl : 8 * w + 8 ≤ a.length) : wp (d + 1) 128 (0, ent 4 [vR (some u), vR (some p), vL ((16 + 8 * w : Nat) : Int)], [], h) (givesL h ((lebN ((a.drop (8 * w)).take 8) : Nat) : Int)) := by
  have hh := leb_half (okX_take (okX_drop ok)) (win_len (a := a) (o := 8 * w) (m := 8) hl)
  refine wp.go [] 40 fun W C hW hC => ?_
  conv => whnf
  rw [(sh3 w hw).2.1]
  refine ⟨fun c => absurd rfl c, fun _ => ?_⟩
  refine ⟨_, _, _, _, rfl, hA, rfl, hU, rfl, by omega, by omega, ?_⟩
  rw [show (((16 + 8 * w : Nat) : Int) - 16).toNat = 8 * w by omega, leb_N (okX_take (okX_drop ok)), i64_ofInt ⟨by omega, by omega⟩]
  exact ⟨rfl, rfl⟩
theorem getI_spec (hU : h.F u = (228, [])) (hA : h.I p = (3, a)) (ok : okX a) {w : Nat} (hw : w < 16) (hl : 8 * w + 4 ≤ a.length) : wp (d + 1) 136 (0, ent 4 [vR (some u), vR (some p), vL ((16 + 8 * w : Nat) : Int)], [], h) (gives h ((lebN ((a.drop (8 * w)).take 4) : Nat) : Int)) := by
  have hh := leb_four (okX_take (okX_drop ok)) (win_len (a := a) (o := 8 * w) (m := 4) hl)
  refine wp.go [] 40 fun W C hW hC => ?_
  conv => whnf
  rw [(sh3 w hw).2.2.1]
  refine ⟨fun c => absurd rfl c, fun _ => ?_⟩
  refine ⟨_, _, _, _, rfl, hA, rfl, hU, rfl, by omega, by omega, ?_⟩
  rw [show (((16 + 8 * w : Nat) : Int) - 16).toNat = 8 * w by omega, leb_N (okX_take (okX_drop ok)), i32_ofInt ⟨by omega, by omega⟩]
  exact ⟨rfl, rfl⟩
/-- what the search by words comes to -/
def vecR (a b : List Int) (n : Nat) (r : Int) : Prop := (∃ i, r = ((i : Nat) : Int) ∧ i < n ∧ misAt a b i) ∨ ∃ t, t ≤ n ∧ t < 8 ∧ r = -((t : Nat) : Int) - 1 ∧ sameTo a b (n - t)
theorem vec_spec (hS : h.S 7 = some u) (hU : h.F u = (228, [])) (hA : h.I p = (3, a)) (hB : h.I q = (3, b)) (oa : okX a) (ob : okX b) {n : Nat} (hn : n < 128) (ha : n ≤ a.length) (hb : n ≤ b.length) :
    wp (d + 4) 171 (0, ent 19 [vR (some p), vL 16, vR (some q), vL 16, vI ((n : Nat) : Int), vI 0], [], h) (fun r h' => h' = h ∧ ∃ v, r = .inl (some (vI v)) ∧ vecR a b n v) := by
  have hi3 : isub 3 0 = 3 := by decide
  have hia : iadd 3 0 = 3 := by decide
  have hsn : ishr ((n : Nat) : Int) 3 = ((n / 8 : Nat) : Int) := ishr_eq (k := 3) (by decide) (by omega)
  have hadd : ∀ w, w < 16 → ladd 16 ((8 * w : Nat) : Int) = ((16 + 8 * w : Nat) : Int) := fun w hw => by rw [ladd_eq (by omega)]; omega
  have sh := fun w (hw : w < 16) => sh3 w hw
  have tail : ∀ (l10 l11 l12 l13 l14 l15 l16 l17 l18 : Option AV), sameTo a b (8 * (n / 8)) → wp (d + 4) 171 (122, [some (vR (some p)), some (vL 16), none, some (vR (some q)), some (vL 16), none, some (vI ((n : Nat) : Int)), some (vI 0), some (vI 3), some (vI ((n / 8 : Nat) : Int)), l10, l11, l12, l13, l14, l15, l16, l17, l18], [], h) (fun r h' => h' = h ∧ ∃ v, r = .inl (some (vI v)) ∧ vecR a b n v) := by
    intro l10 l11 l12 l13 l14 l15 l16 l17 l18 hs
    have fin : ∀ (t : Nat) (l11 l12 l13 l14 l15 l16 l17 l18 : Option AV), t < 8 → t ≤ n → sameTo a b (n - t) → wp (d + 4) 171 (258, [some (vR (some p)), some (vL 16), none, some (vR (some q)), some (vL 16), none, some (vI ((n : Nat) : Int)), some (vI 0), some (vI 3), some (vI ((n / 8 : Nat) : Int)), some (vI ((t : Nat) : Int)), l11, l12, l13, l14, l15, l16, l17, l18], [], h) (fun r h' => h' = h ∧ ∃ v, r = .inl (some (vI v)) ∧ vecR a b n v) := by
      intro t l11 l12 l13 l14 l15 l16 l17 l18 ht htn hst
      refine wp.go [] 20 fun W C hW hC => ?_
      refine ⟨rfl, _, rfl, Or.inr ⟨t, htn, ht, not_eq' t (by omega), hst⟩⟩
    refine wp.go [258] 80 fun W C hW hC => ?_
    conv => whnf
    rw [(sh (n / 8) (by omega)).2.2.2, isub_eq (x := ((n : Nat) : Int)) (by omega), show ((n : Nat) : Int) - ((8 * (n / 8) : Nat) : Int) = ((n % 8 : Nat) : Int) by omega]
    refine ⟨fun c => absurd c (by decide), fun _ => ?_⟩
    conv => whnf
    rw [show ishl 1 (isub 2 0) = 4 by decide]
    refine ⟨fun c => ?_, fun c => ?_⟩
    · exact hW _ (fin (n % 8) _ _ _ _ _ _ _ _ (by omega) (by omega) (by rw [show n - n % 8 = 8 * (n / 8) by omega]; exact hs))
    · conv => whnf
      rw [(sh (n / 8) (by omega)).1, hS]
      conv => whnf
      rw [hadd _ (by omega)]
      refine ⟨_, _, _, hU, rfl, ?_⟩
      refine hC _ _ _ (useE (wpd.up (by omega) (getI_spec (d := 0) (w := n / 8) hU hA oa (by omega) (by omega))) ?_)
      conv => whnf
      rw [hS]
      conv => whnf
      rw [hadd _ (by omega)]
      refine ⟨_, _, _, hU, rfl, ?_⟩
      refine hC _ _ _ (useE (wpd.up (by omega) (getI_spec (d := 0) (w := n / 8) hU hB ob (by omega) (by omega))) ?_)
      have b1 := leb_four (okX_take (okX_drop oa)) (win_len (a := a) (o := 8 * (n / 8)) (m := 4) (by omega))
      have b2 := leb_four (okX_take (okX_drop ob)) (win_len (a := b) (o := 8 * (n / 8)) (m := 4) (by omega))
      refine ⟨fun c2 => ?_, fun c2 => ?_⟩
      · have hst := win_same oa ob (o := 8 * (n / 8)) (m := 4) (by omega) (by omega) hs (by omega)
        conv => whnf
        rw [isub_eq (x := ((n % 8 : Nat) : Int)) (by omega), show ((n % 8 : Nat) : Int) - 4 = ((n % 8 - 4 : Nat) : Int) by omega]
        exact hW _ (fin (n % 8 - 4) _ _ _ _ _ _ _ _ (by omega) (by omega) (by rw [show n - (n % 8 - 4) = 8 * (n / 8) + 4 by omega]; exact hst))
      · conv => whnf
        rw [ixor_eq b1 b2]
        have hx0 : lebN ((a.drop (8 * (n / 8))).take 4) ^^^ lebN ((b.drop (8 * (n / 8))).take 4) ≠ 0 := fun w => by have := xor_z w; omega
        obtain ⟨k, m, hk⟩ := two_odd hx0
        have hlt : lebN ((a.drop (8 * (n / 8))).take 4) ^^^ lebN ((b.drop (8 * (n / 8))).take 4) < 2147483648 := show _ < 2 ^ 31 from Nat.xor_lt_two_pow b1 b2
        rw [hk] at hlt
        obtain ⟨w1, w2⟩ := win_dif oa ob (o := 8 * (n / 8)) (m := 4) (by omega) (by omega) hs hk
        rw [hk]
        refine ⟨fun _ => ?_, fun c => absurd rfl c⟩
        refine hC _ _ _ (useE (wpd.up (by omega) (ntz32_spec (d := 0) hlt)) ?_)
        conv => whnf
        rw [hia, show ishr ((k : Nat) : Int) 3 = ((k / 8 : Nat) : Int) from ishr_eq (k := 3) (by decide) (by omega), (sh (n / 8) (by omega)).2.2.2, iadd_eq (by omega)]
        exact ⟨rfl, _, rfl, Or.inl ⟨8 * (n / 8) + k / 8, by omega, by omega, w2⟩⟩
  have loop : ∀ (j w : Nat) (l10 l11 l12 l13 l14 l15 l16 l17 l18 : Option AV), j + w = n / 8 → sameTo a b (8 * w) → wp (d + 4) 171 (11, [some (vR (some p)), some (vL 16), none, some (vR (some q)), some (vL 16), none, some (vI ((n : Nat) : Int)), some (vI 0), some (vI 3), some (vI ((w : Nat) : Int)), l10, l11, l12, l13, l14, l15, l16, l17, l18], [], h) (fun r h' => h' = h ∧ ∃ v, r = .inl (some (vI v)) ∧ vecR a b n v) := by
    intro j
    induction j with
    | zero =>
      intro w l10 l11 l12 l13 l14 l15 l16 l17 l18 hj hs
      have hw : w = n / 8 := by omega
      subst hw
      refine wp.go [11, 122] 20 fun W C hW hC => ?_
      conv => whnf
      rw [hsn]
      exact ⟨fun _ => hW _ (tail _ _ _ _ _ _ _ _ _ hs), fun c => absurd c (by omega)⟩
    | succ j ih =>
      intro w l10 l11 l12 l13 l14 l15 l16 l17 l18 hj hs
      have hw : w < 16 := by omega
      refine wp.go [11, 122] 80 fun W C hW hC => ?_
      conv => whnf
      rw [hsn]
      refine ⟨fun c => absurd c (by omega), fun _ => ?_⟩
      conv => whnf
      rw [(sh w hw).1, hS]
      conv => whnf
      rw [hadd w hw]
      refine ⟨_, _, _, hU, rfl, ?_⟩
      refine hC _ _ _ (useE (wpd.up (by omega) (getL_spec (d := 0) (w := w) hU hA oa hw (by omega))) ?_)
      conv => whnf
      rw [hS]
      conv => whnf
      rw [hadd w hw]
      refine ⟨_, _, _, hU, rfl, ?_⟩
      refine hC _ _ _ (useE (wpd.up (by omega) (getL_spec (d := 0) (w := w) hU hB ob hw (by omega))) ?_)
      have b1 := leb_half (okX_take (okX_drop oa)) (win_len (a := a) (o := 8 * w) (m := 8) (by omega))
      have b2 := leb_half (okX_take (okX_drop ob)) (win_len (a := b) (o := 8 * w) (m := 8) (by omega))
      refine ⟨fun c2 => ?_, fun c2 => ?_⟩
      · have c2 := lcmp_eq.mp c2
        have hst := win_same oa ob (o := 8 * w) (m := 8) (by omega) (by omega) hs (by omega)
        (conv => whnf); simp (disch := omega) only [iadd_eq, isub_eq, imul_eq]
        exact hW _ (ih (w + 1) _ _ _ _ _ _ _ _ _ (by omega) (by rw [show 8 * (w + 1) = 8 * w + 8 by omega]; exact hst))
      · have c2 : lebN ((a.drop (8 * w)).take 8) ≠ lebN ((b.drop (8 * w)).take 8) := fun e => c2 (lcmp_eq.mpr (by rw [e]))
        conv => whnf
        rw [lxor_eq b1.1 b2.1]
        refine ⟨fun _ => ?_, fun c => absurd rfl c⟩
        have hh := xor_half b1 b2
        have hx0 : lebN ((a.drop (8 * w)).take 8) ^^^ lebN ((b.drop (8 * w)).take 8) ≠ 0 := fun e => c2 (xor_z e)
        refine hC _ _ _ (use (wpd.up (by omega) (ntz64_spec (d := 0) hh.1 hx0 hh.2)) ?_)
        rintro _ _ ⟨rfl, k, m, rfl, hk⟩
        obtain ⟨w1, w2⟩ := win_dif oa ob (o := 8 * w) (m := 8) (by omega) (by omega) hs hk
        conv => whnf
        rw [hia, show ishr ((k : Nat) : Int) 3 = ((k / 8 : Nat) : Int) from ishr_eq (k := 3) (by decide) (by omega), (sh w hw).2.2.2, iadd_eq (by omega)]
        exact ⟨rfl, _, rfl, Or.inl ⟨8 * w + k / 8, by omega, by omega, w2⟩⟩
  refine wp.go [11] 20 fun W C hW hC => ?_
  conv => whnf
  rw [hi3]
  exact hW _ (loop (n / 8) 0 none none none none none none none none none rfl (fun j hj => absurd hj (by omega)))
/-- where they differ first, as far as so many -/
def misR (a b : List Int) (n : Nat) (r : Int) : Prop := (∃ i, r = ((i : Nat) : Int) ∧ i < n ∧ misAt a b i) ∨ (r = -1 ∧ sameTo a b n)
theorem mis_spec (hS : h.S 7 = some u) (hU : h.F u = (228, [])) (hA : h.I p = (3, a)) (hB : h.I q = (3, b)) (oa : okX a) (ob : okX b) {n : Nat} (hn : n < 128) (ha : n ≤ a.length) (hb : n ≤ b.length) :
    wp (d + 5) 170 (0, ent 4 [vR (some p), vR (some q), vI ((n : Nat) : Int)], [], h) (fun r h' => h' = h ∧ ∃ v, r = .inl (some (vI v)) ∧ misR a b n v) := by
  have loop : ∀ (j i : Nat), j + i = n → sameTo a b i → wp (d + 5) 170 (49, [some (vR (some p)), some (vR (some q)), some (vI ((n : Nat) : Int)), some (vI ((i : Nat) : Int))], [], h) (fun r h' => h' = h ∧ ∃ v, r = .inl (some (vI v)) ∧ misR a b n v) := by
    intro j
    induction j with
    | zero =>
      intro i hj hs
      have hi : i = n := by omega
      subst hi
      refine wp.go [49] 20 fun W C hW hC => ?_
      exact ⟨fun _ => ⟨rfl, _, rfl, Or.inr ⟨rfl, hs⟩⟩, fun c => absurd c (by omega)⟩
    | succ j ih =>
      intro i hj hs
      refine wp.go [49] 40 fun W C hW hC => ?_
      refine ⟨fun c => absurd c (by omega), fun _ => ?_⟩
      refine ⟨_, _, _, hA, rfl, by omega, gt_at i (by omega) (by omega), ?_⟩
      refine ⟨_, _, _, hB, rfl, by omega, gt_at i (by omega) (by omega), ?_⟩
      refine ⟨fun c => ?_, fun c => ?_⟩
      · (conv => whnf); simp (disch := omega) only [iadd_eq, isub_eq, imul_eq]
        refine hW _ (ih (i + 1) (by omega) fun j hj => ?_)
        by_cases e : j = i
        · rw [e]; exact c
        · exact hs j (by omega)
      · exact ⟨rfl, _, rfl, Or.inl ⟨i, rfl, by omega, hs, c⟩⟩
  refine wp.go [49] 60 fun W C hW hC => ?_
  refine ⟨fun c => ?_, fun c => ?_⟩
  · exact hW _ (loop n 0 rfl (fun j hj => absurd hj (by omega)))
  · refine ⟨_, _, _, hA, rfl, by decide, gt_at 0 rfl (by omega), ?_⟩
    refine ⟨_, _, _, hB, rfl, by decide, gt_at 0 rfl (by omega), ?_⟩
    refine ⟨fun c2 => ?_, fun c2 => ?_⟩
    · refine hC _ _ _ (use (wpd.up (by omega) (vec_spec (d := 0) hS hU hA hB oa ob hn ha hb)) ?_)
      rintro _ _ ⟨rfl, v, rfl, hv⟩
      rcases hv with ⟨i, rfl, hi, hm⟩ | ⟨t, t1, t2, rfl, hs⟩
      · refine ⟨fun c => absurd c (by omega), fun _ => ⟨rfl, _, rfl, Or.inl ⟨i, rfl, hi, hm⟩⟩⟩
      · refine ⟨fun _ => ?_, fun c => absurd c (by omega)⟩
        conv => whnf
        have e : isub ((n : Nat) : Int) (ixor (-((t : Nat) : Int) - 1) (-1)) = ((n - t : Nat) : Int) := by
          have e1 : ∀ t, t < 8 → ixor (-((t : Nat) : Int) - 1) (-1) = ((t : Nat) : Int) := by decide +kernel
          rw [e1 t t2, isub_eq (by omega)]
          omega
        rw [e]
        exact hW _ (loop t (n - t) (by omega) hs)
    · exact ⟨rfl, _, rfl, Or.inl ⟨0, rfl, by omega, fun j hj => absurd hj (by omega), c2⟩⟩
/-- a text: its bytes -/
def StrV (h : AH) (s : Nat) (t : List Int) : Prop := ∃ v w1 w2, h.F s = (14, [vR (some v), vI 0, w1, w2]) ∧ h.I v = (3, t)
theorem difT_at : ∀ (i : Nat) {a b : Tx}, i < a.length → i < b.length → misAt a b i → difT a b = gt a i - gt b i
  | _, [], _, h, _, _ => by simp at h
  | _, _ :: _, [], _, h, _ => by simp at h
  | 0, x :: a, y :: b, _, _, hm => by
    have hne : x ≠ y := hm.2
    show (if x = y then difT a b else x - y) = _
    rw [if_neg hne]
    rfl
  | i + 1, x :: a, y :: b, h1, h2, hm => by
    have h0 : x = y := hm.1 0 (by omega)
    show (if x = y then difT a b else x - y) = _
    rw [if_pos h0, difT_at i (by simpa using h1) (by simpa using h2) ⟨fun j hj => hm.1 (j + 1) (by omega), hm.2⟩]
    rfl
theorem difT_same : ∀ {a b : Tx}, sameTo a b (min a.length b.length) → difT a b = ((a.length : Nat) : Int) - ((b.length : Nat) : Int)
  | [], b, _ => by show -((b.length : Nat) : Int) = ((0 : Nat) : Int) - _; omega
  | x :: a, [], _ => by show (((x :: a).length : Nat) : Int) = _ - ((0 : Nat) : Int); omega
  | x :: a, y :: b, h => by
    have h0 : x = y := h 0 (by simp)
    show (if x = y then difT a b else x - y) = _
    rw [if_pos h0, difT_same fun j hj => h (j + 1) (by simp only [List.length_cons]; omega)]
    simp only [List.length_cons]
    omega
theorem i2c_low : ∀ w, w < 128 → i2c (iand ((w : Nat) : Int) 255) = ((w : Nat) : Int) := by decide +kernel
theorem getC_spec (hA : h.I p = (3, a)) (oa : okX a) {i : Nat} (hi : i < a.length) : wp (d + 1) 119 (0, ent 2 [vR (some p), vI ((i : Nat) : Int)], [], h) (gives h (gt a i)) := by
  have h1 := okX_at (n := i) oa
  refine wp.go [] 20 fun W C hW hC => ?_
  refine ⟨_, _, _, hA, rfl, by omega, gt_at i (by omega) hi, ?_⟩
  have e := i2c_low (gt a i).toNat (by omega)
  rw [show (((gt a i).toNat : Nat) : Int) = gt a i by omega] at e
  conv => whnf
  rw [e]
  exact ⟨by omega, by omega, rfl, rfl⟩
theorem coder_spec {w1 w2 : AV} {s v : Nat} (hF : h.F s = (14, [vR (some v), vI 0, w1, w2])) : wp (d + 1) 68 (0, ent 1 [vR (some s)], [], h) (gives h 0) := by
  refine wp.go [] 20 fun W C hW hC => ?_
  refine ⟨fun c => absurd c (by decide), fun _ => ?_⟩
  refine ⟨_, _, _, _, hF, rfl, rfl, ?_⟩
  exact ⟨by decide, by decide, rfl, rfl⟩
theorem lat_spec (hS : h.S 7 = some u) (hU : h.F u = (228, [])) (hA : h.I p = (3, a)) (hB : h.I q = (3, b)) (oa : okX a) (ob : okX b) (ha : a.length < 128) (hb : b.length < 128) : wp (d + 7) 117 (0, ent 4 [vR (some p), vR (some q)], [], h) (gives h (difT a b)) := by
  have c : wp (d + 6) 118 (0, ent 6 [vR (some p), vR (some q), vI ((a.length : Nat) : Int), vI ((b.length : Nat) : Int)], [], h) (gives h (difT a b)) := by
    refine wp.go [] 40 fun W C hW hC => ?_
    refine hC _ _ _ (useE (wpd.up (by omega) (min_spec (d := 0))) ?_)
    rw [show min ((a.length : Nat) : Int) ((b.length : Nat) : Int) = ((min a.length b.length : Nat) : Int) by omega]
    refine hC _ _ _ (use (wpd.up (by omega) (mis_spec (d := 0) hS hU hA hB oa ob (n := min a.length b.length) (by omega) (by omega) (by omega))) ?_)
    rintro _ _ ⟨rfl, v, rfl, hv⟩
    rcases hv with ⟨i, rfl, hi, hm⟩ | ⟨rfl, hs⟩
    · refine ⟨fun _ => ?_, fun w => absurd w (by omega)⟩
      refine hC _ _ _ (useE (wpd.up (by omega) (getC_spec (d := 0) (i := i) hA oa (by omega))) ?_)
      refine hC _ _ _ (useE (wpd.up (by omega) (getC_spec (d := 0) (i := i) hB ob (by omega))) ?_)
      have h1 := okX_at (n := i) oa
      have h2 := okX_at (n := i) ob
      conv => whnf
      rw [isub_eq (by omega), difT_at i (by omega) (by omega) hm]
      exact ⟨rfl, rfl⟩
    · refine ⟨fun w => absurd w (by decide), fun _ => ?_⟩
      conv => whnf
      rw [isub_eq (by omega), difT_same hs]
      exact ⟨rfl, rfl⟩
  refine wp.go [] 20 fun W C hW hC => ?_
  refine ⟨_, Or.inl ⟨_, _, hA, by decide, rfl⟩, ?_⟩
  refine ⟨_, Or.inl ⟨_, _, hB, by decide, rfl⟩, ?_⟩
  refine hC _ _ _ (useE (wpd.up (by omega) (c)) ?_)
  exact ⟨rfl, rfl⟩
/-- String.compareTo -/
theorem strCmp_spec {s t : Nat} (hS : h.S 7 = some u) (hU : h.F u = (228, [])) (hA : StrV h s a) (hB : StrV h t b) (oa : okX a) (ob : okX b) (ha : a.length < 128) (hb : b.length < 128) : wp (d + 9) 66 (0, ent 2 [vR (some s), vR (some t)], [], h) (gives h (difT a b)) := by
  obtain ⟨v, w1, w2, a1, a2⟩ := hA
  obtain ⟨v', w1', w2', b1, b2⟩ := hB
  have c : wp (d + 8) 67 (0, ent 5 [vR (some s), vR (some t)], [], h) (gives h (difT a b)) := by
    refine wp.go [] 40 fun W C hW hC => ?_
    refine ⟨_, _, _, _, a1, rfl, rfl, ?_⟩
    refine ⟨_, _, _, _, b1, rfl, rfl, ?_⟩
    refine ⟨_, _, _, a1, rfl, ?_⟩
    refine hC _ _ _ (useE (wpd.up (by omega) (coder_spec (d := 0) a1)) ?_)
    refine ⟨_, _, _, b1, rfl, ?_⟩
    refine hC _ _ _ (useE (wpd.up (by omega) (coder_spec (d := 0) b1)) ?_)
    refine ⟨fun w => absurd rfl w, fun _ => ?_⟩
    refine ⟨fun w => absurd rfl w, fun _ => ?_⟩
    refine hC _ _ _ (useE (wpd.up (by omega) (lat_spec (d := 0) hS hU a2 b2 oa ob ha hb)) ?_)
    exact ⟨rfl, rfl⟩
  refine wp.go [] 20 fun W C hW hC => ?_
  refine ⟨fun x hx => ?_, ?_⟩
  · cases hx
    exact ⟨(0, 14), rfl, by decide, by show (h.F t).1 % 200 = 14; rw [b1]; rfl⟩
  refine ⟨_, _, _, a1, rfl, ?_⟩
  refine hC _ _ _ (useE (wpd.up (by omega) (c)) ?_)
  exact ⟨rfl, rfl⟩
end MIS
