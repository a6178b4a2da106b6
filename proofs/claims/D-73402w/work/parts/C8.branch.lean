theorem useE {d z : Nat} {s : St} {A : Rs} {B : AH} {K : Rs → AH → Prop} (hs : wp d z s (fun r h' => r = A ∧ h' = B)) (hk : K A B) : wpd PP mLL d z s K := use hs (by rintro _ _ ⟨rfl, rfl⟩; exact hk)
section BRANCH
variable {d : Nat} {s : Nat} {G : Gr} {D : Nat → Nat → Nat}
/-- a branch object of the tree at c seen from a, all made anew -/
abbrev brNew (h : AH) (n : Nat) (t : Tr) : Rs → AH → Prop := fun r h' => ∃ x, r = .inl (some (vR (some x))) ∧ ext (2 * n) (10 * n) h h' ∧ BrA (fun v => h.sz ≤ v ∧ v < h'.sz) h' x t
theorem isk_br {P : Nat → Prop} {h : AH} {x : Nat} {t : Tr} (k : BrA P h x t) : isk h (eok 1) (some x) := by
  intro b hb
  cases hb
  refine ⟨(0, 7), rfl, by decide, ?_⟩
  show (h.F x).1 % 200 = 7
  rw [k.choose_spec.choose_spec.2.1]
  rfl
abbrev chk' (G : Gr) (a c k : Nat) : List Nat := ((nb G c).take k).filter fun e => !(Nat.beq e a)
theorem chk_all (G : Gr) (a c : Nat) : chk' G a c (deg G c) = ch G a c := by
  show ((nb G c).take (nb G c).length).filter _ = _
  rw [List.take_length]
  rfl
theorem chk_succ {a c k e : Nat} (hg : (nb G c)[k]? = some e) : chk' G a c (k + 1) = chk' G a c k ++ (if e = a then [] else [e]) := by
  show ((nb G c).take (k + 1)).filter _ = _
  rw [List.take_succ, hg, List.filter_append]
  congr 1
  by_cases q : e = a
  · rw [if_pos q, q]
    show List.filter (fun e => !(Nat.beq e a)) [a] = []
    simp [Nat.beq_refl]
  · rw [if_neg q]
    show List.filter (fun e => !(Nat.beq e a)) [e] = [e]
    have := nbeq.mpr q
    simp [this]
theorem filter_take_len {p : Nat → Bool} (l : List Nat) (k : Nat) : ((l.take k).filter p).length ≤ (l.filter p).length := by
  have : l.filter p = (l.take k).filter p ++ (l.drop k).filter p := by rw [← List.filter_append, List.take_append_drop]
  rw [this, List.length_append]
  omega
theorem branch_spec (hG : G.wf) (hd : ∀ a, deg G a ≤ 4) (hD : Far G D) : ∀ (n a c : Nat) (h : AH), SkAt h s G → bszF G D a c ≤ n → (G.2 a c = true ∨ a = 16) → c < G.1 → wp (d + n + 20) 234 (0, ent 6 [vR (some s), vI ((c : Nat) : Int), vI (frI a)], [], h) (brNew h (bszF G D a c) (TT G a c)) := by
  have hn := hG.2.1
  intro n
  induction n with
  | zero => intro a c h hS h1; unfold bszF at h1; omega
  | succ n ih =>
    intro a c h hS hb hac hc
    have hdc := hd c
    have hm16 := bszF_le hG hD hac hc
    obtain ⟨q, hq⟩ : ∃ q, q = (ch G a c).length := ⟨_, rfl⟩
    have hq4 : q ≤ 4 := by
      rw [hq]
      exact Nat.le_trans (List.length_filter_le _ _) hdc
    have hqd : ((deg G c : Nat) : Int) - (if a = 16 then 0 else 1) = ((q : Nat) : Int) := by
      rcases hac with k | k
      · have := ch_len hG k
        have ha := (hG.2.2 _ _ k).1
        rw [if_neg (by omega)]
        omega
      · subst k
        rw [if_pos rfl, hq, ch_root hG]
        show _ = ((deg G c : Nat) : Int)
        omega
    have loop : ∀ (j k : Nat) (zs : Zs) (H : AH), j + k = deg G c → treZ zs = (chk' G a c k).map (TT G c) → ext (1 + 2 * ((chk' G a c k).map (bsz G D c)).sum) (q + 10 * ((chk' G a c k).map (bsz G D c)).sum) h H → h.sz < H.sz → H.R h.sz = (1, refZ zs ++ List.replicate (q - zs.length) none) → (∀ z, z ∈ zs → BrA (fun v => h.sz < v ∧ v < H.sz) H z.1 z.2) →
        wp (d + (n + 1) + 20) 234 (30, [some (vR (some s)), some (vI ((c : Nat) : Int)), some (vI (frI a)), some (vR (some h.sz)), some (vI ((zs.length : Nat) : Int)), some (vI ((k : Nat) : Int))], [], H) (brNew h (bszF G D a c) (TT G a c)) := by
      intro j
      induction j with
      | zero =>
        intro k zs H hj hz he hsz hR hbr
        obtain rfl : k = deg G c := by omega
        rw [chk_all] at hz he
        have hzl : zs.length = q := by rw [hq, ← List.length_map (f := TT G c), ← hz, List.length_map]
        have hS' := hS.mono he
        obtain ⟨k1, k2, k3, ⟨W, k4, k5, k6⟩, k7⟩ := hS'
        have hmem : ∀ z, z ∈ zs → ∃ e, G.2 c e = true ∧ e ≠ a ∧ z.2 = TT G c e := by
          intro z hzz
          have : z.2 ∈ treZ zs := List.mem_map.mpr ⟨z, hzz, rfl⟩
          rw [hz, List.mem_map] at this
          obtain ⟨e, h1, h2⟩ := this
          obtain ⟨h3, h4⟩ := (ch_mem hG).mp h1
          exact ⟨e, h3, h4, h2.symm⟩
        have hsum : sumS (treZ zs) = ((ch G a c).map (bsz G D c)).sum := by
          unfold sumS
          rw [hz, List.map_map]
          congr 1
          refine List.map_congr_left fun e he => ?_
          exact TT_sz hG hD c e ((ch_mem hG).mp he).1
        have hb1 : bszF G D a c = 1 + ((ch G a c).map (bsz G D c)).sum := rfl
        have hHR : (H.newF 7 [vR none, vI 0, vI 0, vL 0, vL 0, vL 0]).R h.sz = (1, refZ zs) := by
          show H.R h.sz = _
          rw [hR, hzl, Nat.sub_self]
          simp
        have call := brInit_spec (d := 0) (h := H.newF 7 [vR none, vI 0, vI 0, vL 0, vL 0, vL 0]) (x := H.sz) (p := h.sz) (zs := zs)
          (fun z hz ar fs => ((hbr z hz).to (P' := fun v => v < H.sz + 1) fun v hv => ⟨by omega, by rw [show ((((H.newF 7 [vR none, vI 0, vI 0, vL 0, vL 0, vL 0]).setR h.sz ar).setF H.sz fs).R v) = ((H.newF 7 [vR none, vI 0, vI 0, vL 0, vL 0, vL 0]).setR h.sz ar).R v from rfl, setR_ne (by omega)]; rfl, by rw [setF_ne (by omega)]; exact newF_ne (by omega)⟩).at fun v hv => hv)
          (by show h.sz < H.sz + 1; omega) (by show H.sz < H.sz + 1; omega) newF_at hHR
          (fun z hz => by obtain ⟨e, h1, h2, h3⟩ := hmem z hz; rw [h3]; exact ⟨TT_ok G c e, by rw [TT_sz hG hD c e h1]; have := bsz_lt hG hD h1; omega⟩)
          (by omega) (by rw [hsum]; omega) (fun z hz => by obtain ⟨e, h1, h2, h3⟩ := hmem z hz; rw [h3]; exact TT_ways hG hd hD c e h1)
        refine wp.go [30, 75] 40 fun W C hW hC => ?_
        refine ⟨_, _, _, _, k2, rfl, rfl, ?_⟩
        refine ⟨_, _, _, k4, rfl, by omega, gt_at c (by omega) (by omega), ?_⟩
        rw [k6 c hc]
        refine ⟨fun _ => ?_, fun q => absurd q (by omega)⟩
        refine hC _ _ _ (use (wpd.up (by omega) (call)) ?_)
        rintro _ _ ⟨rfl, Z, z1, z2, rfl, z3⟩
        have hTT : mkT (treZ Z) = TT G a c := by rw [z1, hz, TT_eq hG hD hac]
        refine ⟨H.sz, rfl, ?_, ?_⟩
        · refine ext.setF (ext.setR ?_ (Nat.le_refl _)) (by omega)
          refine (he.trans (ext_newF (t := 7) (x := [vR none, vI 0, vI 0, vL 0, vL 0, vL 0]))).more ?_ ?_
          · rw [hb1]; omega
          · rw [hb1]; show q + 10 * _ + 6 ≤ _; omega
        · have := brMade (P := fun v => h.sz < v ∧ v < H.sz) (Q := fun v => h.sz ≤ v ∧ v < H.sz + 1) (h := H.newF 7 [vR none, vI 0, vI 0, vL 0, vL 0, vL 0]) (x := H.sz) (p := h.sz) (Z := Z) (by omega) (by omega) newF_at hHR (fun z hz => (hbr z (z2 z hz)).to fun v hv => ⟨hv, rfl, newF_ne (by omega)⟩) (fun v hv => by omega)
          rw [hTT] at this ⊢
          exact this
      | succ j ihj =>
        intro k zs H hj hz he hsz hR hbr
        have hS' := hS.mono he
        obtain ⟨k1, k2, k3, ⟨W, k4, k5, k6⟩, k7⟩ := id hS'
        obtain ⟨X1, x1, x2, x3⟩ := k7 c (by omega)
        have x3 := x3 hc
        have hkl : k < (nb G c).length := by show k < deg G c; omega
        have hget := List.getElem?_eq_getElem hkl
        have hx := x3 k _ hget
        have hce : G.2 c (nb G c)[k] = true := (nb_mem hG).mp (List.getElem_mem hkl)
        generalize (nb G c)[k] = e at hget hx hce
        have he1 := (hG.2.2 _ _ hce).2.1
        have hcs := chk_succ (a := a) hget
        have hzl : zs.length = (chk' G a c k).length := by rw [← List.length_map (f := TT G c), ← hz, List.length_map]
        refine wp.go [30, 75] 70 fun W C hW hC => ?_
        refine ⟨_, _, _, _, k2, rfl, rfl, ?_⟩
        refine ⟨_, _, _, k4, rfl, by omega, gt_at c (by omega) (by omega), ?_⟩
        rw [k6 c hc]
        refine ⟨fun q => absurd q (by omega), fun _ => ?_⟩
        refine ⟨_, _, _, _, k2, rfl, rfl, ?_⟩
        refine ⟨_, _, _, k3, by decide, by omega, by rw [Int.toNat_natCast]; exact row_ref (by omega), ?_⟩
        refine ⟨_, _, _, x1, rfl, by omega, gt_at k (by omega) (by omega), ?_⟩
        rw [hx]
        refine ⟨fun qe => ?_, fun qe => ?_⟩
        · have hea : e = a := by
            by_cases q16 : a = 16
            · rw [show frI a = -1 from if_pos q16] at qe; omega
            · rw [show frI a = ((a : Nat) : Int) from if_neg q16] at qe; omega
          rw [if_pos hea, List.append_nil] at hcs
          refine hW _ ?_
          refine wp.go [30] 10 fun W C hW hC => ?_
          (conv => whnf); simp (disch := omega) only [iadd_eq, isub_eq, imul_eq]
          refine hW _ (ihj (k + 1) zs H (by omega) ?_ ?_ hsz hR hbr)
          · rw [hcs]; exact hz
          · rw [hcs]; exact he
        · have hea : e ≠ a := by
            intro w
            rw [show frI a = ((a : Nat) : Int) from if_neg (by omega)] at qe
            omega
          rw [if_neg hea] at hcs
          have hzlt : zs.length < q := by
            have h1 := filter_take_len (p := fun e => !(Nat.beq e a)) (nb G c) (k + 1)
            have h2 : (chk' G a c (k + 1)).length ≤ (ch G a c).length := h1
            rw [hcs, List.length_append, List.length_singleton] at h2
            omega
          refine ⟨_, _, _, _, k2, rfl, rfl, ?_⟩
          refine ⟨_, _, _, k3, by decide, by omega, by rw [Int.toNat_natCast]; exact row_ref (by omega), ?_⟩
          refine ⟨_, _, _, x1, rfl, by omega, gt_at k (by omega) (by omega), ?_⟩
          rw [hx]
          refine ⟨_, _, _, k2, rfl, ?_⟩
          have call := ih c e H hS' (by have := bszF_child hG hD hce hea; omega) (Or.inl hce) he1
          rw [show frI c = ((c : Nat) : Int) from if_neg (by omega)] at call
          refine hC _ _ _ (use call ?_)
          rintro _ H' ⟨y, rfl, e2, by1⟩
          have hb2 : bszF G D c e = bsz G D c e := (bsz_eq hG hD hce).symm
          rw [hb2] at e2
          have s1 := e2.1
          have hR' : H'.R h.sz = (1, refZ zs ++ List.replicate (q - zs.length) none) := by rw [(e2.2.2.2.2.1 _ hsz).2.1]; exact hR
          refine ⟨_, _, hR', by decide, by decide, by omega, by rw [List.length_append, List.length_map, List.length_replicate]; omega, isk_br by1, fun q => (by cases q), ?_⟩
          rw [Int.toNat_natCast, show (refZ zs ++ List.replicate (q - zs.length) (none : Option Nat)).set zs.length (some y) = refZ (zs ++ [(y, TT G c e)]) ++ List.replicate (q - (zs ++ [(y, TT G c e)]).length) none by
            have h1 : List.replicate (q - zs.length) (none : Option Nat) = none :: List.replicate (q - (zs.length + 1)) none := by
              rw [show q - zs.length = (q - (zs.length + 1)) + 1 by omega]; rfl
            have := set_mid (L1 := refZ zs) (L2 := List.replicate (q - (zs.length + 1)) none) (w := none) (v := some y)
            rw [List.length_map] at this
            rw [h1, this]
            simp]
          refine hW _ ?_
          refine wp.go [30] 10 fun W C hW hC => ?_
          (conv => whnf); simp (disch := omega) only [iadd_eq, isub_eq, imul_eq]
          have key := ihj (k + 1) (zs ++ [(y, TT G c e)]) (H'.setR h.sz (refZ (zs ++ [(y, TT G c e)]) ++ List.replicate (q - (zs ++ [(y, TT G c e)]).length) none)) (by omega) ?_ ?_ ?_ ?_ ?_
          · rw [show (((zs ++ [(y, TT G c e)]).length : Nat) : Int) = ((zs.length + 1 : Nat) : Int) by simp] at key
            exact hW _ key
          · rw [hcs, List.map_append, ← hz]
            simp
          · refine ext.setR ((he.trans e2).more ?_ ?_) (Nat.le_refl _)
            · rw [hcs]; simp only [List.map_append, List.sum_append, List.map_cons, List.map_nil, List.sum_cons, List.sum_nil]; omega
            · rw [hcs]; simp only [List.map_append, List.sum_append, List.map_cons, List.map_nil, List.sum_cons, List.sum_nil]; omega
          · show h.sz < H'.sz; omega
          · exact setR_at hR'
          · intro z hzz
            rcases List.mem_append.mp hzz with hzz | hzz
            · refine (hbr z hzz).to fun v hv => ⟨⟨hv.1, by show v < H'.sz; omega⟩, ?_, ?_⟩
              · rw [setR_ne (by omega)]; exact (e2.2.2.2.2.1 v hv.2).2.1
              · exact (e2.2.2.2.2.1 v hv.2).2.2
            · rw [List.mem_singleton.mp hzz]
              refine by1.to fun v hv => ⟨⟨by omega, hv.2⟩, ?_, rfl⟩
              rw [setR_ne (by omega)]
    have start : wp (d + (n + 1) + 20) 234 (16, [some (vR (some s)), some (vI ((c : Nat) : Int)), some (vI (frI a)), none, none, none], [vI (z01 (!(Nat.beq a 16))), vI ((deg G c : Nat) : Int)], h) (brNew h (bszF G D a c) (TT G a c)) := by
      refine wp.go [30] 20 fun W C hW hC => ?_
      refine hC _ _ _ (useE (wpd.up (by omega) (bit_spec (d := 0))) ?_)
      have hz : z01 (!(Nat.beq a 16)) = if a = 16 then 0 else 1 := by
        by_cases q16 : a = 16
        · rw [if_pos q16, q16]; rfl
        · rw [if_neg q16, nbeq.mpr q16]; rfl
      rw [hz]
      conv => whnf
      have h1 : I32 (((deg G c : Nat) : Int) - (if a = 16 then 0 else 1)) := by rw [hqd]; omega
      rw [isub_eq h1, hqd]
      refine ⟨by omega, by omega, ?_⟩
      rw [Int.toNat_natCast]
      refine hW _ (loop (deg G c) 0 [] _ (by omega) rfl ?_ (by show h.sz < h.sz + 1; omega) ?_ (fun z hz => (nomatch hz)))
      · refine ext_newR.more (by simp) ?_
        rw [List.length_replicate]
        simp
      · exact newR_at
    obtain ⟨k1, k2, k3, ⟨W, k4, k5, k6⟩, k7⟩ := id hS
    refine wp.go [16] 20 fun W C hW hC => ?_
    refine ⟨_, _, _, _, k2, rfl, rfl, ?_⟩
    refine ⟨_, _, _, k4, rfl, by omega, gt_at c (by omega) (by omega), ?_⟩
    rw [k6 c hc]
    refine ⟨fun q => ?_, fun q => ?_⟩
    · have ha : a = 16 := by
        by_cases q16 : a = 16
        · exact q16
        · rw [show frI a = ((a : Nat) : Int) from if_neg q16] at q; omega
      rw [show z01 (!(Nat.beq a 16)) = 0 by rw [ha]; rfl] at start
      exact hW _ start
    · have ha : a ≠ 16 := fun w => q (by rw [show frI a = -1 from if_pos w])
      rw [show z01 (!(Nat.beq a 16)) = 1 by rw [nbeq.mpr ha]; rfl] at start
      exact hW _ start
end BRANCH
