/-! A SKELETON OF A CODE -/
theorem parD_pos {L : List Nat} {x : Nat} : ∀ {t r : Nat}, parD L x t = some r → 1 ≤ x
  | 0, _, h => by cases h
  | t + 1, r, h => by
    unfold parD at h
    split at h
    · omega
    · exact parD_pos h
theorem gC_mono (L : List Nat) (c : Nat) {a b : Nat} (h : (gC L c).2 a b = true) : ∀ j, (gC L (c + j)).2 a b = true
  | 0 => h
  | j + 1 => by
    have := gC_mono L c h j
    show ((gC L (c + j)).2 a b || _ || _) = true
    rw [this]; rfl
theorem gC_deg {L : List Nat} (hL : okC L) {m : Nat} (hm : m < L.length) (h16 : m < 16) (hd : ∀ a, deg (gC L m) a ≤ 4) {c : Nat} (hc : c ≤ m) (a : Nat) : deg (gC L c) a ≤ 4 := by
  refine Nat.le_trans ?_ (hd a)
  have e : m = c + (m - c) := by omega
  have hw := gC_wf hL c (by omega) (by omega)
  rw [deg_cnt, deg_cnt, gC_n, gC_n, show m + 1 = (c + 1) + (m - c) by omega, cnt_split _ (c + 1) (m - c)]
  refine Nat.le_trans ?_ (Nat.le_add_right _ _)
  unfold cnt
  refine sumR_le fun i _ => ?_
  cases q : (gC L c).2 a i with
  | false => exact Nat.zero_le _
  | true =>
    have := gC_mono L c q (m - c)
    rw [← e] at this
    rw [this]
    exact Nat.le_refl _
section BY
variable {d : Nat} {h : AH} {p : Nat} {L : List Nat}
theorem by_spec (hI : h.I p = (1, L.map fun v => ((v : Nat) : Int))) (hp : p < h.sz) (hL : okC L) (h1 : 1 ≤ L.length) (h16 : L.length ≤ 16) (hv : ∀ v, v ∈ L → v < 16) (hd : ∀ a, deg (gC L (L.length - 1)) a ≤ 4) : wp (d + 3) 225 (0, ent 4 [vR (some p)], [], h) (fun r h' => r = .inl (some (vR (some h.sz))) ∧ ext 20 115 h h' ∧ h.sz + 19 ≤ h'.sz ∧ SkAt h' h.sz (gC L (L.length - 1))) := by
  have loop : ∀ (j c : Nat) (H : AH) (N : List Int), j + c = L.length → 1 ≤ c → ext 20 115 h H → h.sz + 20 = H.sz → SkAt H h.sz (gC L (c - 1)) → H.I (h.sz + 19) = (1, N) → N.length = 16 → (∀ x t, parD L x c = some t → gt N (x - 1) = ((t : Nat) : Int)) →
      wp (d + 3) 225 (15, [some (vR (some p)), some (vR (some h.sz)), some (vR (some (h.sz + 19))), some (vI ((c : Nat) : Int))], [], H) (fun r h' => r = .inl (some (vR (some h.sz))) ∧ ext 20 115 h h' ∧ h.sz + 19 ≤ h'.sz ∧ SkAt h' h.sz (gC L (L.length - 1))) := by
    intro j
    induction j with
    | zero =>
      intro c H N hj hc1 he hz hsk hN hNl hnum
      obtain rfl : c = L.length := by omega
      have hI' := (he.2.2.2.2.1 p hp).1.trans hI
      refine wp.go [15] 20 fun W C hW hC => ?_
      refine ⟨_, Or.inl ⟨_, _, hI', by decide, rfl⟩, ?_⟩
      rw [List.length_map]
      refine ⟨fun _ => ?_, fun q => absurd q (by omega)⟩
      exact ⟨rfl, he, by omega, hsk⟩
    | succ j ih =>
      intro c H N hj hc1 he hz hsk hN hNl hnum
      have hcl : c < L.length := by omega
      have hI' := (he.2.2.2.2.1 p hp).1.trans hI
      have hgetc := List.getElem?_eq_getElem hcl
      have hvc := hv _ (List.getElem_mem hcl)
      obtain ⟨r, hr⟩ := Option.isSome_iff_exists.mp (hL c hc1 hcl)
      have hr' : parD L (L[c]?.getD 0) c = some r := hr
      have hrc := parD_lt hr'
      have hrp := parD_pos hr'
      have hnr := hnum _ _ hr'
      rw [hgetc] at hrp hnr
      generalize hgx : L[c] = x at hgetc hvc hrp hnr
      have hrp : 1 ≤ x := hrp
      have hnr : gt N (x - 1) = ((r : Nat) : Int) := hnr
      have hmap : (L.map fun v => ((v : Nat) : Int))[c]? = some ((x : Nat) : Int) := by rw [List.getElem?_map, hgetc]; rfl
      have hw := gC_wf hL (c - 1) (by omega) (by omega)
      have hn := gC_n L (c - 1)
      have hgr : gC L c = gAdd ((gC L (c - 1)).1 + 1, (gC L (c - 1)).2) r (gC L (c - 1)).1 := by
        obtain ⟨c', rfl⟩ : ∃ c', c = c' + 1 := ⟨c - 1, by omega⟩
        show gGrow (gC L c') ((parC L (c' + 1)).getD 0) = _
        rw [hr]
        rfl
      have hdg := gC_deg hL (m := L.length - 1) (by omega) (by omega) hd (c := c) (by omega)
      have hw2 : wf0 ((gC L (c - 1)).1 + 1, (gC L (c - 1)).2) := ⟨by show (gC L (c - 1)).1 + 1 ≤ 16; omega, fun a b w => by have := hw.2.2 a b w; exact ⟨by show a < (gC L (c - 1)).1 + 1; omega, by show b < (gC L (c - 1)).1 + 1; omega, this.2.2⟩⟩
      have hno : (gC L (c - 1)).2 r (gC L (c - 1)).1 = false := by
        cases w : (gC L (c - 1)).2 r (gC L (c - 1)).1 with
        | false => rfl
        | true => have := (hw.2.2 _ _ w).2.1; omega
      have hno2 : (gC L (c - 1)).2 (gC L (c - 1)).1 r = false := by
        cases w : (gC L (c - 1)).2 (gC L (c - 1)).1 r with
        | false => rfl
        | true => have := (hw.2.2 _ _ w).1; omega
      have d1 := deg_less (G := ((gC L (c - 1)).1 + 1, (gC L (c - 1)).2)) (G' := gC L c) (by rw [hgr]; rfl) (a := r) (b := (gC L (c - 1)).1) (fun b w => by rw [hgr]; exact gAdd_iff.mpr (Or.inl w)) (by show (gC L (c - 1)).1 < (gC L (c - 1)).1 + 1; omega) hno (by rw [hgr]; exact gAdd_iff.mpr (Or.inr (Or.inl ⟨rfl, rfl⟩)))
      have d2 := deg_less (G := ((gC L (c - 1)).1 + 1, (gC L (c - 1)).2)) (G' := gC L c) (by rw [hgr]; rfl) (a := (gC L (c - 1)).1) (b := r) (fun b w => by rw [hgr]; exact gAdd_iff.mpr (Or.inl w)) (by show r < (gC L (c - 1)).1 + 1; omega) hno2 (by rw [hgr]; exact gAdd_iff.mpr (Or.inr (Or.inr ⟨rfl, rfl⟩)))
      have d3 := hdg r
      have d4 := hdg (gC L (c - 1)).1
      have hps : ∀ y t, parD L y (c + 1) = some t → gt (N.set x ((c : Nat) : Int)) (y - 1) = ((t : Nat) : Int) := by
        intro y t hy
        have hy0 := parD_pos hy
        unfold parD at hy
        rw [hgetc] at hy
        rw [gt_set (by omega)]
        have hy : (if x + 1 = y then some c else parD L y c) = some t := hy
        by_cases w : x + 1 = y
        · rw [if_pos w] at hy
          cases hy
          rw [if_pos (by omega)]
        · rw [if_neg w] at hy
          rw [if_neg (by omega)]
          exact hnum y t hy
      refine wp.go [15] 60 fun W C hW hC => ?_
      refine ⟨_, Or.inl ⟨_, _, hI', by decide, rfl⟩, ?_⟩
      rw [List.length_map]
      refine ⟨fun q => absurd q (by omega), fun _ => ?_⟩
      refine ⟨_, _, _, hsk.2.1, rfl, ?_⟩
      refine hC _ _ _ (use (wpd.up (by omega) (cadds_spec (d := 0) hsk hw.to0 (by omega))) ?_)
      rintro _ H2 ⟨rfl, u2, S2⟩
      have he2 := he.skU (Nat.le_refl _) u2
      have hN2 : H2.I (h.sz + 19) = (1, N) := by rw [(u2.2.2.2 _ (Or.inr (by omega))).1]; exact hN
      have hI2 := (he2.2.2.2.2.1 p hp).1.trans hI
      have hz2 : h.sz + 20 = H2.sz := by rw [u2.1]; exact hz
      refine ⟨_, _, _, hI2, rfl, by omega, by rw [Int.toNat_natCast]; exact hmap, ?_⟩
      refine ⟨_, hN2, by omega, by omega, ?_⟩
      rw [Int.toNat_natCast]
      refine ⟨fun q => absurd q (by omega), fun _ => ?_⟩
      have hI3 : (H2.setI (h.sz + 19) (N.set x ((c : Nat) : Int))).I p = (1, L.map fun v => ((v : Nat) : Int)) := by rw [setI_ne (by omega)]; exact hI2
      refine ⟨_, _, _, hI3, rfl, by omega, by rw [Int.toNat_natCast]; exact hmap, ?_⟩
      conv => whnf
      rw [isub_eq (by omega)]
      refine ⟨_, _, _, setI_at hN2, rfl, by omega, gt_at (x - 1) (by omega) (by rw [List.length_set]; omega), ?_⟩
      rw [gt_set (by omega), if_neg (by omega), hnr]
      have S3 : SkAt (H2.setI (h.sz + 19) (N.set x ((c : Nat) : Int))) h.sz ((gC L (c - 1)).1 + 1, (gC L (c - 1)).2) := S2.setI (by omega)
      refine ⟨_, _, _, S3.2.1, rfl, ?_⟩
      have cb := cbinds_spec (d := 0) S3 hw2 (a := r) (b := (gC L (c - 1)).1) (by show r < (gC L (c - 1)).1 + 1; omega) (by show (gC L (c - 1)).1 < (gC L (c - 1)).1 + 1; omega) (by omega) hno (by omega) (by omega)
      rw [show (((gC L (c - 1)).1 : Nat) : Int) = ((c : Nat) : Int) by omega] at cb
      refine hC _ _ _ (use (wpd.up (d := 0 + 2) (by omega) cb) ?_)
      rintro _ H3 ⟨rfl, u3, S4⟩
      rw [← hgr] at S4
      (conv => whnf); simp (disch := omega) only [iadd_eq, isub_eq, imul_eq]
      refine hW _ (ih (c + 1) H3 (N.set x ((c : Nat) : Int)) (by omega) (by omega) ((ext.setI he2 (by omega)).skU (Nat.le_refl _) u3) (by rw [u3.1]; exact hz2) S4 (by rw [(u3.2.2.2 _ (Or.inr (by omega))).1]; exact setI_at hN2) (by rw [List.length_set]; exact hNl) hps)
  have h0l : 0 < L.length := by omega
  have hget0 := List.getElem?_eq_getElem h0l
  have hv0 := hv _ (List.getElem_mem h0l)
  generalize hg0 : L[0] = x at hget0 hv0
  have hmap : (L.map fun v => ((v : Nat) : Int))[0]? = some ((x : Nat) : Int) := by rw [List.getElem?_map, hget0]; rfl
  refine wp.go [48] 80 fun W C hW hC => ?_
  refine hC _ _ _ (use (wpd.up (by omega) (skInit_spec (d := 0) (h := h.newF 2 [vR none, vR none, vI 0]) (s := h.sz) rfl newF_at)) ?_)
  rintro _ h1 ⟨rfl, a1, a2, a3, a4, a5⟩
  obtain ⟨e1, e2⟩ := sk_new (s := h.sz) ⟨a1, a2, a3, a4⟩
  refine ⟨by decide, by decide, ?_⟩
  have e3 : ext 20 115 h (h1.newI 1 (List.replicate (16 : Int).toNat 0)) := (e1.trans (ext_newI (t := 1) (x := List.replicate (16 : Int).toNat 0))).more (by decide) (by decide)
  obtain ⟨H1, hH1⟩ : ∃ H1, H1 = h1.newI 1 (List.replicate (16 : Int).toNat 0) := ⟨_, rfl⟩
  rw [← hH1] at e3
  rw [← hH1]
  have hN1 : H1.I h1.sz = (1, List.replicate 16 0) := by rw [hH1]; exact newI_at
  have s5 : SkAt H1 h.sz gNil := by rw [hH1]; exact a5.mono ext_newI
  have z1 : H1.sz = h.sz + 20 := by rw [hH1]; show h1.sz + 1 = _; omega
  have hI1 := (e3.2.2.2.2.1 p hp).1.trans hI
  refine ⟨_, Or.inl ⟨_, _, hI1, by decide, rfl⟩, ?_⟩
  rw [List.length_map]
  refine ⟨fun q => absurd q (by omega), fun _ => ?_⟩
  refine ⟨_, _, _, s5.2.1, rfl, ?_⟩
  refine hC _ _ _ (use (wpd.up (by omega) (cadds_spec (d := 0) s5 ⟨by decide, fun a b w => by cases w⟩ (by decide))) ?_)
  rintro _ H2 ⟨rfl, u2, S2⟩
  have he2 := e3.skU (Nat.le_refl _) u2
  have hN2 : H2.I h1.sz = (1, List.replicate 16 0) := by rw [(u2.2.2.2 _ (Or.inr (by omega))).1]; exact hN1
  have hI2 := (he2.2.2.2.2.1 p hp).1.trans hI
  refine ⟨_, _, _, hI2, rfl, by decide, by rw [show ((0 : Int).toNat) = 0 from rfl]; exact hmap, ?_⟩
  refine ⟨_, hN2, by omega, by rw [List.length_replicate]; omega, ?_⟩
  rw [Int.toNat_natCast]
  refine ⟨fun _ => ?_, fun q => absurd q (by decide)⟩
  have key := loop (L.length - 1) 1 (H2.setI h1.sz ((List.replicate 16 (0 : Int)).set x 0)) ((List.replicate 16 (0 : Int)).set x 0) (by omega) (by decide) (ext.setI he2 (by omega)) (by rw [show (H2.setI h1.sz ((List.replicate 16 (0 : Int)).set x 0)).sz = H2.sz from rfl, u2.1]; omega) (S2.setI (by omega)) (by rw [show h.sz + 19 = h1.sz by omega]; exact setI_at hN2) (by rw [List.length_set, List.length_replicate]) (fun y t hy => ?_)
  · refine hW _ ?_
    refine wp.go [15] 10 fun W C hW hC => ?_
    (conv => whnf); simp (disch := omega) only [iadd_eq, isub_eq, imul_eq]
    refine hW _ ?_
    rw [show h1.sz = h.sz + 19 by omega] at key ⊢
    exact key
  · have hy : (if L[0]?.getD 0 + 1 = y then some 0 else none) = some t := hy
    rw [hget0] at hy
    have hy : (if x + 1 = y then some 0 else none) = some t := hy
    by_cases w : x + 1 = y
    · rw [if_pos w] at hy
      cases hy
      rw [gt_set (by rw [List.length_replicate]; omega), if_pos (by omega)]
      rfl
    · rw [if_neg w] at hy; cases hy
end BY
