theorem least_ex {p : Nat → Bool} : ∀ (c : Nat), p c = true → ∃ e, e ≤ c ∧ p e = true ∧ ∀ i, i < e → p i = false := by
  intro c
  induction c using Nat.strongRecOn with
  | ind c ih =>
    intro hc
    by_cases q : ∃ i, i < c ∧ p i = true
    · obtain ⟨i, h1, h2⟩ := q
      obtain ⟨e, g1, g2, g3⟩ := ih i h1 h2
      exact ⟨e, by omega, g2, g3⟩
    · refine ⟨c, Nat.le_refl _, hc, fun i hi => ?_⟩
      cases w : p i with
      | false => rfl
      | true => exact absurd ⟨i, hi, w⟩ q
section CLIKE
variable {d : Nat} {h : AH} {s : Nat} {G : Gr} {D : Nat → Nat → Nat}
theorem lk_at {c : Nat} (hc : c < G.1) : lkC G c ≤ c ∧ eqT (TT G 16 (lkC G c)) (TT G 16 c) = true ∧ ∀ i, i < lkC G c → eqT (TT G 16 i) (TT G 16 c) = false := by
  obtain ⟨e, h1, h2, h3⟩ := least_ex (p := fun e => eqT (TT G 16 e) (TT G 16 c)) c (eqT_self _)
  have : lkC G c = e := findIdx_at (by omega) h2 h3
  rw [this]
  exact ⟨h1, h2, h3⟩
theorem like_arr (hS : SkAt h s G) (hG : G.wf) (hd : ∀ a, deg G a ≤ 4) (hD : Far G D) : wp (d + 40) 242 (0, ent 4 [vR (some s)], [], h) (fun r h' => r = .inl (some (vR (some (h.sz + 1)))) ∧ ext (2 + G.1 * (2 * G.1)) (2 * G.1 + G.1 * (10 * G.1)) h h' ∧ h.sz + 2 ≤ h'.sz ∧ ∃ L, h'.I (h.sz + 1) = (1, L) ∧ L.length = G.1 ∧ ∀ c, c < G.1 → gt L c = ((lkC G c : Nat) : Int)) := by
  have hn := hG.2.1
  have hs0 := hS.1
  generalize hA2 : 2 * G.1 = A2
  generalize hA10 : 10 * G.1 = A10
  have outer : ∀ (j c : Nat) (H : AH) (zs : Zs) (L : List Int), j + c = G.1 → ext (2 + c * A2) (A2 + c * A10) h H → h.sz + 2 ≤ H.sz → zs.length = c → (∀ e, e < c → ∃ z, zs[e]? = some z ∧ z.2 = TT G 16 e) → H.R h.sz = (1, refZ zs ++ List.replicate (G.1 - c) none) → (∀ z, z ∈ zs → BrA (fun v => h.sz + 2 ≤ v ∧ v < H.sz) H z.1 z.2) → H.I (h.sz + 1) = (1, L) → L.length = G.1 → (∀ e, e < c → gt L e = ((lkC G e : Nat) : Int)) →
      wp (d + 40) 242 (17, [some (vR (some s)), some (vR (some h.sz)), some (vR (some (h.sz + 1))), some (vI ((c : Nat) : Int))], [], H) (fun r h' => r = .inl (some (vR (some (h.sz + 1)))) ∧ ext (2 + G.1 * A2) (A2 + G.1 * A10) h h' ∧ h.sz + 2 ≤ h'.sz ∧ ∃ L, h'.I (h.sz + 1) = (1, L) ∧ L.length = G.1 ∧ ∀ c, c < G.1 → gt L c = ((lkC G c : Nat) : Int)) := by
    intro j
    induction j with
    | zero =>
      intro c H zs L hj he hz hzl hzt hR hbr hI hL hlk
      obtain rfl : c = G.1 := by omega
      have hS' := hS.mono he
      refine wp.go [17] 20 fun W C hW hC => ?_
      refine ⟨_, _, _, _, hS'.2.1, rfl, rfl, ?_⟩
      refine ⟨fun _ => ?_, fun q => absurd q (by omega)⟩
      exact ⟨rfl, he, hz, L, hI, hL, hlk⟩
    | succ j ih =>
      intro c H zs L hj he hz hzl hzt hR hbr hI hL hlk
      have hc : c < G.1 := by omega
      have hS' := hS.mono he
      have hbF := bszF_le hG hD (a := 16) (Or.inr rfl) hc
      have call := branch_spec (d := 0) hG hd hD 16 16 c H hS' (by omega) (Or.inr rfl) hc
      rw [show frI 16 = -1 from if_pos rfl] at call
      obtain ⟨l1, l2, l3⟩ := lk_at (G := G) hc
      refine wp.go [17, 38] 40 fun W C hW hC => ?_
      refine ⟨_, _, _, _, hS'.2.1, rfl, rfl, ?_⟩
      refine ⟨fun q => absurd q (by omega), fun _ => ?_⟩
      refine ⟨_, _, _, hS'.2.1, rfl, ?_⟩
      refine hC _ _ _ (use (wpd.up (by omega) (call)) ?_)
      rintro _ H1 ⟨x, rfl, e1, bx⟩
      have z1 := e1.1
      have hR1 : H1.R h.sz = (1, refZ zs ++ List.replicate (G.1 - c) none) := by rw [(e1.2.2.2.2.1 _ (by omega)).2.1]; exact hR
      have hI1 : H1.I (h.sz + 1) = (1, L) := by rw [(e1.2.2.2.2.1 _ (by omega)).1]; exact hI
      refine ⟨_, _, hR1, by decide, by decide, by omega, by rw [List.length_append, List.length_map, List.length_replicate]; omega, isk_br bx, fun q => (by cases q), ?_⟩
      rw [Int.toNat_natCast, show (refZ zs ++ List.replicate (G.1 - c) (none : Option Nat)).set c (some x) = refZ (zs ++ [(x, TT G 16 c)]) ++ List.replicate (G.1 - (c + 1)) none by
        have h1 : List.replicate (G.1 - c) (none : Option Nat) = none :: List.replicate (G.1 - (c + 1)) none := by
          rw [show G.1 - c = (G.1 - (c + 1)) + 1 by omega]; rfl
        have := set_mid (L1 := refZ zs) (L2 := List.replicate (G.1 - (c + 1)) none) (w := none) (v := some x)
        rw [List.length_map, hzl] at this
        rw [h1, this]
        simp]
      obtain ⟨H2, hH2⟩ : ∃ H2, H2 = H1.setR h.sz (refZ (zs ++ [(x, TT G 16 c)]) ++ List.replicate (G.1 - (c + 1)) none) := ⟨_, rfl⟩
      rw [← hH2]
      have hI2 : H2.I (h.sz + 1) = (1, L) := by rw [hH2]; exact hI1
      have hR2 : H2.R h.sz = (1, refZ (zs ++ [(x, TT G 16 c)]) ++ List.replicate (G.1 - (c + 1)) none) := by rw [hH2]; exact setR_at hR1
      have z2 : H2.sz = H1.sz := by rw [hH2]; rfl
      have hzt2 : ∀ e, e < c + 1 → ∃ z, (zs ++ [(x, TT G 16 c)])[e]? = some z ∧ z.2 = TT G 16 e := by
        intro e hel
        by_cases w : e = c
        · subst w
          exact ⟨(x, TT G 16 e), by rw [List.getElem?_append_right (by omega), hzl, Nat.sub_self]; rfl, rfl⟩
        · obtain ⟨z, g1, g2⟩ := hzt e (by omega)
          exact ⟨z, by rw [List.getElem?_append_left (by omega)]; exact g1, g2⟩
      have hbr2 : ∀ z, z ∈ zs ++ [(x, TT G 16 c)] → BrA (fun v => h.sz + 2 ≤ v ∧ v < H2.sz) H2 z.1 z.2 := by
        intro z hzz
        rcases List.mem_append.mp hzz with hzz | hzz
        · refine (hbr z hzz).to fun v hv => ⟨⟨hv.1, by omega⟩, ?_, ?_⟩
          · rw [hH2, setR_ne (by omega)]; exact (e1.2.2.2.2.1 v hv.2).2.1
          · rw [hH2]; exact (e1.2.2.2.2.1 v hv.2).2.2
        · rw [List.mem_singleton.mp hzz]
          refine bx.to fun v hv => ⟨⟨by omega, by omega⟩, ?_, ?_⟩
          · rw [hH2, setR_ne (by omega)]
          · rw [hH2]; rfl
      have he2 : ext (2 + (c + 1) * A2) (A2 + (c + 1) * A10) h H2 := by
        rw [hH2]
        refine ext.setR ((he.trans e1).more ?_ ?_) (Nat.le_refl _)
        · rw [Nat.add_mul c 1, Nat.one_mul]; omega
        · rw [Nat.add_mul c 1, Nat.one_mul]; omega
      have oat : ∀ (L' : List Int) (e : Nat), e < c + 1 → ∃ y, (refZ (zs ++ [(x, TT G 16 c)]) ++ List.replicate (G.1 - (c + 1)) none)[e]? = some (some y) ∧ OAt (H2.setI (h.sz + 1) L') (some y) (some (TT G 16 e)) := by
        intro L' e hel
        obtain ⟨z, g1, g2⟩ := hzt2 e hel
        refine ⟨z.1, ?_, ?_, TT_ok G 16 e, by rw [TT_root hG hD (by omega)]; exact hn⟩
        · rw [List.getElem?_append_left (by rw [List.length_map, List.length_append, List.length_singleton]; omega), List.getElem?_map, g1]; rfl
        · rw [← g2]
          exact ((hbr2 z (List.mem_of_getElem? g1)).to (H := H2.setI (h.sz + 1) L') (P' := fun v => h.sz + 2 ≤ v ∧ v < H2.sz) fun v hv => ⟨hv, rfl, rfl⟩).at fun v hv => hv.2
      have inner : ∀ (i m : Nat) (L' : List Int), i + m = lkC G c → L'.length = G.1 → (∀ e, e < c → gt L' e = ((lkC G e : Nat) : Int)) → gt L' c = ((m : Nat) : Int) → wp (d + 40) 242 (38, [some (vR (some s)), some (vR (some h.sz)), some (vR (some (h.sz + 1))), some (vI ((c : Nat) : Int))], [], H2.setI (h.sz + 1) L') (fun r h' => r = .inl (some (vR (some (h.sz + 1)))) ∧ ext (2 + G.1 * A2) (A2 + G.1 * A10) h h' ∧ h.sz + 2 ≤ h'.sz ∧ ∃ L, h'.I (h.sz + 1) = (1, L) ∧ L.length = G.1 ∧ ∀ c, c < G.1 → gt L c = ((lkC G c : Nat) : Int)) := by
        intro i
        induction i with
        | zero =>
          intro m L' hi hL' hlk' hm
          obtain rfl : m = lkC G c := by omega
          obtain ⟨y1, g1, g2⟩ := oat L' (lkC G c) (by omega)
          obtain ⟨y2, g3, g4⟩ := oat L' c (by omega)
          have hI3 : (H2.setI (h.sz + 1) L').I (h.sz + 1) = (1, L') := setI_at hI2
          refine wp.go [17, 38] 30 fun W C hW hC => ?_
          refine ⟨_, _, _, hI3, rfl, by omega, gt_at c (by omega) (by omega), ?_⟩
          rw [hm]
          refine ⟨_, _, _, hR2, by decide, by omega, by rw [Int.toNat_natCast]; exact g1, ?_⟩
          refine ⟨_, _, _, hR2, by decide, by omega, by rw [Int.toNat_natCast]; exact g3, ?_⟩
          refine hC _ _ _ (useE (wpd.up (by omega) (like_spec (d := 0) g2 g4)) ?_)
          rw [show eqO (some (TT G 16 (lkC G c))) (some (TT G 16 c)) = eqT (TT G 16 (lkC G c)) (TT G 16 c) from rfl, l2]
          refine ⟨fun _ => ?_, fun q => absurd q (by decide)⟩
          (conv => whnf); simp (disch := omega) only [iadd_eq, isub_eq, imul_eq]
          refine hW _ (ih (c + 1) (H2.setI (h.sz + 1) L') (zs ++ [(x, TT G 16 c)]) L' (by omega) (ext.setI he2 (by omega)) (by show h.sz + 2 ≤ H2.sz; omega) (by rw [List.length_append, List.length_singleton]; omega) hzt2 hR2 (fun z hz => (hbr2 z hz).to fun v hv => ⟨hv, rfl, rfl⟩) hI3 hL' fun e hel => ?_)
          by_cases w : e = c
          · rw [w]; exact hm
          · exact hlk' e (by omega)
        | succ i ihi =>
          intro m L' hi hL' hlk' hm
          obtain ⟨y1, g1, g2⟩ := oat L' m (by omega)
          obtain ⟨y2, g3, g4⟩ := oat L' c (by omega)
          have hI3 : (H2.setI (h.sz + 1) L').I (h.sz + 1) = (1, L') := setI_at hI2
          refine wp.go [17, 38] 40 fun W C hW hC => ?_
          refine ⟨_, _, _, hI3, rfl, by omega, gt_at c (by omega) (by omega), ?_⟩
          rw [hm]
          refine ⟨_, _, _, hR2, by decide, by omega, by rw [Int.toNat_natCast]; exact g1, ?_⟩
          refine ⟨_, _, _, hR2, by decide, by omega, by rw [Int.toNat_natCast]; exact g3, ?_⟩
          refine hC _ _ _ (useE (wpd.up (by omega) (like_spec (d := 0) g2 g4)) ?_)
          rw [show eqO (some (TT G 16 m)) (some (TT G 16 c)) = eqT (TT G 16 m) (TT G 16 c) from rfl, l3 m (by omega)]
          refine ⟨fun q => absurd rfl q, fun _ => ?_⟩
          refine ⟨_, _, _, hI3, rfl, by omega, gt_at c (by omega) (by omega), ?_⟩
          rw [hm]
          refine ⟨_, hI3, by omega, by omega, ?_⟩
          rw [setI_setI, Int.toNat_natCast, iadd_eq (by omega)]
          refine hW _ (ihi (m + 1) _ (by omega) (by rw [List.length_set]; exact hL') (fun e hel => ?_) ?_)
          · rw [gt_set (by omega), if_neg (by omega)]; exact hlk' e hel
          · rw [gt_set (by omega), if_pos rfl]; rfl
      refine ⟨_, hI2, by omega, by omega, ?_⟩
      rw [Int.toNat_natCast]
      refine hW _ (inner (lkC G c) 0 _ (by omega) (by rw [List.length_set]; exact hL) (fun e hel => ?_) ?_)
      · rw [gt_set (by omega), if_neg (by omega)]; exact hlk e hel
      · rw [gt_set (by omega), if_pos rfl]; rfl
  have k2 := hS.2.1
  have e1 : ext 1 G.1 h (h.newR 1 (List.replicate G.1 none)) := by
    have := ext_newR (h := h) (t := 1) (x := List.replicate G.1 none)
    rw [List.length_replicate] at this
    exact this
  have S1 := hS.mono e1
  obtain ⟨H1, hH1⟩ : ∃ H1, H1 = h.newR 1 (List.replicate G.1 none) := ⟨_, rfl⟩
  rw [← hH1] at e1 S1
  have e2 : ext 1 G.1 H1 (H1.newI 1 (List.replicate G.1 0)) := by
    have := ext_newI (h := H1) (t := 1) (x := List.replicate G.1 0)
    rw [List.length_replicate] at this
    exact this
  have z1 : H1.sz = h.sz + 1 := by rw [hH1]; rfl
  refine wp.go [17] 30 fun W C hW hC => ?_
  refine ⟨_, _, _, _, k2, rfl, rfl, ?_⟩
  refine ⟨by omega, by omega, ?_⟩
  rw [Int.toNat_natCast, ← hH1]
  refine ⟨_, _, _, _, S1.2.1, rfl, rfl, ?_⟩
  refine ⟨by omega, by omega, ?_⟩
  rw [Int.toNat_natCast, z1]
  refine hW _ (outer G.1 0 _ [] (List.replicate G.1 0) (by omega) ((e1.trans e2).more (by omega) (by omega)) (by show h.sz + 2 ≤ H1.sz + 1; omega) rfl (fun e he => by omega) ?_ (fun z hz => (nomatch hz)) ?_ (by rw [List.length_replicate]) (fun e he => by omega))
  · show H1.R h.sz = _
    rw [hH1]
    exact newR_at
  · rw [← z1]; exact newI_at
theorem cunlike_spec (hS : SkAt h s G) (hG : G.wf) (hd : ∀ a, deg G a ≤ 4) (hD : Far G D) : wp (d + 41) 241 (0, ent 4 [vR (some s)], [], h) (fun r h' => r = .inl (some (vI ((unlG G : Nat) : Int))) ∧ ext (2 + G.1 * (2 * G.1)) (2 * G.1 + G.1 * (10 * G.1)) h h') := by
  have hn := hG.2.1
  refine wp.go [9] 20 fun W C hW hC => ?_
  refine ⟨_, _, _, hS.2.1, rfl, ?_⟩
  refine hC _ _ _ (use (wpd.up (by omega) (like_arr (d := 0) hS hG hd hD)) ?_)
  rintro _ H ⟨rfl, e1, z1, L, y1, y2, y3⟩
  have hS' := hS.mono e1
  have loop : ∀ (j c : Nat), j + c = G.1 → wp (d + 41) 241 (9, [some (vR (some s)), some (vR (some (h.sz + 1))), some (vI ((cnt c (fun c => Nat.beq (lkC G c) c) : Nat) : Int)), some (vI ((c : Nat) : Int))], [], H) (fun r h' => r = .inl (some (vI ((unlG G : Nat) : Int))) ∧ ext (2 + G.1 * (2 * G.1)) (2 * G.1 + G.1 * (10 * G.1)) h h') := by
    intro j
    induction j with
    | zero =>
      intro c hj
      obtain rfl : c = G.1 := by omega
      refine wp.go [9] 20 fun W C hW hC => ?_
      refine ⟨_, _, _, _, hS'.2.1, rfl, rfl, ?_⟩
      refine ⟨fun _ => ?_, fun q => absurd q (by omega)⟩
      exact ⟨rfl, e1⟩
    | succ j ih =>
      intro c hj
      have hcl := cnt_le (fun c => Nat.beq (lkC G c) c) c
      have hcs : cnt (c + 1) (fun c => Nat.beq (lkC G c) c) = cnt c (fun c => Nat.beq (lkC G c) c) + b01 (Nat.beq (lkC G c) c) := rfl
      have fin : ∀ b : Bool, b = Nat.beq (lkC G c) c → wp (d + 41) 241 (30, [some (vR (some s)), some (vR (some (h.sz + 1))), some (vI ((cnt c (fun c => Nat.beq (lkC G c) c) : Nat) : Int)), some (vI ((c : Nat) : Int))], [vI (z01 b), vI ((cnt c (fun c => Nat.beq (lkC G c) c) : Nat) : Int)], H) (fun r h' => r = .inl (some (vI ((unlG G : Nat) : Int))) ∧ ext (2 + G.1 * (2 * G.1)) (2 * G.1 + G.1 * (10 * G.1)) h h') := by
        intro b hb
        have := ih (c + 1) (by omega)
        rw [hcs, ← hb] at this
        refine wp.go [9] 20 fun W C hW hC => ?_
        refine hC _ _ _ (useE (wpd.up (by omega) (bit_spec (d := 0))) ?_)
        cases b with
        | true =>
          rw [show z01 true = 1 from rfl]
          (conv => whnf); simp (disch := omega) only [iadd_eq, isub_eq, imul_eq]
          exact hW _ this
        | false =>
          rw [show z01 false = 0 from rfl]
          (conv => whnf); simp (disch := omega) only [iadd_eq, isub_eq, imul_eq]
          rw [Int.add_zero]
          exact hW _ this
      refine wp.go [9, 30] 30 fun W C hW hC => ?_
      refine ⟨_, _, _, _, hS'.2.1, rfl, rfl, ?_⟩
      refine ⟨fun q => absurd q (by omega), fun _ => ?_⟩
      refine ⟨_, _, _, y1, rfl, by omega, gt_at c (by omega) (by omega), ?_⟩
      rw [y3 c (by omega)]
      refine ⟨fun q => ?_, fun q => ?_⟩
      · exact hW _ (fin false (beq_ff (by omega)).symm)
      · exact hW _ (fin true (beqN.mpr (by omega)).symm)
  exact hW _ (loop G.1 0 (by omega))
end CLIKE
