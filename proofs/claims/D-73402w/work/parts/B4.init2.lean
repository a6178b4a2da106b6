section BINIT2
variable {d : Nat} {h : AH} {x p : Nat}
theorem ways24 {l : List Tr} (h4 : l.length ≤ 4) (hs : sumS l ≤ 15) (ho : ∀ v, v ∈ l → okT0 v) (hl : ∀ v, v ∈ l → waysT v ≤ 6 ^ szT v) : waysT (mkT l) ≤ 11284439629824 ∧ ∀ v, v ∈ l → waysT v ≤ 11284439629824 := by
  have h1 := prodW_le l hl
  have h2 := (symD_le l h4).1
  have h3 : 6 ^ sumS l ≤ 6 ^ 15 := Nat.pow_le_pow_right (by decide) hs
  refine ⟨?_, fun v hv => ?_⟩
  · rw [ways_mk h4 ho, Nat.mul_comm, ← big24]
    exact Nat.mul_le_mul h2 (Nat.le_trans h1 h3)
  · have hv2 : szT v ≤ 15 := by
      have : szT v ≤ sumS l := by
        unfold sumS
        have : ∀ (l : List Tr), v ∈ l → szT v ≤ (l.map szT).sum := by
          intro l
          induction l with
          | nil => intro h; cases h
          | cons a r ih =>
            intro h
            rw [List.map_cons, List.sum_cons]
            rcases List.mem_cons.mp h with rfl | h
            · omega
            · have := ih h; omega
        exact this l hv
      omega
    refine Nat.le_trans (hl v hv) (Nat.le_trans (Nat.pow_le_pow_right (by decide) hv2) ?_)
    rw [← big24]
    exact Nat.le_mul_of_pos_left _ (by decide)
theorem brInit_spec {zs : Zs} (hV : ∀ z, z ∈ zs → ∀ ar fs, BrAt ((h.setR p ar).setF x fs) z.1 z.2) (hpx : p < h.sz) (hxx : x < h.sz)
    (HF : h.F x = (7, [vR none, vI 0, vI 0, vL 0, vL 0, vL 0])) (HR : h.R p = (1, refZ zs)) (hzs : ∀ z, z ∈ zs → okT0 z.2 ∧ szT z.2 ≤ 16) (hl : zs.length ≤ 4) (hsum : sumS (treZ zs) ≤ 15) (hw : ∀ z, z ∈ zs → waysT z.2 ≤ 6 ^ szT z.2) :
    wp (d + 20) 413 (0, ent 7 [vR (some x), vR (some p)], [], h) (fun r h' => r = .inl none ∧ ∃ Z, treZ Z = srtT (treZ zs) ∧ (∀ z, z ∈ Z → z ∈ zs) ∧ h' = (h.setR p (refZ Z)).setF x (brF p (mkT (treZ Z))) ∧ BrAt h' x (mkT (srtT (treZ zs)))) := by
  have hBF : (h.setF x (fsN p 0 0 0 0 0)).F x = (7, fsN p 0 0 0 0 0) := setF_at HF
  have hself : (h.setF x (fsN p 0 0 0 0 0)).setR p (refZ zs) = h.setF x (fsN p 0 0 0 0 0) := setR_self (t := 1) HR
  have tail : ∀ (Z : Zs) (k : Int) (x3 x4 : Option AV), treZ Z = srtT (treZ zs) → Z.length = zs.length → (∀ z, z ∈ Z → z ∈ zs) → wp (d + 20) 413 (69, [some (vR (some x)), some (vR (some p)), some (vI k), x3, x4, none, none], [], (h.setF x (fsN p 0 0 0 0 0)).setR p (refZ Z)) (fun r h' => r = .inl none ∧ ∃ Z, treZ Z = srtT (treZ zs) ∧ (∀ z, z ∈ Z → z ∈ zs) ∧ h' = (h.setR p (refZ Z)).setF x (brF p (mkT (treZ Z))) ∧ BrAt h' x (mkT (srtT (treZ zs)))) := by
    intro Z k x3 x4 hZt hZl hZs
    have hsumZ : sumS (treZ Z) ≤ 15 := by rw [hZt]; unfold sumS; rw [srt_sum]; exact hsum
    have HR2 : ((h.setF x (fsN p 0 0 0 0 0)).setR p (refZ Z)).R p = (1, refZ Z) := setR_at (x := refZ zs) HR
    have HF2 : ((h.setF x (fsN p 0 0 0 0 0)).setR p (refZ Z)).F x = (7, fsN p 0 0 0 0 0) := hBF
    have oat : ∀ fs' z, z ∈ Z → OAt (((h.setF x (fsN p 0 0 0 0 0)).setR p (refZ Z)).setF x fs') (some z.1) (some z.2) := fun fs' z hz => ⟨by rw [setF_setR, setF_setF]; exact hV z (hZs z hz) _ _, hzs z (hZs z hz)⟩
    have oat0 : ∀ z, z ∈ Z → OAt ((h.setF x (fsN p 0 0 0 0 0)).setR p (refZ Z)) (some z.1) (some z.2) := fun z hz => ⟨hV z (hZs z hz) _ _, hzs z (hZs z hz)⟩
    obtain ⟨w1, w2⟩ := ways24 (l := treZ Z) (by rw [List.length_map]; omega) hsumZ (fun v hv => by obtain ⟨z, hz, rfl⟩ := List.mem_map.mp hv; exact (hzs z (hZs z hz)).1) (fun v hv => by obtain ⟨z, hz, rfl⟩ := List.mem_map.mp hv; exact hw z (hZs z hz))
    have key := total_go (d := d + 1) (H := (h.setF x (fsN p 0 0 0 0 0)).setR p (refZ Z)) (x := x) (p := p) (Z := Z) HR2 HF2 oat0 (by omega) hsumZ w1 (fun z hz => w2 _ (List.mem_map.mpr ⟨z, hz, rfl⟩)) (Q := fun r h' => r = .inl none ∧ ∃ Z, treZ Z = srtT (treZ zs) ∧ (∀ z, z ∈ Z → z ∈ zs) ∧ h' = (h.setR p (refZ Z)).setF x (brF p (mkT (treZ Z))) ∧ BrAt h' x (mkT (srtT (treZ zs)))) (fun k => ?_) Z.length 0 (by omega)
    · refine wp.go [79] 30 fun W C hW hC => ?_
      exact hW _ key
    · refine use (fields_go (d := d) (H := (h.setF x (fsN p 0 0 0 0 0)).setR p (refZ Z)) HR2 HF2 oat hsumZ) ?_
      rintro _ _ ⟨rfl, rfl⟩
      refine ⟨rfl, Z, hZt, hZs, ?_, ?_⟩
      · rw [setF_setR, setF_setF]
      · rw [← hZt]
        refine ⟨p, refZ Z, hxx, setF_at HF2, hpx, HR2, BrL_of (by rw [List.length_map, List.length_map]) fun k u hk => ?_⟩
        rw [List.getElem?_map] at hk
        cases e : Z[k]? with
        | none => rw [e] at hk; cases hk
        | some z =>
          rw [e] at hk
          cases hk
          exact ⟨z.1, by rw [List.getElem?_map, e]; rfl, (oat _ z (List.mem_of_getElem? e)).1⟩
  refine wp.go [11] 30 fun W C hW hC => ?_
  refine ⟨_, _, _, HF, rfl, (Nat.le_of_ble_eq_true rfl), ?_⟩
  cases ezs : zs with
  | nil =>
    have t0 := tail [] 1 none none (by rw [ezs]; rfl) (by rw [ezs]) (fun z hz => (nomatch hz))
    have h00 : (h.setF x (fsN p 0 0 0 0 0)).setR p (refZ []) = h.setF x (fsN p 0 0 0 0 0) := by rw [ezs] at hself; exact hself
    rw [h00] at t0
    subst ezs
    refine hW _ ?_
    refine wp.go [69] 30 fun W C hW hC => ?_
    refine ⟨_, Or.inr ⟨_, _, HR, by decide, rfl⟩, ?_⟩
    refine ⟨fun _ => ?_, fun c => absurd c (by simp)⟩
    exact hW _ t0
  | cons z r =>
    have hlz : zs.length = r.length + 1 := by rw [ezs]; rfl
    have key := sort_go (d := d + 2) (hB := h.setF x (fsN p 0 0 0 0 0)) (x := x) (p := p) (zs := zs) (V := fun z => z ∈ zs) (x5 := none) (x6 := none) (fun z hz ar => hV z hz ar _) (by show (h.R p).1 = 1; rw [HR]) (fun z hz => ⟨hz, hzs z hz⟩) (by omega) (fun Z k x3 x4 a b c => tail Z k x3 x4 a b c) r.length 1 [z] none none (by omega) (Nat.le_refl _) rfl (by rw [ezs]; rfl) (fun y hy => by rw [List.mem_singleton.mp hy, ezs]; exact List.mem_cons_self)
    have e : refZ [z] ++ refZ (zs.drop 1) = refZ zs := by rw [ezs]; rfl
    rw [e, hself] at key
    rw [← ezs]
    exact hW _ key
end BINIT2
