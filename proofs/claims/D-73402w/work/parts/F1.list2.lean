section ALIST2
variable {d : Nat} {h : AH} {a e k : Nat} {m : Int} {l : List Nat}
theorem al_remove {l1 l2 : List Nat} {x : Nat} (hA : AL h a e m (l1 ++ x :: l2) k) (hae : a ≠ e) (hl : (l1 ++ x :: l2).length ≤ 5000) (hk : ∀ y, y ∈ l2 → okE h y) : wp (d + 3) 106 (0, ent 4 [vR (some a), vI ((l1.length : Nat) : Int)], [], h) (fun r h' => r = .inl (some (vR (some x))) ∧ ∃ m' k', AL h' a e m' (l1 ++ l2) k' ∧ chg (fun v => v = a ∨ v = e) 0 0 h h' ∧ h'.sz = h.sz ∧ (h'.I e = h.I e ∧ h'.F e = h.F e) ∧ (h'.I a = h.I a ∧ h'.R a = h.R a)) := by
  obtain ⟨hF, hR⟩ := id hA
  have hR : h.R e = (6, (l1 ++ x :: l2).map some ++ List.replicate k none) := by
    rcases hR with q | ⟨q, -⟩
    · exact q
    · exact absurd q (by simp)
  have hlen : (l1 ++ x :: l2).length = l1.length + l2.length + 1 := by rw [List.length_append, List.length_cons]; omega
  obtain ⟨H, hH⟩ : ∃ H, H = h.setF a [vI (iadd m 1), vR (some e), vI (((l1 ++ x :: l2).length : Nat) : Int)] := ⟨_, rfl⟩
  have HF : H.F a = (10, [vI (iadd m 1), vR (some e), vI (((l1 ++ x :: l2).length : Nat) : Int)]) := by rw [hH]; exact setF_at hF
  have HR : H.R e = (6, (l1 ++ x :: l2).map some ++ List.replicate k none) := by rw [hH]; exact hR
  have hcg : chg (fun v => v = a ∨ v = e) 0 0 h H := by rw [hH]; exact chg.refl.setF (Or.inl (Or.inl rfl))
  have HFe : H.F e = h.F e := by rw [hH]; exact setF_ne (Ne.symm hae)
  have hokE : ∀ y, okE h y → okE H y := by
    intro y hy
    unfold okE at hy ⊢
    rw [hH]
    by_cases w : y = a
    · rw [w] at hy ⊢
      rw [setF_at hF, hF] at *
      exact hy
    · rw [setF_ne w]; exact hy
  have tail : ∀ (ys : List (Option Nat)), ys.length = l1.length + l2.length + 1 + k → ys.set (l1.length + l2.length) none = (l1 ++ l2).map some ++ List.replicate (k + 1) none → wp (d + 2) 107 (34, [some (vR (some a)), some (vR (some e)), some (vI ((l1.length : Nat) : Int)), some (vI ((l1.length + l2.length : Nat) : Int))], [], H.setR e ys) (fun r h' => r = .inl none ∧ ∃ m' k', AL h' a e m' (l1 ++ l2) k' ∧ chg (fun v => v = a ∨ v = e) 0 0 h h' ∧ h'.sz = h.sz ∧ (h'.I e = h.I e ∧ h'.F e = h.F e) ∧ (h'.I a = h.I a ∧ h'.R a = h.R a)) := by
    intro ys hy1 hy2
    have HRy : (H.setR e ys).R e = (6, ys) := setR_at HR
    refine wp.go [] 30 fun W C hW hC => ?_
    refine ⟨_, _, _, HF, rfl, (Nat.le_of_ble_eq_true rfl), ?_⟩
    refine ⟨_, _, HRy, by decide, by decide, by omega, by omega, fun b hb => (by cases hb), fun _ => rfl, ?_⟩
    rw [Int.toNat_natCast, hy2]
    refine ⟨rfl, iadd m 1, k + 1, ⟨?_, Or.inl ?_⟩, ?_, ?_, ⟨?_, ?_⟩, ⟨?_, ?_⟩⟩
    · show ((H.setR e ys).setF a _).F a = _
      refine (setF_at (h := H.setR e ys) HF).trans ?_
      rw [show (((l1 ++ l2).length : Nat) : Int) = ((l1.length + l2.length : Nat) : Int) by rw [List.length_append]]
      rfl
    · exact setR_at (h := (H.setR e ys).setF a _) HRy
    · exact ((hcg.setR (Or.inl (Or.inr rfl))).setF (Or.inl (Or.inl rfl))).setR (Or.inl (Or.inr rfl))
    · show H.sz = h.sz
      rw [hH]; rfl
    · show H.I e = _
      rw [hH]; rfl
    · show ((H.setR e ys).setF a _).F e = _
      rw [setF_ne (Ne.symm hae)]
      exact HFe
    · show H.I a = _
      rw [hH]; rfl
    · show (((H.setR e ys).setF a _).setR e _).R a = _
      rw [setR_ne hae]
      show (H.setR e ys).R a = _
      rw [setR_ne hae, hH]
      rfl
  have c : wp (d + 2) 107 (0, ent 4 [vR (some a), vR (some e), vI ((l1.length : Nat) : Int)], [], h) (fun r h' => r = .inl none ∧ ∃ m' k', AL h' a e m' (l1 ++ l2) k' ∧ chg (fun v => v = a ∨ v = e) 0 0 h h' ∧ h'.sz = h.sz ∧ (h'.I e = h.I e ∧ h'.F e = h.F e) ∧ (h'.I a = h.I a ∧ h'.R a = h.R a)) := by
    have hxs : (l1 ++ x :: l2).map some ++ List.replicate k none = l1.map some ++ some x :: (l2.map some ++ List.replicate k none) := by simp
    refine wp.go [34] 40 fun W C hW hC => ?_
    refine ⟨_, _, _, _, hF, rfl, rfl, ?_⟩
    refine ⟨_, _, _, hF, rfl, (Nat.le_of_ble_eq_true rfl), ?_⟩
    rw [show ([vI m, vR (some e), vI (((l1 ++ x :: l2).length : Nat) : Int)] : List AV).set 0 (vI (iadd m 1)) = [vI (iadd m 1), vR (some e), vI (((l1 ++ x :: l2).length : Nat) : Int)] from rfl, ← hH]
    refine ⟨_, _, _, _, HF, rfl, rfl, ?_⟩
    conv => whnf
    rw [isub_eq (by omega), show (((l1 ++ x :: l2).length : Nat) : Int) - 1 = ((l1.length + l2.length : Nat) : Int) by omega]
    refine ⟨fun q => ?_, fun q => ?_⟩
    · have h0 : l2.length = 0 := by omega
      have h0 : l2 = [] := List.length_eq_zero_iff.mp h0
      subst h0
      have := tail ((l1 ++ [x]).map some ++ List.replicate k none) (by simp; omega) (by
        rw [hxs]
        have := set_mid (L1 := l1.map some) (L2 := (List.replicate k none : List (Option Nat))) (w := some x) (v := none)
        rw [List.length_map] at this
        rw [show l1.length + ([] : List Nat).length = l1.length from rfl]
        simp only [List.map_nil, List.nil_append, List.append_nil]
        rw [this]
        rfl)
      rw [setR_self HR] at this
      exact hW _ this
    · conv => whnf
      rw [iadd_eq (by omega), isub_eq (by omega)]
      refine ⟨rfl, by omega, by omega, by omega, Or.inr ⟨_, _, _, _, HR, HR, by decide, rfl, ?_, ?_, ?_, ?_⟩⟩
      · rw [List.length_append, List.length_map, List.length_replicate]; omega
      · rw [List.length_append, List.length_map, List.length_replicate]; omega
      · intro z hz
        rw [hxs] at hz
        have hz := List.mem_of_mem_take hz
        rw [show (((l1.length : Nat) : Int) + 1).toNat = (l1.map some ++ [some x]).length by simp, show l1.map some ++ some x :: (l2.map some ++ List.replicate k none) = (l1.map some ++ [some x]) ++ (l2.map some ++ List.replicate k none) by simp, List.drop_left] at hz
        rcases List.mem_append.mp hz with hz | hz
        · obtain ⟨y, hy, rfl⟩ := List.mem_map.mp hz
          exact (hokE y (hk y hy)).isk
        · have := (List.mem_replicate.mp hz).2
          rw [this]
          intro b hb
          cases hb
      · refine hW _ (tail _ ?_ ?_)
        · rw [hxs]
          unfold cpy
          simp
          omega
        · rw [hxs]
          have n1 : (((l1.length : Nat) : Int) + 1).toNat = (l1.map (some : Nat → Option Nat) ++ [some x]).length := by simp
          have n2 : (((l1.length + l2.length : Nat) : Int) - ((l1.length : Nat) : Int)).toNat = (l2.map (some : Nat → Option Nat)).length := by rw [List.length_map]; omega
          unfold cpy
          rw [n1, n2, Int.toNat_natCast]
          rw [show l1.map some ++ some x :: (l2.map some ++ List.replicate k none) = (l1.map some ++ [some x]) ++ (l2.map some ++ List.replicate k none) by simp, List.drop_left, List.take_left]
          have t1 : ((l1.map some ++ [some x]) ++ (l2.map some ++ List.replicate k none)).take l1.length = l1.map some := by
            rw [show (l1.map some ++ [some x]) ++ (l2.map some ++ List.replicate k none) = l1.map some ++ (some x :: (l2.map some ++ List.replicate k none)) by simp]
            rw [show l1.length = (l1.map (some : Nat → Option Nat)).length by rw [List.length_map], List.take_left]
          rw [t1]
          obtain ⟨y, hy⟩ : ∃ y, ((l1.map some ++ [some x]) ++ (l2.map some ++ List.replicate k none)).drop (l1.length + (l2.map (some : Nat → Option Nat)).length) = y :: List.replicate k none := by
            obtain ⟨Y, z, hz⟩ : ∃ Y z, some x :: l2.map some = Y ++ [z] := snoc_ex _ (by simp)
            have hYl : Y.length = l2.length := by
              have := congrArg List.length hz
              simp at this
              omega
            refine ⟨z, ?_⟩
            rw [show (l1.map some ++ [some x]) ++ (l2.map some ++ List.replicate k none) = l1.map some ++ ((some x :: l2.map some) ++ List.replicate k none) by simp, hz, show l1.map some ++ ((Y ++ [z]) ++ List.replicate k none) = (l1.map some ++ Y) ++ (z :: List.replicate k none) by simp]
            rw [show l1.length + (l2.map (some : Nat → Option Nat)).length = (l1.map some ++ Y).length by simp [hYl], List.drop_left]
          rw [hy]
          have := set_mid (L1 := l1.map some ++ l2.map some) (L2 := (List.replicate k none : List (Option Nat))) (w := y) (v := none)
          rw [List.length_append, List.length_map, List.length_map, List.append_assoc] at this
          rw [this]
          simp [List.replicate_succ]
  have hgx : ((l1 ++ x :: l2).map some ++ List.replicate k none)[l1.length]? = some (some x) := by
    rw [show (l1 ++ x :: l2).map some ++ List.replicate k none = l1.map some ++ some x :: (l2.map some ++ List.replicate k none) by simp]
    have := get_mid (L1 := l1.map some) (w := some x) (L2 := l2.map some ++ List.replicate k none)
    rw [List.length_map] at this
    exact this
  refine wp.go [] 30 fun W C hW hC => ?_
  refine ⟨_, _, _, _, hF, rfl, rfl, ?_⟩
  refine hC _ _ _ (useE (wpd.up (by omega) (ckIdx_spec (d := 0) (i := ((l1.length : Nat) : Int)) (n := (((l1 ++ x :: l2).length : Nat) : Int)) (by omega) (by omega))) ?_)
  refine ⟨_, _, _, _, hF, rfl, rfl, ?_⟩
  refine ⟨_, _, _, hR, by decide, by omega, by rw [Int.toNat_natCast]; exact hgx, ?_⟩
  refine ⟨_, _, _, hF, rfl, ?_⟩
  refine hC _ _ _ (use (wpd.up (by omega) (c)) ?_)
  rintro _ h' ⟨rfl, q⟩
  exact ⟨rfl, q⟩
/-- an iterator before the c-th -/
def ItAt (h : AH) (t a c : Nat) (m : Int) : Prop := ∃ x, h.F t = (11, [vI ((c : Nat) : Int), vI x, vI m, vR (some a)])
theorem iter_spec (hA : AL h a e m l k) (ha : a < h.sz) : wp (d + 2) 114 (0, ent 1 [vR (some a)], [], h) (fun r h' => r = .inl (some (vR (some h.sz))) ∧ h' = h.newF 11 [vI 0, vI (-1), vI m, vR (some a)]) := by
  have hN := newF_at (h := h) (t := 11) (x := [vI 0, vI 0, vI 0, vR none])
  have hFa : (h.newF 11 [vI 0, vI 0, vI 0, vR none]).F a = (10, [vI m, vR (some e), vI ((l.length : Nat) : Int)]) := by rw [newF_ne (by omega)]; exact hA.1
  have hset : ∀ x y, (h.newF 11 x).setF h.sz y = h.newF 11 y → True := fun _ _ _ => trivial
  have c : wp (d + 1) 16 (0, ent 2 [vR (some h.sz), vR (some a)], [], h.newF 11 [vI 0, vI 0, vI 0, vR none]) (fun r h' => r = .inl none ∧ h' = (h.newF 11 [vI 0, vI 0, vI 0, vR none]).setF h.sz [vI 0, vI (-1), vI m, vR (some a)]) := by
    refine wp.go [] 30 fun W C hW hC => ?_
    refine ⟨_, _, _, hN, rfl, (Nat.le_of_ble_eq_true rfl), ?_⟩
    refine ⟨_, _, _, setF_at hN, rfl, (Nat.le_of_ble_eq_true rfl), ?_⟩
    rw [setF_setF]
    refine ⟨_, _, _, _, setF_at hN, rfl, rfl, ?_⟩
    refine ⟨_, _, _, _, (setF_ne (by omega)).trans hFa, rfl, rfl, ?_⟩
    refine ⟨_, _, _, setF_at hN, rfl, (Nat.le_of_ble_eq_true rfl), ?_⟩
    rw [setF_setF]
    exact ⟨rfl, rfl⟩
  refine wp.go [] 20 fun W C hW hC => ?_
  refine hC _ _ _ (useE (wpd.up (by omega) (c)) ?_)
  refine ⟨rfl, ?_⟩
  have e1 : va_up (h.newF 11 [vI 0, vI 0, vI 0, vR none]).F h.sz (((h.newF 11 [vI 0, vI 0, vI 0, vR none]).F h.sz).1, [vI 0, vI (-1), vI m, vR (some a)]) = (h.newF 11 [vI 0, vI (-1), vI m, vR (some a)]).F := by
    rw [hN]
    funext q
    show (if q = h.sz then _ else if q = h.sz then _ else h.F q) = if q = h.sz then _ else h.F q
    by_cases w : q = h.sz
    · rw [if_pos w, if_pos w]
    · rw [if_neg w, if_neg w, if_neg w]
  show (h.sz + 1, h.sl + 4, h.I, h.R, va_up (h.newF 11 [vI 0, vI 0, vI 0, vR none]).F h.sz (((h.newF 11 [vI 0, vI 0, vI 0, vR none]).F h.sz).1, [vI 0, vI (-1), vI m, vR (some a)]), h.S) = _
  rw [e1]
  rfl
theorem hasNext_spec {t c : Nat} (hT : ItAt h t a c m) (hA : AL h a e m l k) : wp (d + 1) 17 (0, ent 1 [vR (some t)], [], h) (gives h (z01 (!(Nat.beq c l.length)))) := by
  obtain ⟨x, hT⟩ := hT
  refine wp.go [] 20 fun W C hW hC => ?_
  refine ⟨_, _, _, _, hT, rfl, rfl, ?_⟩
  refine ⟨_, _, _, _, hT, rfl, rfl, ?_⟩
  refine ⟨_, _, _, _, hA.1, rfl, rfl, ?_⟩
  refine ⟨fun q => ?_, fun q => ?_⟩
  · have q : c = l.length := by omega
    rw [q, Nat.beq_refl]
    exact ⟨Or.inl rfl, rfl, rfl⟩
  · rw [nbeq.mpr (show c ≠ l.length by omega)]
    exact ⟨Or.inr rfl, rfl, rfl⟩
theorem next_spec {t c x : Nat} (hT : ItAt h t a c m) (hA : AL h a e m l k) (hta : t ≠ a) (hx : l[c]? = some x) (hl : l.length ≤ 5000) : wp (d + 2) 18 (0, ent 3 [vR (some t)], [], h) (fun r h' => r = .inl (some (vR (some x))) ∧ h' = h.setF t [vI ((c + 1 : Nat) : Int), vI ((c : Nat) : Int), vI m, vR (some a)]) := by
  obtain ⟨y, hT⟩ := hT
  have hcl := (List.getElem?_eq_some_iff.mp hx).1
  obtain ⟨u, rs, r1, r2, r3⟩ := hA.len
  obtain ⟨u', rs', s1, s2, s3⟩ := hA.at hx
  have ck : wp (d + 1) 19 (0, ent 1 [vR (some t)], [], h) (fun r h' => r = .inl none ∧ h' = h) := by
    refine wp.go [] 20 fun W C hW hC => ?_
    refine ⟨_, _, _, _, hT, rfl, rfl, ?_⟩
    refine ⟨_, _, _, _, hA.1, rfl, rfl, ?_⟩
    refine ⟨_, _, _, _, hT, rfl, rfl, ?_⟩
    exact ⟨fun _ => ⟨rfl, rfl⟩, fun q => absurd rfl q⟩
  refine wp.go [] 50 fun W C hW hC => ?_
  refine ⟨_, _, _, hT, rfl, ?_⟩
  refine hC _ _ _ (useE (wpd.up (by omega) (ck)) ?_)
  refine ⟨_, _, _, _, hT, rfl, rfl, ?_⟩
  refine ⟨_, _, _, _, hT, rfl, rfl, ?_⟩
  refine ⟨_, _, _, _, hA.1, rfl, rfl, ?_⟩
  refine ⟨fun _ => ?_, fun q => absurd q (by omega)⟩
  refine ⟨_, _, _, _, hT, rfl, rfl, ?_⟩
  refine ⟨_, _, _, _, hA.1, rfl, rfl, ?_⟩
  refine ⟨_, Or.inr ⟨_, _, r1, r2, rfl⟩, ?_⟩
  refine ⟨fun _ => ?_, fun q => absurd q (by omega)⟩
  refine ⟨_, _, _, hT, rfl, (Nat.le_of_ble_eq_true rfl), ?_⟩
  rw [iadd_eq (by omega)]
  refine ⟨_, _, _, setF_at hT, rfl, (Nat.le_of_ble_eq_true rfl), ?_⟩
  rw [setF_setF]
  refine ⟨_, _, _, s1, s2, by omega, by rw [Int.toNat_natCast]; exact s3, ?_⟩
  exact ⟨rfl, rfl⟩
end ALIST2
