/-! THE TWIN's CODE: a stack of shapes -/
def outS2 (sb : List (Tr × Nat)) : List Nat := sb.reverse.flatMap fun p => preT p.1 p.2
def StkOk (X Y : List Int) (tab : List Tr) (sb : List (Tr × Nat)) : Prop := X.length = 64 ∧ Y.length = 64 ∧ ∀ i t k, sb[i]? = some (t, k) → atI X tab i (some t) ∧ gt Y i = ((k : Nat) : Int)
def isAt (Z : List Int) (P : List Nat) : Prop := ∀ i x, P[i]? = some x → gt Z i = ((x : Nat) : Int)
theorem outS2_snoc {sb : List (Tr × Nat)} {t : Tr} {k : Nat} : outS2 (sb ++ [(t, k)]) = preT t k ++ outS2 sb := by
  unfold outS2; rw [List.reverse_append]; simp
theorem outS2_app {sb : List (Tr × Nat)} {l : List Tr} {k : Nat} : outS2 (sb ++ (l.reverse.map fun v => (v, k))) = (l.flatMap fun v => preT v k) ++ outS2 sb := by
  unfold outS2
  rw [List.reverse_append, ← List.map_reverse, List.reverse_reverse, List.flatMap_append, List.flatMap_map]
theorem outS2_len : ∀ (sb : List (Tr × Nat)), sb.length ≤ (outS2 sb).length := by
  intro sb
  unfold outS2
  rw [← List.length_reverse (as := sb)]
  generalize sb.reverse = l
  induction l with
  | nil => simp
  | cons p l ih =>
    rw [List.flatMap_cons, List.length_append, preT_len, List.length_cons]
    have := sz_pos p.1
    omega
theorem drop_rev {l : List Tr} {r : Nat} (hr : r < l.length) : (l.drop r).reverse = (l.drop (r + 1)).reverse ++ [l[r]] := by
  rw [List.drop_eq_getElem_cons hr, List.reverse_cons]
theorem up_comm {α : Type} {f : Nat → α} {j k : Nat} (h : j ≠ k) {v w : α} : up (up f j v) k w = up (up f k w) j v := by
  funext i
  by_cases e1 : i = k
  · subst e1
    rw [up_eq, upn_ne _ _ (Ne.symm h), up_eq]
  · by_cases e2 : i = j
    · subst e2
      rw [upn_ne _ _ e1, up_eq, up_eq]
    · rw [upn_ne _ _ e1, upn_ne _ _ e2, upn_ne _ _ e2, upn_ne _ _ e1]
theorem snoc_ex {α : Type} (l : List α) (h : l ≠ []) : ∃ m a, l = m ++ [a] := ⟨l.dropLast, l.getLast h, (List.dropLast_concat_getLast h).symm⟩
section CODES
variable {d : Nat} {h0 : AH} {M : Nat} {A : Nat → List Int} {sc : Nat → Int} {tab : List Tr} {G : Gr} {D : Nat → Nat → Nat}
theorem codes_push (hA : lens A) (hT : TbT tab) (hK : TbK A tab) {t : Tr} {s dd n : Nat} (ht : gtT tab s = some t) (hdd : dd < 1000) {sb : List (Tr × Nat)} (hsb : sb.length + (kidsT t).length ≤ 64) {Q : Rs → AH → Prop}
    (hQ : ∀ X Y, StkOk X Y tab (sb ++ ((kidsT t).reverse.map fun v => (v, dd + 1))) → ∀ x5, wp (d + 6) 328 (30, [some (vR (some M)), some (vI (((sb ++ ((kidsT t).reverse.map fun v => (v, dd + 1))).length : Nat) : Int)), some (vI ((n : Nat) : Int)), some (vI ((s : Nat) : Int)), some (vI ((dd : Nat) : Int)), some (vI x5)], [], tw h0 M (up (up A 27 X) 28 Y) sc) Q) :
    ∀ (r : Nat) (X Y : List Int), r ≤ (kidsT t).length → StkOk X Y tab (sb ++ (((kidsT t).drop r).reverse.map fun v => (v, dd + 1))) → wp (d + 6) 328 (73, [some (vR (some M)), some (vI (((sb.length + ((kidsT t).length - r) : Nat)) : Int)), some (vI ((n : Nat) : Int)), some (vI ((s : Nat) : Int)), some (vI ((dd : Nat) : Int)), some (vI ((r : Int) - 1))], [], tw h0 M (up (up A 27 X) 28 Y) sc) Q := by
  obtain ⟨s1, s2, s3⟩ := gtT_le ht
  have h63 := hT.2.2
  have hl4 := (hT.2.1 _ s3).2.2.1
  intro r
  induction r with
  | zero =>
    intro X Y hr h
    have k := hQ X Y h (-1)
    rw [List.length_append, List.length_map, List.length_reverse] at k
    refine wp.go [30, 73] 20 fun W C hW hC => ?_
    refine ⟨fun _ => hW _ k, fun c => absurd c (by decide)⟩
  | succ r ih =>
    intro X Y hr h
    have hX := h.1
    have hY := h.2.1
    have hA1 : lens (up (up A 27 X) 28 Y) := (hA.up (by rw [hX]; rfl)).up (by rw [hY]; rfl)
    obtain ⟨x, x1, x2, x3⟩ := (hK s t ht).2.2.2 r (by omega)
    have e0 : (((r + 1 : Nat) : Int) - 1) = ((r : Nat) : Int) := by omega
    rw [e0]
    have hidx : (sb ++ (((kidsT t).drop (r + 1)).reverse.map fun v => (v, dd + 1))).length = sb.length + ((kidsT t).length - (r + 1)) := by
      rw [List.length_append, List.length_map, List.length_reverse, List.length_drop]
    have e1 : ((sb.length + ((kidsT t).length - (r + 1)) : Nat) : Int) + 1 = ((sb.length + ((kidsT t).length - r) : Nat) : Int) := by omega
    refine wp.go [30, 73] 60 fun W C hW hC => ?_
    refine ⟨fun c => absurd c (by omega), fun _ => ?_⟩
    refine ⟨_, _, _, _, twF, rfl, rfl, ?_⟩
    refine ⟨_, _, _, _, twF, rfl, rfl, ?_⟩
    conv => whnf
    simp (disch := omega) only [iadd_eq, imul_eq]
    refine ⟨_, _, _, twI rfl rfl, rfl, (by omega), gt_at (4 * s + r) (by omega) (lenlt (j := 11) (hA1) (show (4 * s + r) < 256 by omega)), ?_⟩
    rw [upn_ne _ _ (by decide), upn_ne _ _ (by decide), x2]
    (refine ⟨_, twI rfl rfl, (by omega), (ilt (sb.length + ((kidsT t).length - (r + 1))) (by omega) (lenlt (j := 27) (hA1) (show (sb.length + ((kidsT t).length - (r + 1))) < 64 by omega))), ?_⟩; rw [twSetI rfl rfl]; try rw [Int.toNat_natCast])
    rw [up_comm (show (28 : Nat) ≠ 27 by decide), up_up, upn_ne _ _ (by decide), up_eq]
    have hA2 : lens (up (up A 27 (X.set (sb.length + ((kidsT t).length - (r + 1))) ((x : Nat) : Int))) 28 Y) := (hA.up (by rw [List.length_set, hX]; rfl)).up (by rw [hY]; rfl)
    refine ⟨_, _, _, _, twF, rfl, rfl, ?_⟩
    conv => whnf
    simp (disch := omega) only [iadd_eq, imul_eq]
    (refine ⟨_, twI rfl rfl, (by omega), (ilt (sb.length + ((kidsT t).length - (r + 1))) (by omega) (lenlt (j := 28) (hA2) (show (sb.length + ((kidsT t).length - (r + 1))) < 64 by omega))), ?_⟩; rw [twSetI rfl rfl]; try rw [Int.toNat_natCast])
    rw [up_up, up_eq]
    (conv => whnf); simp (disch := omega) only [iadd_eq, isub_eq, imul_eq]
    rw [e1]
    refine hW _ (ih _ _ (by omega) ⟨by rw [List.length_set]; exact hX, by rw [List.length_set]; exact hY, fun i v k hi => ?_⟩)
    rw [drop_rev (show r < (kidsT t).length by omega), List.map_append, ← List.append_assoc] at hi
    have hlt : i < sb.length + ((kidsT t).length - (r + 1)) + 1 := by
      have := (List.getElem?_eq_some_iff.mp hi).1
      rw [List.length_append, hidx] at this
      exact this
    by_cases ei : i = sb.length + ((kidsT t).length - (r + 1))
    · rw [List.getElem?_append_right (by omega), hidx, ei, Nat.sub_self] at hi
      cases hi
      subst ei
      refine ⟨⟨x, x1, by rw [gt_set (by omega), if_pos rfl], ?_⟩, by rw [gt_set (by omega), if_pos rfl]; rfl⟩
      rw [x3]; exact List.getElem?_eq_getElem (by omega)
    · rw [List.getElem?_append_left (by omega)] at hi
      obtain ⟨⟨y, y1, y2, y3⟩, y4⟩ := h.2.2 i v k hi
      exact ⟨⟨y, y1, by rw [gt_set (by omega), if_neg ei]; exact y2, y3⟩, by rw [gt_set (by omega), if_neg ei]; exact y4⟩
theorem codes_loop (hA : lens A) (hT : TbT tab) (hK : TbK A tab) {L : List Nat} (hL : L.length ≤ 16) (hLb : ∀ x, x ∈ L → x < 100) :
    ∀ (j : Nat) (P : List Nat) (sb : List (Tr × Nat)) (X Y Z : List Int) (x3 x4 x5 : Option AV), (outS2 sb).length = j → P ++ outS2 sb = L → StkOk X Y tab sb → Z.length = 16 → isAt Z P → wp (d + 6) 328 (30, [some (vR (some M)), some (vI ((sb.length : Nat) : Int)), some (vI ((P.length : Nat) : Int)), x3, x4, x5], [], tw h0 M (up (up (up A 26 Z) 27 X) 28 Y) sc) (fun r h' => r = .inl none ∧ ∃ X Y Z, X.length = 64 ∧ Y.length = 64 ∧ Z.length = 16 ∧ h' = tw h0 M (up (up (up A 26 Z) 27 X) 28 Y) sc ∧ isAt Z L) := by
  intro j
  induction j using Nat.strongRecOn with
  | _ j ih =>
    intro P sb X Y Z x3 x4 x5 hj hP hS hZ hZP
    have hX := hS.1
    have hY := hS.2.1
    have hA1 : lens (up (up (up A 26 Z) 27 X) 28 Y) := ((hA.up (by rw [hZ]; rfl)).up (by rw [hX]; rfl)).up (by rw [hY]; rfl)
    have hlen : P.length + (outS2 sb).length = L.length := by rw [← hP, List.length_append]
    have hsl := outS2_len sb
    by_cases hnil : sb = []
    · subst hnil
      refine wp.go [30] 20 fun W C hW hC => ?_
      refine ⟨fun _ => ⟨rfl, X, Y, Z, hX, hY, hZ, rfl, ?_⟩, fun c => absurd c (by decide)⟩
      rw [← hP]
      show isAt Z (P ++ [])
      rw [List.append_nil]; exact hZP
    · obtain ⟨sb, ⟨t, k⟩, rfl⟩ := snoc_ex sb hnil
      rw [outS2_snoc] at hP hj hlen
      rw [List.length_append, preT_len] at hj hlen
      have htp := sz_pos t
      have hlen2 : (sb ++ [(t, k)]).length = sb.length + 1 := by simp
      rw [hlen2] at hsl
      rw [outS2_snoc, List.length_append, preT_len] at hsl
      obtain ⟨⟨s, s1, s2, s3⟩, s4⟩ := hS.2.2 sb.length t k (by rw [List.getElem?_append_right (Nat.le_refl _), Nat.sub_self]; rfl)
      have h63 := hT.2.2
      have hk : k < 100 := hLb k (by rw [← hP, preT_eq]; simp)
      have e1 : (((sb ++ [(t, k)]).length : Nat) : Int) + -1 = ((sb.length : Nat) : Int) := by rw [hlen2]; omega
      obtain ⟨t1, t2, t3⟩ := gtT_le s3
      have hl4 := (hT.2.1 _ t3).2.2.1
      have hpre : preT t k = k :: (kidsT t).flatMap fun a => preT a (k + 1) := preT_eq t k
      refine wp.go [30, 73] 80 fun W C hW hC => ?_
      refine ⟨fun c => absurd c (by rw [hlen2]; omega), fun _ => ?_⟩
      refine ⟨_, _, _, _, twF, rfl, rfl, ?_⟩
      (conv => whnf); simp (disch := omega) only [iadd_eq, isub_eq, imul_eq]
      rw [e1]
      refine ⟨_, _, _, twI rfl rfl, rfl, (by omega), gt_at (sb.length) (by omega) (lenlt (j := 27) (hA1) (show (sb.length) < 64 by omega)), ?_⟩
      rw [upn_ne _ _ (by decide), up_eq, s2]
      refine ⟨_, _, _, _, twF, rfl, rfl, ?_⟩
      refine ⟨_, _, _, twI rfl rfl, rfl, (by omega), gt_at (sb.length) (by omega) (lenlt (j := 28) (hA1) (show (sb.length) < 64 by omega)), ?_⟩
      rw [up_eq, s4]
      refine ⟨_, _, _, _, twF, rfl, rfl, ?_⟩
      (refine ⟨_, twI rfl rfl, (by omega), (ilt (P.length) (by omega) (lenlt (j := 26) (hA1) (show (P.length) < 16 by omega))), ?_⟩; rw [twSetI rfl rfl]; try rw [Int.toNat_natCast])
      rw [up_comm (show (28 : Nat) ≠ 26 by decide), up_comm (show (27 : Nat) ≠ 26 by decide), up_up, upn_ne _ _ (by decide), upn_ne _ _ (by decide), up_eq]
      have hZ2 : (Z.set P.length ((k : Nat) : Int)).length = 16 := by rw [List.length_set]; exact hZ
      have hA2 : lens (up (up (up A 26 (Z.set P.length ((k : Nat) : Int))) 27 X) 28 Y) := ((hA.up (by rw [hZ2]; rfl)).up (by rw [hX]; rfl)).up (by rw [hY]; rfl)
      refine ⟨_, _, _, _, twF, rfl, rfl, ?_⟩
      (conv => whnf); simp (disch := omega) only [iadd_eq, isub_eq, imul_eq]
      refine ⟨_, _, _, twI rfl rfl, rfl, (by omega), gt_at (s) (by omega) (lenlt (j := 12) (hA2) (show (s) < 64 by omega)), ?_⟩
      rw [upn_ne _ _ (by decide), upn_ne _ _ (by decide), upn_ne _ _ (by decide), (hK s t s3).2.1]
      (conv => whnf); simp (disch := omega) only [iadd_eq, isub_eq, imul_eq]
      have hA3 : lens (up A 26 (Z.set P.length ((k : Nat) : Int))) := hA.up (by rw [hZ2]; rfl)
      have hK3 : TbK (up A 26 (Z.set P.length ((k : Nat) : Int))) tab := hK
      have key := codes_push (d := d) (h0 := h0) (M := M) (sc := sc) (n := P.length + 1) hA3 hT hK3 s3 (show k < 1000 by omega) (sb := sb) (by omega) (Q := (fun r h' => r = .inl none ∧ ∃ X Y Z, X.length = 64 ∧ Y.length = 64 ∧ Z.length = 16 ∧ h' = tw h0 M (up (up (up A 26 Z) 27 X) 28 Y) sc ∧ isAt Z L)) (fun X2 Y2 hS2 x5 => ?_) (kidsT t).length X Y (Nat.le_refl _) ?_
      · rw [Nat.sub_self, Nat.add_zero] at key
        exact hW _ key
      · have e3 : outS2 (sb ++ ((kidsT t).reverse.map fun v => (v, k + 1))) = ((kidsT t).flatMap fun v => preT v (k + 1)) ++ outS2 sb := outS2_app
        have e4 : (P ++ [k]).length = P.length + 1 := by simp
        have hl5 : (preT t k).length = szT t := preT_len t k
        rw [hpre, List.length_cons] at hl5
        have := ih (((kidsT t).flatMap fun v => preT v (k + 1)).length + (outS2 sb).length) (by omega) (P ++ [k]) _ X2 Y2 _ (some (vI ((s : Nat) : Int))) (some (vI ((k : Nat) : Int))) (some (vI x5)) (by rw [e3, List.length_append]) (by rw [e3, ← hP, hpre]; simp) hS2 hZ2 (fun i x hi => ?_)
        · rw [e4] at this
          exact this
        · by_cases ei : i < P.length
          · rw [List.getElem?_append_left ei] at hi
            rw [gt_set (by omega), if_neg (by omega)]
            exact hZP i x hi
          · rw [List.getElem?_append_right (by omega)] at hi
            have : i = P.length := by
              have := (List.getElem?_eq_some_iff.mp hi).1
              simp at this; omega
            subst this
            rw [Nat.sub_self] at hi
            cases hi
            rw [gt_set (by omega), if_pos rfl]
      · rw [List.drop_length]
        show StkOk X Y tab (sb ++ [])
        rw [List.append_nil]
        exact ⟨hX, hY, fun i v q hi => hS.2.2 i v q (by rw [List.getElem?_append_left (List.getElem?_eq_some_iff.mp hi).1]; exact hi)⟩
theorem preT_bd : ∀ (t : Tr) (k : Nat), ∀ x, x ∈ preT t k → x < k + tallT t := by
  intro t
  induction h : szT t using Nat.strongRecOn generalizing t with
  | _ n ih =>
    intro k x hx
    rw [preT_eq, List.mem_cons, List.mem_flatMap] at hx
    rcases hx with rfl | ⟨a, ha, hx⟩
    · have := tall_pos t; omega
    · have := ih (szT a) (by rw [← h]; exact sz_kid t a ha) a rfl (k + 1) x hx
      have := tall_kid t a ha
      omega
/-- the code of the skeleton -/
def codG (G : Gr) (D : Nat → Nat → Nat) : List Nat := preT (TT G 16 (fstC G D)) 0
theorem codG_len (hG : G.wf) (hD : Far G D) : (codG G D).length = G.1 := by
  unfold codG; rw [preT_len, TT_root hG hD (fstC_lt hG hD)]
/-- Model.codes -/
theorem codes_spec (hG : G.wf) (hD : Far G D) (hS : Seen A sc tab G D) : wp (d + 6) 328 (0, ent 6 [vR (some M)], [], tw h0 M A sc) (fun r h' => r = .inl none ∧ ∃ X Y Z, X.length = 64 ∧ Y.length = 64 ∧ Z.length = 16 ∧ h' = tw h0 M (up (up (up A 26 Z) 27 X) 28 Y) sc ∧ isAt Z (codG G D)) := by
  have hn := hG.2.1
  obtain ⟨⟨hA, hT, hK, hV, hH, -⟩, hr, hb, hat, hrt⟩ := id hS
  have hf := fstC_lt hG hD
  obtain ⟨i, i1, i2, i3⟩ := hrt _ hf
  have hl26 : (A 26).length = 16 := by rw [hA.eq 26]; rfl
  have hl27 : (A 27).length = 64 := by rw [hA.eq 27]; rfl
  have hl28 : (A 28).length = 64 := by rw [hA.eq 28]; rfl
  have hcl := codG_len hG hD
  refine wp.go [30] 60 fun W C hW hC => ?_
  refine ⟨_, _, _, _, twF, rfl, rfl, ?_⟩
  refine ⟨_, _, _, _, twF, rfl, rfl, ?_⟩
  refine ⟨_, _, _, twF, rfl, ?_⟩
  refine hC _ _ _ (use (first_spec (d := d) hG hD hS) ?_); rintro _ _ ⟨rfl, rfl⟩
  conv => whnf
  simp (disch := omega) only [iadd_eq]
  refine ⟨_, _, _, twI rfl rfl, rfl, (by omega), gt_at (256 + fstC G D) (by omega) (lenlt (j := 19) (hA) (show (256 + fstC G D) < 272 by omega)), ?_⟩
  rw [i2]
  (refine ⟨_, twI rfl rfl, (by omega), (ilt (0) (by omega) (lenlt (j := 27) (hA) (show (0) < 64 by omega))), ?_⟩; rw [twSetI rfl rfl]; try rw [Int.toNat_natCast])
  have hX : ((A 27).set 0 ((i : Nat) : Int)).length = 64 := by rw [List.length_set]; exact hl27
  have hA1 : lens (up A 27 ((A 27).set 0 ((i : Nat) : Int))) := hA.up (by rw [hX]; rfl)
  refine ⟨_, _, _, _, twF, rfl, rfl, ?_⟩
  (refine ⟨_, twI rfl rfl, (by omega), (ilt (0) (by omega) (lenlt (j := 28) (hA1) (show (0) < 64 by omega))), ?_⟩; rw [twSetI rfl rfl]; try rw [Int.toNat_natCast])
  rw [upn_ne _ _ (show (28 : Nat) ≠ 27 by decide)]
  have key := codes_loop (d := d) (h0 := h0) (M := M) (sc := sc) (L := codG G D) hA hT hK (by omega) (fun x hx => by
    have h1 := preT_bd _ _ x hx
    have h2 := tall_le_sz (TT G 16 (fstC G D))
    rw [TT_root hG hD hf] at h2
    omega) (codG G D).length [] [(TT G 16 (fstC G D), 0)] ((A 27).set 0 ((i : Nat) : Int)) ((A 28).set 0 0) (A 26) none none none (by unfold outS2 codG; simp) (by unfold outS2 codG; simp) ⟨hX, by rw [List.length_set]; exact hl28, fun m t k hm => ?_⟩ hl26 (fun m x hm => by cases hm)
  · rw [upn_self] at key
    exact hW _ key
  · have : m = 0 := by
      have := (List.getElem?_eq_some_iff.mp hm).1
      simp at this; exact this
    subst this
    cases hm
    exact ⟨⟨i, i1, by rw [gt_set (by omega), if_pos rfl], i3⟩, by rw [gt_set (by omega), if_pos rfl]; rfl⟩
end CODES
