/-! THE TWIN's QUERIES -/
theorem TW.keep {A A' : Nat → List Int} {sc sc' : Nat → Int} {S : AS} {J K : List Nat} (h : TW A sc S) (hA : lens A') (hF : Fr J K A A' sc sc') (hJ : ([1, 2, 3, 4, 5, 29, 30, 31, 34, 35, 36].all fun j => !J.elem j) = true) (hK : ([0, 1, 7, 8].all fun k => !K.elem k) = true) : TW A' sc' S := by
  have hj : ∀ j, j ∈ [1, 2, 3, 4, 5, 29, 30, 31, 34, 35, 36] → A' j = A j := fun j hj => hF.1 j (by simpa using List.all_eq_true.mp hJ j hj)
  have hk : ∀ k, k ∈ [0, 1, 7, 8] → sc' k = sc k := fun k hk => hF.2 k (by simpa using List.all_eq_true.mp hK k hk)
  obtain ⟨h1, h2, h3, h4, h5, h6, h7⟩ := h
  refine ⟨hA, ?_, ?_, ?_, ?_, ?_, ?_⟩
  · rw [hj 1 (by decide)]; exact h2
  · rw [hj 2 (by decide), hk 0 (by decide)]; exact h3
  · rw [hj 3 (by decide), hj 4 (by decide)]; exact h4
  · rw [hj 5 (by decide), hk 1 (by decide)]; exact h5
  · rw [hj 29 (by decide), hj 30 (by decide), hj 31 (by decide), hk 7 (by decide)]; exact h6
  · rw [hj 34 (by decide), hj 35 (by decide), hj 36 (by decide), hk 8 (by decide)]; exact h7
def aCode (S : AS) (D : Nat → Nat → Nat) (i : Int) : Int := if 0 ≤ i ∧ i ≤ ((S.1.1 : Nat) : Int) - 1 then atN (codG S.1 D) i.toNat else -1
def aCentroid (S : AS) (D : Nat → Nat → Nat) (i : Int) : Int := if i < -1 then -1 else if i = -1 then (((cens S.1 D).length : Nat) : Int) else if atN (cens S.1 D) i.toNat = -1 then -2 else atN (cens S.1 D) i.toNat
def aAbout (S : AS) (D : Nat → Nat → Nat) (c w : Int) : Int := if ¬ isC S c ∨ ¬ (0 ≤ w ∧ w ≤ 4) then -1 else if w = 0 then ((lkC S.1 c.toNat : Nat) : Int) else if w = 1 then z01 (asyT (TT S.1 16 c.toNat)) else if w = 2 then ((farC S.1 D c.toNat : Nat) : Int) else if w = 3 then ((togC S.1 D c.toNat : Nat) : Int) else 4 - ((deg S.1 c.toNat : Nat) : Int)
def aNeighbour (S : AS) (c i : Int) : Int := if ¬ isC S c ∨ i < -1 then -1 else if i = -1 then ((deg S.1 c.toNat : Nat) : Int) else atN (nb S.1 c.toNat) i.toNat
def aApart (S : AS) (D : Nat → Nat → Nat) (c o : Int) : Int := if isC S c ∧ isC S o then ((D c.toNat o.toNat : Nat) : Int) else -1
abbrev isB (S : AS) (c o : Int) : Prop := isC S c ∧ isC S o ∧ S.1.2 c.toNat o.toNat = true
def aBranch (S : AS) (c o w : Int) : Int := if ¬ isB S c o ∨ ¬ (0 ≤ w ∧ w ≤ 3) then -1 else if w = 0 then ((szT (TT S.1 c.toNat o.toNat) : Nat) : Int) else if w = 1 then ((tallT (TT S.1 c.toNat o.toNat) : Nat) : Int) else if w = 2 then ((formsT (TT S.1 c.toNat o.toNat) : Nat) : Int) else ((ownT (TT S.1 c.toNat o.toNat) : Nat) : Int)
def aGreater (S : AS) (c o p : Int) : Int := if ¬ isB S c o ∨ ¬ isB S c p ∨ o = p then -2 else cmpT (TT S.1 c.toNat o.toNat) (TT S.1 c.toNat p.toNat)
section ASKS
variable {d : Nat} {h0 : AH} {M : Nat} {A : Nat → List Int} {sc : Nat → Int} {S : AS} {D : Nat → Nat → Nat}
abbrev JC : List Nat := [10, 11, 12, 13, 14, 15, 16, 17, 18, 19, 20, 21, 22, 23, 24, 25, 26, 27, 28]
theorem looks_tw (h : TW A sc S) (ho : S.ok) (hD : Far S.1 D) : wp (d + 11) 337 (0, ent 1 [vR (some M)], [], tw h0 M A sc) (fun r h' => r = .inl none ∧ ∃ A' sc' tab, h' = tw h0 M A' sc' ∧ SeenM A' sc' tab S.1 D ∧ TW A' sc' S) := by
  refine wpd.mono ?_ _ _ _ (looks_spec ho.1 hD h.1 h.2.1)
  rintro r h' ⟨rfl, A', sc', tab, rfl, hM, hF⟩
  exact ⟨rfl, A', sc', tab, rfl, hM, h.keep hM.1.1.1 hF rfl rfl⟩
theorem code_tw (h : TW A sc S) (ho : S.ok) (hD : Far S.1 D) {i : Int} : wp (d + 12) 339 (0, ent 2 [vR (some M), vI i], [], tw h0 M A sc) (twEnd h0 M (vI (aCode S D i)) S) := by
  have hn := ho.1.1.2.1
  have hp := ho.1.1.1
  have hA := h.1
  have hl := codG_len ho.1.1 hD
  unfold aCode
  refine wp.go [] 60 fun W C hW hC => ?_
  refine ⟨_, _, _, _, twF, rfl, rfl, ?_⟩
  refine ⟨_, _, _, twI rfl rfl, rfl, (by omega), gt_at (0) (by omega) (lenlt (j := 1) (hA) (show (0) < 17 by omega)), ?_⟩
  rw [h.2.1.1]
  conv => whnf
  rw [isub_eq (by omega)]
  refine hC _ _ _ (use (wpd.up (show d + 1 ≤ d + 11 by omega) (isIn_s (d := d) _ _ _ _)) ?_); rintro _ _ ⟨rfl, rfl⟩
  refine ⟨fun c => ?_, fun c => ?_⟩
  · have c1 := b1.mp c
    rw [if_pos c1]
    refine ⟨_, _, _, twF, rfl, ?_⟩
    refine hC _ _ _ (use (looks_tw h ho hD) ?_)
    rintro _ _ ⟨rfl, A', sc', tab, rfl, hM, hT⟩
    refine ⟨_, _, _, twF, rfl, ?_⟩
    refine hC _ _ _ (use (wpd.up (show d + 6 ≤ d + 11 by omega) (codes_spec (d := d) ho.1.1 hD hM.1)) ?_)
    rintro _ _ ⟨rfl, X, Y, Z, hX, hY, hZ, rfl, hZ2⟩
    have hA2 : lens (up (up (up A' 26 Z) 27 X) 28 Y) := ((hM.1.1.1.up (by rw [hZ]; rfl)).up (by rw [hX]; rfl)).up (by rw [hY]; rfl)
    obtain ⟨k, rfl⟩ : ∃ k : Nat, i = (k : Int) := ⟨i.toNat, by omega⟩
    refine ⟨_, _, _, _, twF, rfl, rfl, ?_⟩
    refine ⟨_, _, _, twI rfl rfl, rfl, (by omega), gt_at (k) (by omega) (lenlt (j := 26) (hA2) (show (k) < 16 by omega)), ?_⟩
    have hk : k < (codG S.1 D).length := by omega
    have := hZ2 k _ (List.getElem?_eq_getElem hk)
    refine ⟨?_, _, _, rfl, hT.keep (J := [26, 27, 28]) (K := []) hA2 (((Fr.upA rfl).trans (Fr.upA rfl)).trans (Fr.upA rfl)) rfl rfl⟩
    rw [upn_ne _ _ (by decide), upn_ne _ _ (by decide), up_eq, this]
    unfold atN
    rw [Int.toNat_natCast, List.getElem?_eq_getElem hk]
  · rw [if_neg (b0.mp c)]
    exact ⟨rfl, _, _, rfl, h⟩
theorem atN_none {l : List Nat} {k : Nat} (h : l.length ≤ k) : atN l k = -1 := by unfold atN; rw [List.getElem?_eq_none h]
theorem centroid_tw (h : TW A sc S) (ho : S.ok) (hD : Far S.1 D) {i : Int} (hi : i ≤ 2147483647) : wp (d + 12) 341 (0, ent 3 [vR (some M), vI i], [], tw h0 M A sc) (twEnd h0 M (vI (aCentroid S D i)) S) := by
  have hn := ho.1.1.2.1
  have hA := h.1
  unfold aCentroid
  refine wp.go [] 60 fun W C hW hC => ?_
  refine ⟨fun c => ?_, fun c => ?_⟩
  · rw [if_neg (by omega)]
    refine ⟨_, _, _, twF, rfl, ?_⟩
    refine hC _ _ _ (use (looks_tw h ho hD) ?_)
    rintro _ _ ⟨rfl, A', sc', tab, rfl, hM, hT⟩
    refine ⟨fun c => ?_, fun c => ?_⟩
    · rw [if_neg (by omega)]
      obtain ⟨k, rfl⟩ : ∃ k : Nat, i = (k : Int) := ⟨i.toNat, by omega⟩
      refine ⟨_, _, _, twF, rfl, ?_⟩
      refine hC _ _ _ (use (wpd.up (show d + 4 ≤ d + 11 by omega) (centroidAt_spec (d := d) (k := k) ho.1.1 hD hM.1 (by omega))) ?_); rintro _ _ ⟨rfl, rfl⟩
      refine ⟨fun c => ?_, fun c => ?_⟩
      · rw [if_neg (by rw [Int.toNat_natCast]; exact c)]
        exact ⟨rfl, _, _, rfl, hT⟩
      · rw [if_pos (by rw [Int.toNat_natCast]; exact c)]
        exact ⟨rfl, _, _, rfl, hT⟩
    · rw [if_pos (by omega)]
      refine ⟨_, _, _, twF, rfl, ?_⟩
      refine hC _ _ _ (use (wpd.up (show d + 4 ≤ d + 11 by omega) (centroidAt_spec (d := d) (k := 1) ho.1.1 hD hM.1 (by omega))) ?_); rintro _ _ ⟨rfl, rfl⟩
      rcases cens_cases ho.1.1 hD with ⟨c, e, h1, h2⟩ | ⟨a, b, e, h1, h2, h3, h4, h5⟩
      · rw [e]
        exact ⟨fun c => absurd rfl c, fun _ => ⟨rfl, _, _, rfl, hT⟩⟩
      · rw [e]
        exact ⟨fun _ => ⟨rfl, _, _, rfl, hT⟩, fun c => absurd c (by show ¬ ((b : Nat) : Int) = -1; omega)⟩
  · rw [if_pos (by omega)]
    exact ⟨rfl, _, _, rfl, h⟩
end ASKS
