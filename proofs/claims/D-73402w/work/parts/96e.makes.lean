/-! THE TWIN MAKES a skeleton of a code -/
def parD (L : List Nat) (x : Nat) : Nat → Option Nat
  | 0 => none
  | t + 1 => if L[t]?.getD 0 + 1 = x then some t else parD L x t
def parC (L : List Nat) (c : Nat) : Option Nat := parD L (L[c]?.getD 0) c
/-- the skeleton of the first c + 1 depths of a code -/
def gC (L : List Nat) : Nat → Gr
  | 0 => (1, fun _ _ => false)
  | c + 1 => gGrow (gC L c) ((parC L (c + 1)).getD 0)
def okC (L : List Nat) : Prop := ∀ c, 1 ≤ c → c < L.length → (parC L c).isSome = true
theorem parD_lt {L : List Nat} {x : Nat} : ∀ {t r : Nat}, parD L x t = some r → r < t
  | 0, _, h => by cases h
  | t + 1, r, h => by
    unfold parD at h
    split at h
    · cases h; omega
    · have := parD_lt h; omega
theorem gC_n (L : List Nat) : ∀ c, (gC L c).1 = c + 1
  | 0 => rfl
  | c + 1 => by show (gC L c).1 + 1 = _; rw [gC_n L c]
theorem gC_wf {L : List Nat} (hL : okC L) : ∀ c, c < L.length → c < 16 → (gC L c).wf
  | 0, _, _ => ⟨Nat.le_refl _, (show (1 : Nat) ≤ 16 by decide), fun a b h => by cases h⟩
  | c + 1, h, h16 => by
    have hw := gC_wf hL c (by omega) (by omega)
    refine grow_wf hw ?_ (by rw [gC_n]; omega)
    obtain ⟨r, hr⟩ := Option.isSome_iff_exists.mp (hL (c + 1) (by omega) h)
    have := parD_lt (L := L) hr
    rw [hr, gC_n]; exact this
def rowsOf (X : List Int) (G : Gr) : Prop := ∀ i, i < G.1 → gt X (1 + i) = ((row G i : Nat) : Int)
section MAKES
variable {d : Nat} {h0 : AH} {M : Nat} {A : Nat → List Int} {sc : Nat → Int}
theorem mk_find (hA : lens A) {f n c : Nat} {L : List Nat} (hn : n ≤ 16) (hf : f + n ≤ 3200) (hL : L.length = n) (hLa : codAt (A 31) f L) (hLb : ∀ x, x ∈ L → x < 100) (hc : c < n) {Q : Rs → AH → Prop}
    (hQ : ∀ t : Int, t = (match parC L c with | some r => ((r : Nat) : Int) | none => -1) → wp (d + 1) 307 (61, [some (vR (some M)), some (vI ((f : Nat) : Int)), some (vI ((n : Nat) : Int)), some (vI ((c : Nat) : Int)), some (vI t)], [], tw h0 M A sc) Q) :
    ∀ (t : Nat), t ≤ c → parD L (L[c]?.getD 0) t = parC L c → wp (d + 1) 307 (28, [some (vR (some M)), some (vI ((f : Nat) : Int)), some (vI ((n : Nat) : Int)), some (vI ((c : Nat) : Int)), some (vI ((t : Int) - 1))], [], tw h0 M A sc) Q := by
  have gcx := hLa c _ (List.getElem?_eq_getElem (show c < L.length by omega))
  have bc := hLb _ (List.getElem_mem (show c < L.length by omega))
  intro t
  induction t with
  | zero =>
    intro _ hp
    have k := hQ (-1) (by rw [← hp]; rfl)
    refine wp.go [28, 61] 20 fun W C hW hC => ?_
    exact ⟨fun _ => hW _ k, fun c => absurd c (by decide)⟩
  | succ t ih =>
    intro ht hp
    have gtx := hLa t _ (List.getElem?_eq_getElem (show t < L.length by omega))
    have bt := hLb _ (List.getElem_mem (show t < L.length by omega))
    have e0 : ((t + 1 : Nat) : Int) - 1 = ((t : Nat) : Int) := by omega
    rw [e0]
    have hst : parD L (L[c]?.getD 0) (t + 1) = if L[t]?.getD 0 + 1 = L[c]?.getD 0 then some t else parD L (L[c]?.getD 0) t := rfl
    have v1 : L[t]?.getD 0 = L[t] := by rw [List.getElem?_eq_getElem (show t < L.length by omega)]; rfl
    have v2 : L[c]?.getD 0 = L[c] := by rw [List.getElem?_eq_getElem (show c < L.length by omega)]; rfl
    refine wp.go [28, 61] 60 fun W C hW hC => ?_
    refine ⟨fun c => absurd c (by omega), fun _ => ?_⟩
    refine ⟨_, _, _, _, twF, rfl, rfl, ?_⟩
    (conv => whnf); simp (disch := omega) only [iadd_eq, isub_eq, imul_eq]
    refine ⟨_, _, _, twI rfl rfl, rfl, (by omega), gt_at (f + t) (by omega) (lenlt (j := 31) (hA) (show (f + t) < 3200 by omega)), ?_⟩
    rw [gtx]
    refine ⟨_, _, _, _, twF, rfl, rfl, ?_⟩
    (conv => whnf); simp (disch := omega) only [iadd_eq, isub_eq, imul_eq]
    refine ⟨_, _, _, twI rfl rfl, rfl, (by omega), gt_at (f + c) (by omega) (lenlt (j := 31) (hA) (show (f + c) < 3200 by omega)), ?_⟩
    rw [gcx]
    (conv => whnf); simp (disch := omega) only [iadd_eq, isub_eq, imul_eq]
    refine ⟨fun q => ?_, fun q => ?_⟩
    · refine hW _ (hQ _ ?_)
      rw [← hp, hst, if_pos (by rw [v1, v2]; omega)]
    · rw [hst, if_neg (by rw [v1, v2]; omega)] at hp
      have e1 : ((t : Nat) : Int) + -1 = ((t : Nat) : Int) - 1 := by omega
      have key := ih (by omega) hp
      rw [← e1] at key
      (conv => whnf); simp (disch := omega) only [iadd_eq, isub_eq, imul_eq]
      exact hW _ key
end MAKES
