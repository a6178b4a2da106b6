/-! CLOSED: what is listed -/
def rootB (T : Tr) : Bool := ((kidsT T).all fun x => Nat.ble (2 * szT x) (szT T)) && (match kidsT T with
  | [] => true
  | x :: r => !(Nat.beq (2 * szT x) (szT T)) || decide (0 ≤ cmpT (mkT r) x))
theorem rootB_ok {T : Tr} (h : rootB T = true) : rootOk T := by
  unfold rootB at h
  rw [Bool.and_eq_true, List.all_eq_true] at h
  refine ⟨fun x hx => Nat.le_of_ble_eq_true (h.1 x hx), fun x hx hs => ?_⟩
  cases e : kidsT T with
  | nil => rw [e] at hx; cases hx
  | cons y r =>
    have h2 := h.2
    rw [e] at hx h2
    cases hx
    dsimp only at h2
    rw [hs, Nat.beq_refl] at h2
    exact of_decide_eq_true h2
def srtB : List (List Nat) → Bool
  | [] => true
  | a :: r => (r.all fun b => decide (difC a b < 0) && decide (0 < difC b a)) && srtB r
def eqL : List Nat → List Nat → Bool
  | [], [] => true
  | a :: k, b :: l => Nat.beq a b && eqL k l
  | _, _ => false
theorem eqL_eq : ∀ {k l : List Nat}, eqL k l = true → k = l
  | [], [], _ => rfl
  | a :: k, b :: l, h => by
    unfold eqL at h
    rw [Bool.and_eq_true] at h
    rw [beqN.mp h.1, eqL_eq h.2]
  | [], _ :: _, h => by cases h
  | _ :: _, [], h => by cases h
/-- a code of n carbons: bound to earlier ones, four at most -/
def codB (n : Nat) (L : List Nat) : Bool := Nat.beq L.length n && (L.all fun x => Nat.blt x 100) && ((List.range (n - 1)).all fun c => match parC L (c + 1) with
  | none => false
  | some p => !(Nat.beq (deg (gC L c) p) 4))
def eqLL : List (List Nat) → List (List Nat) → Bool
  | [], [] => true
  | a :: k, b :: l => eqL a b && eqLL k l
  | _, _ => false
theorem eqLL_eq : ∀ {k l : List (List Nat)}, eqLL k l = true → k = l
  | [], [], _ => rfl
  | a :: k, b :: l, h => by
    unfold eqLL at h
    rw [Bool.and_eq_true] at h
    rw [eqL_eq h.1, eqLL_eq h.2]
  | [], _ :: _, h => by cases h
  | _ :: _, [], h => by cases h
def chkW (n : Nat) : Bool := eqLL ((wholeL n).map fun T => preT T 0) (perL n)
def chkP (n : Nat) : Bool := (perL n).all fun K => (codesL n).any fun L => eqL K L
def chk1 (n : Nat) (K : List Nat) (z : Nat × Nat × Nat) : Bool := match (codesL (n - 1))[z.1]? with
  | none => false
  | some L => Nat.blt z.2.1 (n - 1) && (Nat.blt z.2.2 n && (!(Nat.beq (deg (gC L (n - 2)) z.2.1) 4) && (let T := TT (gGrow (gC L (n - 2)) z.2.1) 16 z.2.2; eqL (preT T 0) K && rootB T)))
def chkC (n : Nat) : List (List Nat) → List (Nat × Nat × Nat) → Bool
  | [], _ => true
  | K :: r, z :: s => chk1 n K z && chkC n r s
  | _ :: _, [] => false
theorem clS1 : srtB (codesL 1) = true := by decide +kernel
theorem clB1 : (codesL 1).all (codB 1) = true := by decide +kernel
theorem clW1 : chkW 1 = true := by decide +kernel
theorem clP1 : chkP 1 = true := by decide +kernel
theorem clS2 : srtB (codesL 2) = true := by decide +kernel
theorem clB2 : (codesL 2).all (codB 2) = true := by decide +kernel
theorem clW2 : chkW 2 = true := by decide +kernel
theorem clP2 : chkP 2 = true := by decide +kernel
theorem clS3 : srtB (codesL 3) = true := by decide +kernel
theorem clB3 : (codesL 3).all (codB 3) = true := by decide +kernel
theorem clW3 : chkW 3 = true := by decide +kernel
theorem clP3 : chkP 3 = true := by decide +kernel
theorem clS4 : srtB (codesL 4) = true := by decide +kernel
theorem clB4 : (codesL 4).all (codB 4) = true := by decide +kernel
theorem clW4 : chkW 4 = true := by decide +kernel
theorem clP4 : chkP 4 = true := by decide +kernel
theorem clS5 : srtB (codesL 5) = true := by decide +kernel
theorem clB5 : (codesL 5).all (codB 5) = true := by decide +kernel
theorem clW5 : chkW 5 = true := by decide +kernel
theorem clP5 : chkP 5 = true := by decide +kernel
theorem clS6 : srtB (codesL 6) = true := by decide +kernel
theorem clB6 : (codesL 6).all (codB 6) = true := by decide +kernel
theorem clW6 : chkW 6 = true := by decide +kernel
theorem clP6 : chkP 6 = true := by decide +kernel
theorem clS7 : srtB (codesL 7) = true := by decide +kernel
theorem clB7 : (codesL 7).all (codB 7) = true := by decide +kernel
theorem clW7 : chkW 7 = true := by decide +kernel
theorem clP7 : chkP 7 = true := by decide +kernel
theorem clS8 : srtB (codesL 8) = true := by decide +kernel
theorem clB8 : (codesL 8).all (codB 8) = true := by decide +kernel
theorem clW8 : chkW 8 = true := by decide +kernel
theorem clP8 : chkP 8 = true := by decide +kernel
theorem clS9 : srtB (codesL 9) = true := by decide +kernel
theorem clB9 : (codesL 9).all (codB 9) = true := by decide +kernel
theorem clW9 : chkW 9 = true := by decide +kernel
theorem clP9 : chkP 9 = true := by decide +kernel
theorem clS10 : srtB (codesL 10) = true := by decide +kernel
theorem clB10 : (codesL 10).all (codB 10) = true := by decide +kernel
theorem clW10 : chkW 10 = true := by decide +kernel
theorem clP10 : chkP 10 = true := by decide +kernel
theorem clS11 : srtB (codesL 11) = true := by decide +kernel
theorem clB11 : (codesL 11).all (codB 11) = true := by decide +kernel
theorem clW11 : chkW 11 = true := by decide +kernel
theorem clP11 : chkP 11 = true := by decide +kernel
theorem clC2 : chkC 2 (codesL 2) (certL 2) = true := by decide +kernel
theorem clC3 : chkC 3 (codesL 3) (certL 3) = true := by decide +kernel
theorem clC4 : chkC 4 (codesL 4) (certL 4) = true := by decide +kernel
theorem clC5 : chkC 5 (codesL 5) (certL 5) = true := by decide +kernel
theorem clC6 : chkC 6 (codesL 6) (certL 6) = true := by decide +kernel
theorem clC7 : chkC 7 (codesL 7) (certL 7) = true := by decide +kernel
theorem clC8 : chkC 8 (codesL 8) (certL 8) = true := by decide +kernel
theorem clC9 : chkC 9 (codesL 9) (certL 9) = true := by decide +kernel
theorem clC10 : chkC 10 (codesL 10) (certL 10) = true := by decide +kernel
theorem clC11 : chkC 11 (codesL 11) (certL 11) = true := by decide +kernel
