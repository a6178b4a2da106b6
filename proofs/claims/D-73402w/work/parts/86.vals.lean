/-! WHAT A TREE COMES TO: forms, own ones, ways on itself, ways to mark it; a hydrogen is 'none' -/
def eqT (a b : Tr) : Bool := decide (cmpT a b = 0)
theorem eqT_iff {a b : Tr} (ha : okT0 a) (hb : okT0 b) : eqT a b = true ↔ a = b := by unfold eqT; rw [decide_eq_true_eq]; exact cmpT_eq ha hb
def eqO : Option Tr → Option Tr → Bool
  | none, none => true
  | some a, some b => eqT a b
  | _, _ => false
def okO : Option Tr → Prop
  | none => True
  | some t => okT0 t
theorem eqO_iff {a b : Option Tr} (ha : okO a) (hb : okO b) : eqO a b = true ↔ a = b := by
  cases a <;> cases b
  · simp [eqO]
  · simp [eqO]
  · simp [eqO]
  · simp only [eqO, Option.some.injEq]; exact eqT_iff ha hb
def f3 (la lb : Bool) (fa fb fc : Nat) : Nat := cond (la && lb) ((fa * fa * fa + 2 * fa) / 3) (cond (la || lb) (fa * fb * fc) (2 * (fa * fb * fc)))
def o3 (la lb : Bool) (fa fb oa oc : Nat) : Nat := cond la (fa * oc) (cond lb (fb * oa) 0)
def formsT : Tr → Nat
  | .var _ => 1
  | .op a (.var _) => f3 false true (formsT a) 1 1
  | .op a (.op b (.var _)) => f3 (eqT a b) false (formsT a) (formsT b) 1
  | .op a (.op b (.op c (.var _))) => f3 (eqT a b) (eqT b c) (formsT a) (formsT b) (formsT c)
  | .op _ (.op _ (.op _ (.op _ _))) => 0
def ownT : Tr → Nat
  | .var _ => 1
  | .op a (.var _) => o3 false true (formsT a) 1 (ownT a) 1
  | .op a (.op b (.var _)) => o3 (eqT a b) false (formsT a) (formsT b) (ownT a) 1
  | .op a (.op b (.op c (.var _))) => o3 (eqT a b) (eqT b c) (formsT a) (formsT b) (ownT a) (ownT c)
  | .op _ (.op _ (.op _ (.op _ _))) => 0
def fO : Option Tr → Nat
  | none => 1
  | some t => formsT t
def oO : Option Tr → Nat
  | none => 1
  | some t => ownT t
theorem formsT_eq : ∀ t : Tr, formsT t = if 3 < (kidsT t).length then 0 else f3 (eqO (kidsT t)[0]? (kidsT t)[1]?) (eqO (kidsT t)[1]? (kidsT t)[2]?) (fO (kidsT t)[0]?) (fO (kidsT t)[1]?) (fO (kidsT t)[2]?)
  | .var _ => by rw [formsT]; simp [kidsT, f3, eqO, fO]
  | .op a (.var _) => by rw [formsT]; rfl
  | .op a (.op b (.var _)) => by rw [formsT]; rfl
  | .op a (.op b (.op c (.var _))) => by rw [formsT]; rfl
  | .op _ (.op _ (.op _ (.op _ _))) => by rw [formsT, if_pos (by simp [kidsT])]
theorem ownT_eq : ∀ t : Tr, ownT t = if 3 < (kidsT t).length then 0 else o3 (eqO (kidsT t)[0]? (kidsT t)[1]?) (eqO (kidsT t)[1]? (kidsT t)[2]?) (fO (kidsT t)[0]?) (fO (kidsT t)[1]?) (oO (kidsT t)[0]?) (oO (kidsT t)[2]?)
  | .var _ => by rw [ownT]; rfl
  | .op a (.var _) => by rw [ownT]; rfl
  | .op a (.op b (.var _)) => by rw [ownT]; rfl
  | .op a (.op b (.op c (.var _))) => by rw [ownT]; rfl
  | .op _ (.op _ (.op _ (.op _ _))) => by rw [ownT, if_pos (by simp [kidsT])]
theorem f3_le {la lb : Bool} {fa fb fc A B C : Nat} (ha : fa ≤ A) (hb : fb ≤ B) (hc : fc ≤ C) (hl : (la && lb) = true → A = B ∧ B = C) : f3 la lb fa fb fc ≤ 2 * (A * B * C) := by
  unfold f3
  have h3 : fa * fb * fc ≤ A * B * C := Nat.mul_le_mul (Nat.mul_le_mul ha hb) hc
  cases e : la && lb with
  | true =>
    obtain ⟨h1, h2⟩ := hl e
    subst h2; subst h1
    have h4 : fa * fa * fa ≤ A * A * A := Nat.mul_le_mul (Nat.mul_le_mul ha ha) ha
    have h5 : fa ≤ fa * fa * fa := by
      cases fa with
      | zero => exact Nat.le_refl _
      | succ n => exact Nat.le_trans (Nat.le_mul_of_pos_left _ (Nat.succ_pos n)) (Nat.le_mul_of_pos_right _ (Nat.succ_pos n))
    simp only [cond_true]
    omega
  | false =>
    simp only [cond_false]
    cases la || lb
    · simp only [cond_false]; omega
    · simp only [cond_true]; omega
theorem o3_le {la lb : Bool} {fa fb oa oc A B C : Nat} (ha : fa ≤ A) (hb : fb ≤ B) (hoa : oa ≤ A) (hoc : oc ≤ C) (hA : 1 ≤ A) (hB : 1 ≤ B) (hC : 1 ≤ C) : o3 la lb fa fb oa oc ≤ 2 * (A * B * C) := by
  unfold o3
  have h1 : A * C ≤ A * B * C := Nat.mul_le_mul_right _ (Nat.le_mul_of_pos_right _ hB)
  have h2 : B * A ≤ A * B * C := by rw [Nat.mul_comm B A]; exact Nat.le_mul_of_pos_right _ hC
  cases la
  · cases lb
    · exact Nat.zero_le _
    · simp only [cond_false, cond_true]
      have := Nat.mul_le_mul hb hoa
      omega
  · simp only [cond_true]
    have := Nat.mul_le_mul ha hoc
    omega
theorem pw {a b : Nat} : 2 ^ (a + b) = 2 ^ a * 2 ^ b := Nat.pow_add 2 a b
theorem eqT_sz {a b : Tr} (h : eqT a b = true) : szT a = szT b := by
  have h : cmpT a b = 0 := of_decide_eq_true h
  unfold cmpT at h
  split at h
  · exact absurd h (by decide)
  · split at h
    · exact absurd h (by decide)
    · omega
theorem forms_le : ∀ t : Tr, formsT t ≤ 2 ^ (szT t)
  | .var _ => by rw [formsT]; exact Nat.le_of_ble_eq_true rfl
  | .op a (.var _) => by
    have ha := forms_le a
    rw [formsT]
    have := f3_le (la := false) (lb := true) ha (Nat.le_refl 1) (Nat.le_refl 1) (fun h => absurd h (by decide))
    simp only [szT, Nat.pow_succ]; omega
  | .op a (.op b (.var _)) => by
    have ha := forms_le a
    have hb := forms_le b
    rw [formsT]
    have := f3_le (la := eqT a b) (lb := false) ha hb (Nat.le_refl 1) (fun h => absurd h (by simp))
    simp only [szT, pw]
    rw [Nat.mul_one] at this
    have e : 2 ^ szT a * (2 ^ szT b * 2 ^ 1) = 2 * (2 ^ szT a * 2 ^ szT b) := by rw [Nat.pow_one, ← Nat.mul_assoc, Nat.mul_comm]
    omega
  | .op a (.op b (.op c (.var _))) => by
    have ha := forms_le a
    have hb := forms_le b
    have hc := forms_le c
    rw [formsT]
    have := f3_le (la := eqT a b) (lb := eqT b c) ha hb hc (fun h => by
      obtain ⟨h1, h2⟩ := Bool.and_eq_true_iff.mp h
      rw [eqT_sz h1, eqT_sz h2]; exact ⟨rfl, rfl⟩)
    simp only [szT, pw]
    have e : 2 ^ szT a * (2 ^ szT b * (2 ^ szT c * 2 ^ 1)) = 2 * (2 ^ szT a * 2 ^ szT b * 2 ^ szT c) := by rw [Nat.pow_one, ← Nat.mul_assoc, ← Nat.mul_assoc, Nat.mul_comm]
    omega
  | .op _ (.op _ (.op _ (.op _ _))) => by rw [formsT]; exact Nat.zero_le _
theorem own_le : ∀ t : Tr, ownT t ≤ 2 ^ (szT t)
  | .var _ => by rw [ownT]; exact Nat.le_of_ble_eq_true rfl
  | .op a (.var _) => by
    have ha := forms_le a
    have ka := own_le a
    have pa := Nat.two_pow_pos (szT a)
    rw [ownT]
    have := o3_le (la := false) (lb := true) (oc := 1) ha (Nat.le_refl 1) ka (Nat.le_refl 1) pa (Nat.le_refl 1) (Nat.le_refl 1)
    simp only [szT, Nat.pow_succ]; omega
  | .op a (.op b (.var _)) => by
    have ha := forms_le a
    have hb := forms_le b
    have ka := own_le a
    have pa := Nat.two_pow_pos (szT a)
    have pb := Nat.two_pow_pos (szT b)
    rw [ownT]
    have := o3_le (la := eqT a b) (lb := false) (oc := 1) ha hb ka (Nat.le_refl 1) pa pb (Nat.le_refl 1)
    simp only [szT, pw]
    rw [Nat.mul_one] at this
    have e : 2 ^ szT a * (2 ^ szT b * 2 ^ 1) = 2 * (2 ^ szT a * 2 ^ szT b) := by rw [Nat.pow_one, ← Nat.mul_assoc, Nat.mul_comm]
    omega
  | .op a (.op b (.op c (.var _))) => by
    have ha := forms_le a
    have hb := forms_le b
    have hc := forms_le c
    have ka := own_le a
    have kc := own_le c
    have pa := Nat.two_pow_pos (szT a)
    have pb := Nat.two_pow_pos (szT b)
    have pc := Nat.two_pow_pos (szT c)
    rw [ownT]
    have := o3_le (la := eqT a b) (lb := eqT b c) ha hb ka kc pa pb pc
    simp only [szT, pw]
    have e : 2 ^ szT a * (2 ^ szT b * (2 ^ szT c * 2 ^ 1)) = 2 * (2 ^ szT a * 2 ^ szT b * 2 ^ szT c) := by rw [Nat.pow_one, ← Nat.mul_assoc, ← Nat.mul_assoc, Nat.mul_comm]
    omega
  | .op _ (.op _ (.op _ (.op _ _))) => by rw [ownT]; exact Nat.zero_le _
/-- how long a run of like ones is that ends with this one -/
def runT (p : Option Tr) (r : Nat) (a : Tr) : Nat := cond (eqO p (some a)) (r + 1) 1
def waysA : Tr → Option Tr → Nat → Nat
  | .var _, _, _ => 1
  | .op a b, p, r => waysA a none 0 * runT p r a * waysA b (some a) (runT p r a)
def waysT (t : Tr) : Nat := waysA t none 0
/-- ways by marks -/
abbrev Wm : Type := Nat → Nat
def hyd (h : Int) : Wm := fun k => if (k : Int) ≤ h then 1 else 0
def timesM (a b : Wm) : Wm := fun k => sumR (k + 1) fun i => a i * b (k - i)
def sevM (w : Wm) (n : Nat) : Wm := fun k => w k + (if k = 2 then (if 1 < n then w 1 * (w 1 + 1) / 2 else 0) else if k = 3 then (if 1 < n then w 1 * w 2 else 0) + (if 2 < n then w 1 * (w 1 + 1) * (w 1 + 2) / 6 else 0) else 0)
def grpM : List (Tr × Wm) → List (Tr × Wm × Nat)
  | [] => []
  | (a, w) :: r => match grpM r with
    | [] => [(a, w, 1)]
    | (b, w', n) :: g => cond (eqT a b) ((a, w, n + 1) :: g) ((a, w, 1) :: (b, w', n) :: g)
def prodM (h : Int) (l : List (Tr × Wm)) : Wm := (grpM l).foldl (fun acc g => timesM acc (sevM g.2.1 g.2.2)) (hyd h)
def kidsM : Tr → List (Tr × Wm)
  | .var _ => []
  | .op a b => (a, prodM (3 - ((kidsM a).length : Int)) (kidsM a)) :: kidsM b
/-- with so many hydrogens on its first carbon -/
def marksT (t : Tr) (h : Int) : Wm := prodM h (kidsM t)
theorem kidsM_eq : ∀ t : Tr, kidsM t = (kidsT t).map fun a => (a, marksT a (3 - ((kidsT a).length : Int)))
  | .var _ => rfl
  | .op a b => by
    have hl : ∀ t : Tr, (kidsM t).length = (kidsT t).length := by
      intro t
      induction t with
      | var _ => rfl
      | op a b _ ih => simp only [kidsM, kidsT, List.length_cons, ih]
    simp only [kidsM, kidsT, List.map_cons, kidsM_eq b, hl a]
    rfl
/-- the code: depths, from the first carbon on -/
def preT : Tr → Nat → List Nat
  | .var _, k => [k]
  | .op a b, k => (preT b k).take 1 ++ (preT a (k + 1) ++ (preT b k).drop 1)
def codeT (t : Tr) (k : Nat) : List Nat := k :: (kidsT t).flatMap fun a => preT a (k + 1)
theorem preT_eq : ∀ (t : Tr) (k : Nat), preT t k = k :: (kidsT t).flatMap fun a => preT a (k + 1)
  | .var _, k => rfl
  | .op a b, k => by
    rw [preT, preT_eq b k]
    simp [kidsT]
theorem preT_len : ∀ (t : Tr) (k : Nat), (preT t k).length = szT t
  | .var _, k => rfl
  | .op a b, k => by
    have := preT_len a (k + 1)
    have h2 := preT_len b k
    have := sz_pos b
    rw [preT, List.length_append, List.length_append, List.length_take, List.length_drop, h2, szT]
    omega
