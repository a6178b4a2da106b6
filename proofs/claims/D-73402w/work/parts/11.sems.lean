/-! THE INSTRUCTIONS -/
def iadd (x y : Int) : Int := (Int32.ofInt x + Int32.ofInt y).toInt
def isub (x y : Int) : Int := (Int32.ofInt x - Int32.ofInt y).toInt
def imul (x y : Int) : Int := (Int32.ofInt x * Int32.ofInt y).toInt
def idiv (x y : Int) : Int := (Int32.ofInt x / Int32.ofInt y).toInt
def irem (x y : Int) : Int := (Int32.ofInt x - Int32.ofInt x / Int32.ofInt y * Int32.ofInt y).toInt
def iand (x y : Int) : Int := (Int32.ofInt x &&& Int32.ofInt y).toInt
def ior (x y : Int) : Int := (Int32.ofInt x ||| Int32.ofInt y).toInt
def ixor (x y : Int) : Int := (Int32.ofInt x ^^^ Int32.ofInt y).toInt
def ishl (x y : Int) : Int := (Int32.ofInt x <<< (Int32.ofInt y &&& 31)).toInt
def ishr (x y : Int) : Int := (Int32.ofInt x >>> (Int32.ofInt y &&& 31)).toInt
def iushr (x y : Int) : Int := ((Int32.ofInt x).toUInt32 >>> ((Int32.ofInt y).toUInt32 &&& Int32.toUInt32 31)).toInt32.toInt
def ineg (x : Int) : Int := (-(Int32.ofInt x)).toInt
def ladd (x y : Int) : Int := (Int64.ofInt x + Int64.ofInt y).toInt
def lsub (x y : Int) : Int := (Int64.ofInt x - Int64.ofInt y).toInt
def lmul (x y : Int) : Int := (Int64.ofInt x * Int64.ofInt y).toInt
def ldiv (x y : Int) : Int := (Int64.ofInt x / Int64.ofInt y).toInt
def l2i (x : Int) : Int := (Int64.ofInt x).toInt32.toInt
def i2b (x : Int) : Int := (Int32.ofInt x).toInt8.toInt32.toInt
def i2c (x : Int) : Int := ((Int32.ofInt x).toUInt32 % 65536).toInt32.toInt
def bit1 (x : Int) : Int := (Int32.ofInt x &&& 1).toInt
def lcmp (x y : Int) : Int := if x < y then -1 else if x = y then 0 else 1

def kI (n : Int) (q : Nat) : Sem := fun L st h K => K (nx q L (vI n :: st) h)
def kL (n : Int) (q : Nat) : Sem := fun L st h K => K (nx q L (vL n :: st) h)
def kN (q : Nat) : Sem := fun L st h K => K (nx q L (vR none :: st) h)
def gst (k q : Nat) : Sem := fun L st h K => K (nx q L (vR (h.S k) :: st) h)
def goto (t : Nat) : Sem := fun L st h K => K (nx t L st h)
def lodI (i q : Nat) : Sem := fun L st h K => match lg L i with
  | some (.inl x) => K (nx q L (vI x :: st) h)
  | _ => False
def lodL (i q : Nat) : Sem := fun L st h K => match lg L i with
  | some (.inr (.inl x)) => K (nx q L (vL x :: st) h)
  | _ => False
def lodR (i q : Nat) : Sem := fun L st h K => match lg L i with
  | some (.inr (.inr (.inl x))) => K (nx q L (vR x :: st) h)
  | _ => False
def stoI (i q : Nat) : Sem := fun L st h K => match st with
  | .inl x :: r => K (nx q (lst1 L i (vI x)) r h)
  | _ => False
def stoL (i q : Nat) : Sem := fun L st h K => match st with
  | .inr (.inl x) :: r => K (nx q (lst2 L i (vL x)) r h)
  | _ => False
def stoR (i q : Nat) : Sem := fun L st h K => match st with
  | .inr (.inr (.inl x)) :: r => K (nx q (lst1 L i (vR x)) r h)
  | _ => False
def inc (i : Nat) (n : Int) (q : Nat) : Sem := fun L st h K => match lg L i with
  | some (.inl x) => K (nx q (lst1 L i (vI (iadd x n))) st h)
  | _ => False
def opI (f : Int → Int → Int) (q : Nat) : Sem := fun L st h K => match st with
  | .inl y :: .inl x :: r => K (nx q L (vI (f x y) :: r) h)
  | _ => False
def opD (f : Int → Int → Int) (q : Nat) : Sem := fun L st h K => match st with
  | .inl y :: .inl x :: r => y ≠ 0 ∧ K (nx q L (vI (f x y) :: r) h)
  | _ => False
def unI (f : Int → Int) (q : Nat) : Sem := fun L st h K => match st with
  | .inl x :: r => K (nx q L (vI (f x) :: r) h)
  | _ => False
def opL (f : Int → Int → Int) (q : Nat) : Sem := fun L st h K => match st with
  | .inr (.inl y) :: .inr (.inl x) :: r => K (nx q L (vL (f x y) :: r) h)
  | _ => False
def opLD (f : Int → Int → Int) (q : Nat) : Sem := fun L st h K => match st with
  | .inr (.inl y) :: .inr (.inl x) :: r => y ≠ 0 ∧ K (nx q L (vL (f x y) :: r) h)
  | _ => False
def cmpl (q : Nat) : Sem := fun L st h K => match st with
  | .inr (.inl y) :: .inr (.inl x) :: r => K (nx q L (vI (lcmp x y) :: r) h)
  | _ => False
def xi2l (q : Nat) : Sem := fun L st h K => match st with
  | .inl x :: r => K (nx q L (vL x :: r) h)
  | _ => False
def xl2i (q : Nat) : Sem := fun L st h K => match st with
  | .inr (.inl x) :: r => K (nx q L (vI (l2i x) :: r) h)
  | _ => False
def dup (q : Nat) : Sem := fun L st h K => match st with
  | v :: r => cond (Nat.beq (cat v) 1) (K (nx q L (v :: v :: r) h)) False
  | _ => False
def dupx1 (q : Nat) : Sem := fun L st h K => match st with
  | v :: u :: r => cond (Nat.beq (cat v) 1 && Nat.beq (cat u) 1) (K (nx q L (v :: u :: v :: r) h)) False
  | _ => False
def dup2 (q : Nat) : Sem := fun L st h K => match st with
  | v :: r => cond (Nat.beq (cat v) 2) (K (nx q L (v :: v :: r) h)) (match r with
    | u :: r => cond (Nat.beq (cat v) 1 && Nat.beq (cat u) 1) (K (nx q L (v :: u :: v :: u :: r) h)) False
    | _ => False)
  | _ => False
def pop (q : Nat) : Sem := fun L st h K => match st with
  | v :: r => cond (Nat.beq (cat v) 1) (K (nx q L r h)) False
  | _ => False
def ifeq (t q : Nat) : Sem := fun L st h K => match st with
  | .inl x :: r => (x = 0 → K (nx t L r h)) ∧ (x ≠ 0 → K (nx q L r h))
  | _ => False
def iceq (t q : Nat) : Sem := fun L st h K => match st with
  | .inl y :: .inl x :: r => (x = y → K (nx t L r h)) ∧ (x ≠ y → K (nx q L r h))
  | _ => False
def ifne (t q : Nat) : Sem := fun L st h K => match st with
  | .inl x :: r => (x ≠ 0 → K (nx t L r h)) ∧ (x = 0 → K (nx q L r h))
  | _ => False
def icne (t q : Nat) : Sem := fun L st h K => match st with
  | .inl y :: .inl x :: r => (x ≠ y → K (nx t L r h)) ∧ (x = y → K (nx q L r h))
  | _ => False
def iflt (t q : Nat) : Sem := fun L st h K => match st with
  | .inl x :: r => (x < 0 → K (nx t L r h)) ∧ (0 ≤ x → K (nx q L r h))
  | _ => False
def iclt (t q : Nat) : Sem := fun L st h K => match st with
  | .inl y :: .inl x :: r => (x < y → K (nx t L r h)) ∧ (y ≤ x → K (nx q L r h))
  | _ => False
def ifge (t q : Nat) : Sem := fun L st h K => match st with
  | .inl x :: r => (0 ≤ x → K (nx t L r h)) ∧ (x < 0 → K (nx q L r h))
  | _ => False
def icge (t q : Nat) : Sem := fun L st h K => match st with
  | .inl y :: .inl x :: r => (y ≤ x → K (nx t L r h)) ∧ (x < y → K (nx q L r h))
  | _ => False
def ifgt (t q : Nat) : Sem := fun L st h K => match st with
  | .inl x :: r => (0 < x → K (nx t L r h)) ∧ (x ≤ 0 → K (nx q L r h))
  | _ => False
def icgt (t q : Nat) : Sem := fun L st h K => match st with
  | .inl y :: .inl x :: r => (y < x → K (nx t L r h)) ∧ (x ≤ y → K (nx q L r h))
  | _ => False
def ifle (t q : Nat) : Sem := fun L st h K => match st with
  | .inl x :: r => (x ≤ 0 → K (nx t L r h)) ∧ (0 < x → K (nx q L r h))
  | _ => False
def icle (t q : Nat) : Sem := fun L st h K => match st with
  | .inl y :: .inl x :: r => (x ≤ y → K (nx t L r h)) ∧ (y < x → K (nx q L r h))
  | _ => False
def ifnull (t q : Nat) : Sem := fun L st h K => match st with
  | .inr (.inr (.inl none)) :: r => K (nx t L r h)
  | .inr (.inr (.inl (some _))) :: r => K (nx q L r h)
  | _ => False
def ifnonnull (t q : Nat) : Sem := fun L st h K => match st with
  | .inr (.inr (.inl none)) :: r => K (nx q L r h)
  | .inr (.inr (.inl (some _))) :: r => K (nx t L r h)
  | _ => False
def aceq (t q : Nat) : Sem := fun L st h K => match st with
  | .inr (.inr (.inl y)) :: .inr (.inr (.inl x)) :: r => (x = y → K (nx t L r h)) ∧ (x ≠ y → K (nx q L r h))
  | _ => False
def acne (t q : Nat) : Sem := fun L st h K => match st with
  | .inr (.inr (.inl y)) :: .inr (.inr (.inl x)) :: r => (x ≠ y → K (nx t L r h)) ∧ (x = y → K (nx q L r h))
  | _ => False
def swK (x : Int) (K : Nat → Prop) (df : Nat) : List (Int × Nat) → Prop
  | [] => K df
  | (k, t) :: r => (x = k → K t) ∧ (x ≠ k → swK x K df r)
def sw (ts : List (Int × Nat)) (df : Nat) : Sem := fun L st h K => match st with
  | .inl x :: r => swK x (fun t => K (nx t L r h)) df ts
  | _ => False
def lk : List (Nat × Nat) → Nat → Option Nat
  | [], _ => none
  | (a, b) :: r, k => cond (Nat.beq a k) (some b) (lk r k)
def knd (h : AH) (b : Nat) (k : Nat × Nat) : Prop := match k.1 with
  | 0 => (h.F b).1 % 200 = k.2
  | 1 => (h.I b).1 = k.2
  | _ => (h.R b).1 % 200 = k.2
/-- a reference of one of some kinds, or null -/
def isk (h : AH) (ks : List (Nat × Nat)) (r : Option Nat) : Prop := ∀ b, r = some b → ∃ k, ks.elem k = true ∧ k.2 ≠ 0 ∧ knd h b k
def ald (ts : List Nat) (q : Nat) : Sem := fun L st h K => match st with
  | .inl i :: .inr (.inr (.inl (some a))) :: r => ∃ u xs x, h.I a = (u, xs) ∧ ts.elem (u % 200) = true ∧ 0 ≤ i ∧ xs[i.toNat]? = some x ∧ K (nx q L (vI x :: r) h)
  | _ => False
def aldL (q : Nat) : Sem := fun L st h K => match st with
  | .inl i :: .inr (.inr (.inl (some a))) :: r => ∃ u xs x, h.I a = (u, xs) ∧ u % 200 = 2 ∧ 0 ≤ i ∧ xs[i.toNat]? = some x ∧ K (nx q L (vL x :: r) h)
  | _ => False
def aldR (q : Nat) : Sem := fun L st h K => match st with
  | .inl i :: .inr (.inr (.inl (some a))) :: r => ∃ u rs x, h.R a = (u, rs) ∧ u ≠ 0 ∧ 0 ≤ i ∧ rs[i.toNat]? = some x ∧ K (nx q L (vR x :: r) h)
  | _ => False
def ast (q : Nat) : Sem := fun L st h K => match st with
  | .inl x :: .inl i :: .inr (.inr (.inl (some a))) :: r => ∃ xs, h.I a = (1, xs) ∧ 0 ≤ i ∧ i < xs.length ∧ K (nx q L r (h.setI a (xs.set i.toNat x)))
  | _ => False
def astB (q : Nat) : Sem := fun L st h K => match st with
  | .inl x :: .inl i :: .inr (.inr (.inl (some a))) :: r => ∃ u xs, h.I a = (u, xs) ∧ 0 ≤ i ∧ i < xs.length ∧ ((u = 3 ∧ K (nx q L r (h.setI a (xs.set i.toNat (i2b x))))) ∨ (u = 4 ∧ K (nx q L r (h.setI a (xs.set i.toNat (bit1 x))))))
  | _ => False
def astL (q : Nat) : Sem := fun L st h K => match st with
  | .inr (.inl x) :: .inl i :: .inr (.inr (.inl (some a))) :: r => ∃ xs, h.I a = (2, xs) ∧ 0 ≤ i ∧ i < xs.length ∧ K (nx q L r (h.setI a (xs.set i.toNat x)))
  | _ => False
def astR (ek : Nat → List (Nat × Nat)) (q : Nat) : Sem := fun L st h K => match st with
  | .inr (.inr (.inl x)) :: .inl i :: .inr (.inr (.inl (some a))) :: r => ∃ u rs, h.R a = (u, rs) ∧ 0 < u ∧ u < 200 ∧ 0 ≤ i ∧ i < rs.length ∧ isk h (ek u) x ∧ (x = none → [2, 3, 7].elem u = false) ∧ K (nx q L r (h.setR a (rs.set i.toNat x)))
  | _ => False
def alen (q : Nat) : Sem := fun L st h K => match st with
  | .inr (.inr (.inl (some a))) :: r => ∃ n : Nat, ((∃ u xs, h.I a = (u, xs) ∧ u ≠ 0 ∧ n = xs.length) ∨ (∃ u rs, h.R a = (u, rs) ∧ u ≠ 0 ∧ n = rs.length)) ∧ K (nx q L (vI n :: r) h)
  | _ => False
def nwI (t q : Nat) : Sem := fun L st h K => match st with
  | .inl n :: r => 0 ≤ n ∧ n ≤ 65536 ∧ K (nx q L (vR (some h.sz) :: r) (h.newI t (List.replicate n.toNat 0)))
  | _ => False
def nwR (t q : Nat) : Sem := fun L st h K => match st with
  | .inl n :: r => 0 ≤ n ∧ n ≤ 65536 ∧ K (nx q L (vR (some h.sz) :: r) (h.newR t (List.replicate n.toNat none)))
  | _ => False
def nwO (c : Nat) (fs : List AV) (q : Nat) : Sem := fun L st h K => K (nx q L (vR (some h.sz) :: st) (h.newF c fs))
def getf (kk : List (Nat × Nat)) (q : Nat) : Sem := fun L st h K => match st with
  | .inr (.inr (.inl (some a))) :: r => ∃ u fs k v, h.F a = (u, fs) ∧ lk kk (u % 200) = some k ∧ fs[k]? = some v ∧ K (nx q L (v :: r) h)
  | _ => False
def putI (kk : List (Nat × Nat)) (q : Nat) : Sem := fun L st h K => match st with
  | .inl x :: .inr (.inr (.inl (some a))) :: r => ∃ u fs k, h.F a = (u, fs) ∧ lk kk u = some k ∧ k < fs.length ∧ K (nx q L r (h.setF a (fs.set k (vI x))))
  | _ => False
def putB (kk : List (Nat × Nat)) (q : Nat) : Sem := fun L st h K => match st with
  | .inl x :: .inr (.inr (.inl (some a))) :: r => ∃ u fs k, h.F a = (u, fs) ∧ lk kk u = some k ∧ k < fs.length ∧ -128 ≤ x ∧ x ≤ 127 ∧ K (nx q L r (h.setF a (fs.set k (vI x))))
  | _ => False
def putZ (kk : List (Nat × Nat)) (q : Nat) : Sem := fun L st h K => match st with
  | .inl x :: .inr (.inr (.inl (some a))) :: r => ∃ u fs k, h.F a = (u, fs) ∧ lk kk u = some k ∧ k < fs.length ∧ (x = 0 ∨ x = 1) ∧ K (nx q L r (h.setF a (fs.set k (vI x))))
  | _ => False
def putL (kk : List (Nat × Nat)) (q : Nat) : Sem := fun L st h K => match st with
  | .inr (.inl x) :: .inr (.inr (.inl (some a))) :: r => ∃ u fs k, h.F a = (u, fs) ∧ lk kk u = some k ∧ k < fs.length ∧ K (nx q L r (h.setF a (fs.set k (vL x))))
  | _ => False
def putR (kk : List (Nat × Nat)) (q : Nat) : Sem := fun L st h K => match st with
  | .inr (.inr (.inl x)) :: .inr (.inr (.inl (some a))) :: r => ∃ u fs k, h.F a = (u, fs) ∧ lk kk u = some k ∧ k < fs.length ∧ K (nx q L r (h.setF a (fs.set k (vR x))))
  | _ => False
def chk (ks : List (Nat × Nat)) (q : Nat) : Sem := fun L st h K => match st with
  | .inr (.inr (.inl x)) :: r => isk h ks x ∧ K (nx q L (vR x :: r) h)
  | _ => False
def oini (q : Nat) : Sem := fun L st h K => match st with
  | .inr (.inr (.inl (some _))) :: r => cond (Nat.ble (cats r) 30) (K (nx q L r h)) False
  | _ => False
def splt : Nat → List AV → List AV → Option (List AV × List AV)
  | 0, st, as => some (as, st)
  | _ + 1, [], _ => none
  | n + 1, v :: r, as => splt n r (v :: as)
def kt (q : Nat) (L : Ls) (r : List AV) : Rs → AH → St ⊕ (Rs × AH) := fun v h => match v with
  | .inl none => .inl (q, L, r, h)
  | .inl (some x) => .inl (q, L, x :: r, h)
  | .inr _ => .inl (99999, [], [], h)
abbrev cl (z : Nat) (as : List AV) (h : AH) (k : Rs → AH → St ⊕ (Rs × AH)) : Out := .inr (.inr (z, as, h, k))
def ivS (z n q : Nat) : Sem := fun L st h K => match splt n st [] with
  | some (as, r) => cond (Nat.ble (cats r) 8) (K (cl z as h (kt q L r))) False
  | _ => False
def ivI (z n q : Nat) : Sem := fun L st h K => match splt n st [] with
  | some (as, .inr (.inr (.inl (some a))) :: r) => cond (Nat.ble (cats r) 8) (K (cl z (vR (some a) :: as) h (kt q L r))) False
  | _ => False
def ivV (zz : List (Nat × Nat)) (n q : Nat) : Sem := fun L st h K => match splt n st [] with
  | some (as, .inr (.inr (.inl (some a))) :: r) => cond (Nat.ble (cats r) 8) (∃ u fs z, h.F a = (u, fs) ∧ lk zz (u % 200) = some z ∧ K (cl z (vR (some a) :: as) h (kt q L r))) False
  | _ => False
def retI  : Sem := fun L st h K => match st with
  | .inl x :: [] => K (rt (.inl (some (vI x))) h)
  | _ => False
def retZ  : Sem := fun L st h K => match st with
  | .inl x :: [] => (x = 0 ∨ x = 1) ∧ K (rt (.inl (some (vI x))) h)
  | _ => False
def retC  : Sem := fun L st h K => match st with
  | .inl x :: [] => 0 ≤ x ∧ x ≤ 65535 ∧ K (rt (.inl (some (vI x))) h)
  | _ => False
def retB  : Sem := fun L st h K => match st with
  | .inl x :: [] => -128 ≤ x ∧ x ≤ 127 ∧ K (rt (.inl (some (vI x))) h)
  | _ => False
def retL  : Sem := fun L st h K => match st with
  | .inr (.inl x) :: [] => K (rt (.inl (some (vL x))) h)
  | _ => False
def retR  : Sem := fun L st h K => match st with
  | .inr (.inr (.inl x)) :: [] => K (rt (.inl (some (vR x))) h)
  | _ => False
def retV  : Sem := fun L st h K => match st with
  | [] => K (rt (.inl none) h)
  | _ => False
def thr  : Sem := fun L st h K => match st with
  | .inr (.inr (.inl (some a))) :: _ => K (rt (.inr a) h)
  | _ => False
def bad  : Sem := fun L st h K => False
theorem dt_kI {n : Int} {q : Nat} : Dt (kI n q) := by
  intro L st h K k
  unfold kI at k ⊢
  exact ⟨_, rfl, k⟩
theorem dt_kL {n : Int} {q : Nat} : Dt (kL n q) := by
  intro L st h K k
  unfold kL at k ⊢
  exact ⟨_, rfl, k⟩
theorem dt_kN {q : Nat} : Dt (kN q) := by
  intro L st h K k
  unfold kN at k ⊢
  exact ⟨_, rfl, k⟩
theorem dt_gst {k q : Nat} : Dt (gst k q) := by
  intro L st h K k
  unfold gst at k ⊢
  exact ⟨_, rfl, k⟩
theorem dt_goto {t : Nat} : Dt (goto t) := by
  intro L st h K k
  unfold goto at k ⊢
  exact ⟨_, rfl, k⟩
theorem dt_lodI {i q : Nat} : Dt (lodI i q) := by
  intro L st h K k
  unfold lodI at k ⊢
  split at k
  · exact ⟨_, rfl, k⟩
  · exact k.elim
theorem dt_lodL {i q : Nat} : Dt (lodL i q) := by
  intro L st h K k
  unfold lodL at k ⊢
  split at k
  · exact ⟨_, rfl, k⟩
  · exact k.elim
theorem dt_lodR {i q : Nat} : Dt (lodR i q) := by
  intro L st h K k
  unfold lodR at k ⊢
  split at k
  · exact ⟨_, rfl, k⟩
  · exact k.elim
theorem dt_stoI {i q : Nat} : Dt (stoI i q) := by
  intro L st h K k
  unfold stoI at k ⊢
  split at k
  · exact ⟨_, rfl, k⟩
  · exact k.elim
theorem dt_stoL {i q : Nat} : Dt (stoL i q) := by
  intro L st h K k
  unfold stoL at k ⊢
  split at k
  · exact ⟨_, rfl, k⟩
  · exact k.elim
theorem dt_stoR {i q : Nat} : Dt (stoR i q) := by
  intro L st h K k
  unfold stoR at k ⊢
  split at k
  · exact ⟨_, rfl, k⟩
  · exact k.elim
theorem dt_inc {i : Nat} {n : Int} {q : Nat} : Dt (inc i n q) := by
  intro L st h K k
  unfold inc at k ⊢
  split at k
  · exact ⟨_, rfl, k⟩
  · exact k.elim
theorem dt_opI {f : Int → Int → Int} {q : Nat} : Dt (opI f q) := by
  intro L st h K k
  unfold opI at k ⊢
  split at k
  · exact ⟨_, rfl, k⟩
  · exact k.elim
theorem dt_opD {f : Int → Int → Int} {q : Nat} : Dt (opD f q) := by
  intro L st h K k
  unfold opD at k ⊢
  split at k
  · exact ⟨_, ⟨k.1, rfl⟩, k.2⟩
  · exact k.elim
theorem dt_unI {f : Int → Int} {q : Nat} : Dt (unI f q) := by
  intro L st h K k
  unfold unI at k ⊢
  split at k
  · exact ⟨_, rfl, k⟩
  · exact k.elim
theorem dt_opL {f : Int → Int → Int} {q : Nat} : Dt (opL f q) := by
  intro L st h K k
  unfold opL at k ⊢
  split at k
  · exact ⟨_, rfl, k⟩
  · exact k.elim
theorem dt_opLD {f : Int → Int → Int} {q : Nat} : Dt (opLD f q) := by
  intro L st h K k
  unfold opLD at k ⊢
  split at k
  · exact ⟨_, ⟨k.1, rfl⟩, k.2⟩
  · exact k.elim
theorem dt_cmpl {q : Nat} : Dt (cmpl q) := by
  intro L st h K k
  unfold cmpl at k ⊢
  split at k
  · exact ⟨_, rfl, k⟩
  · exact k.elim
theorem dt_xi2l {q : Nat} : Dt (xi2l q) := by
  intro L st h K k
  unfold xi2l at k ⊢
  split at k
  · exact ⟨_, rfl, k⟩
  · exact k.elim
theorem dt_xl2i {q : Nat} : Dt (xl2i q) := by
  intro L st h K k
  unfold xl2i at k ⊢
  split at k
  · exact ⟨_, rfl, k⟩
  · exact k.elim
theorem dt_dup {q : Nat} : Dt (dup q) := by
  intro L st h K k
  unfold dup at k ⊢
  split at k
  · cases e : Nat.beq (cat _) 1 with
    | true => rw [e] at k; exact ⟨_, rfl, k⟩
    | false => rw [e] at k; exact k.elim
  · exact k.elim
theorem dt_dupx1 {q : Nat} : Dt (dupx1 q) := by
  intro L st h K k
  unfold dupx1 at k ⊢
  split at k
  · cases e : Nat.beq (cat _) 1 && Nat.beq (cat _) 1 with
    | true => rw [e] at k; exact ⟨_, rfl, k⟩
    | false => rw [e] at k; exact k.elim
  · exact k.elim
theorem dt_dup2 {q : Nat} : Dt (dup2 q) := by
  intro L st h K k
  unfold dup2 at k ⊢
  split at k
  · cases e : Nat.beq (cat _) 2 with
    | true => rw [e] at k; exact ⟨_, rfl, k⟩
    | false =>
      rw [e] at k
      simp only [cond_false] at k ⊢
      split at k
      · cases e : Nat.beq (cat _) 1 && Nat.beq (cat _) 1 with
        | true => rw [e] at k; exact ⟨_, rfl, k⟩
        | false => rw [e] at k; exact k.elim
      · exact k.elim
  · exact k.elim
theorem dt_pop {q : Nat} : Dt (pop q) := by
  intro L st h K k
  unfold pop at k ⊢
  split at k
  · cases e : Nat.beq (cat _) 1 with
    | true => rw [e] at k; exact ⟨_, rfl, k⟩
    | false => rw [e] at k; exact k.elim
  · exact k.elim
theorem dt_ifeq {t q : Nat} : Dt (ifeq t q) := by
  intro L st h K k
  unfold ifeq at k ⊢
  split at k
  · rename_i xx rr
    by_cases c : xx = 0
    · exact ⟨_, ⟨fun _ => rfl, fun e => by first | exact absurd e c | exact absurd c e | omega⟩, k.1 c⟩
    · have c2 : xx ≠ 0 := by first | exact c | omega | exact Classical.not_not.mp c
      exact ⟨_, ⟨fun e => absurd e c, fun _ => rfl⟩, k.2 c2⟩
  · exact k.elim
theorem dt_iceq {t q : Nat} : Dt (iceq t q) := by
  intro L st h K k
  unfold iceq at k ⊢
  split at k
  · rename_i yy xx rr
    by_cases c : xx = yy
    · exact ⟨_, ⟨fun _ => rfl, fun e => by first | exact absurd e c | exact absurd c e | omega⟩, k.1 c⟩
    · have c2 : xx ≠ yy := by first | exact c | omega | exact Classical.not_not.mp c
      exact ⟨_, ⟨fun e => absurd e c, fun _ => rfl⟩, k.2 c2⟩
  · exact k.elim
theorem dt_ifne {t q : Nat} : Dt (ifne t q) := by
  intro L st h K k
  unfold ifne at k ⊢
  split at k
  · rename_i xx rr
    by_cases c : xx ≠ 0
    · exact ⟨_, ⟨fun _ => rfl, fun e => by first | exact absurd e c | exact absurd c e | omega⟩, k.1 c⟩
    · have c2 : xx = 0 := by first | exact c | omega | exact Classical.not_not.mp c
      exact ⟨_, ⟨fun e => absurd e c, fun _ => rfl⟩, k.2 c2⟩
  · exact k.elim
theorem dt_icne {t q : Nat} : Dt (icne t q) := by
  intro L st h K k
  unfold icne at k ⊢
  split at k
  · rename_i yy xx rr
    by_cases c : xx ≠ yy
    · exact ⟨_, ⟨fun _ => rfl, fun e => by first | exact absurd e c | exact absurd c e | omega⟩, k.1 c⟩
    · have c2 : xx = yy := by first | exact c | omega | exact Classical.not_not.mp c
      exact ⟨_, ⟨fun e => absurd e c, fun _ => rfl⟩, k.2 c2⟩
  · exact k.elim
theorem dt_iflt {t q : Nat} : Dt (iflt t q) := by
  intro L st h K k
  unfold iflt at k ⊢
  split at k
  · rename_i xx rr
    by_cases c : xx < 0
    · exact ⟨_, ⟨fun _ => rfl, fun e => by first | exact absurd e c | exact absurd c e | omega⟩, k.1 c⟩
    · have c2 : 0 ≤ xx := by first | exact c | omega | exact Classical.not_not.mp c
      exact ⟨_, ⟨fun e => absurd e c, fun _ => rfl⟩, k.2 c2⟩
  · exact k.elim
theorem dt_iclt {t q : Nat} : Dt (iclt t q) := by
  intro L st h K k
  unfold iclt at k ⊢
  split at k
  · rename_i yy xx rr
    by_cases c : xx < yy
    · exact ⟨_, ⟨fun _ => rfl, fun e => by first | exact absurd e c | exact absurd c e | omega⟩, k.1 c⟩
    · have c2 : yy ≤ xx := by first | exact c | omega | exact Classical.not_not.mp c
      exact ⟨_, ⟨fun e => absurd e c, fun _ => rfl⟩, k.2 c2⟩
  · exact k.elim
theorem dt_ifge {t q : Nat} : Dt (ifge t q) := by
  intro L st h K k
  unfold ifge at k ⊢
  split at k
  · rename_i xx rr
    by_cases c : 0 ≤ xx
    · exact ⟨_, ⟨fun _ => rfl, fun e => by first | exact absurd e c | exact absurd c e | omega⟩, k.1 c⟩
    · have c2 : xx < 0 := by first | exact c | omega | exact Classical.not_not.mp c
      exact ⟨_, ⟨fun e => absurd e c, fun _ => rfl⟩, k.2 c2⟩
  · exact k.elim
theorem dt_icge {t q : Nat} : Dt (icge t q) := by
  intro L st h K k
  unfold icge at k ⊢
  split at k
  · rename_i yy xx rr
    by_cases c : yy ≤ xx
    · exact ⟨_, ⟨fun _ => rfl, fun e => by first | exact absurd e c | exact absurd c e | omega⟩, k.1 c⟩
    · have c2 : xx < yy := by first | exact c | omega | exact Classical.not_not.mp c
      exact ⟨_, ⟨fun e => absurd e c, fun _ => rfl⟩, k.2 c2⟩
  · exact k.elim
theorem dt_ifgt {t q : Nat} : Dt (ifgt t q) := by
  intro L st h K k
  unfold ifgt at k ⊢
  split at k
  · rename_i xx rr
    by_cases c : 0 < xx
    · exact ⟨_, ⟨fun _ => rfl, fun e => by first | exact absurd e c | exact absurd c e | omega⟩, k.1 c⟩
    · have c2 : xx ≤ 0 := by first | exact c | omega | exact Classical.not_not.mp c
      exact ⟨_, ⟨fun e => absurd e c, fun _ => rfl⟩, k.2 c2⟩
  · exact k.elim
theorem dt_icgt {t q : Nat} : Dt (icgt t q) := by
  intro L st h K k
  unfold icgt at k ⊢
  split at k
  · rename_i yy xx rr
    by_cases c : yy < xx
    · exact ⟨_, ⟨fun _ => rfl, fun e => by first | exact absurd e c | exact absurd c e | omega⟩, k.1 c⟩
    · have c2 : xx ≤ yy := by first | exact c | omega | exact Classical.not_not.mp c
      exact ⟨_, ⟨fun e => absurd e c, fun _ => rfl⟩, k.2 c2⟩
  · exact k.elim
theorem dt_ifle {t q : Nat} : Dt (ifle t q) := by
  intro L st h K k
  unfold ifle at k ⊢
  split at k
  · rename_i xx rr
    by_cases c : xx ≤ 0
    · exact ⟨_, ⟨fun _ => rfl, fun e => by first | exact absurd e c | exact absurd c e | omega⟩, k.1 c⟩
    · have c2 : 0 < xx := by first | exact c | omega | exact Classical.not_not.mp c
      exact ⟨_, ⟨fun e => absurd e c, fun _ => rfl⟩, k.2 c2⟩
  · exact k.elim
theorem dt_icle {t q : Nat} : Dt (icle t q) := by
  intro L st h K k
  unfold icle at k ⊢
  split at k
  · rename_i yy xx rr
    by_cases c : xx ≤ yy
    · exact ⟨_, ⟨fun _ => rfl, fun e => by first | exact absurd e c | exact absurd c e | omega⟩, k.1 c⟩
    · have c2 : yy < xx := by first | exact c | omega | exact Classical.not_not.mp c
      exact ⟨_, ⟨fun e => absurd e c, fun _ => rfl⟩, k.2 c2⟩
  · exact k.elim
theorem dt_ifnull {t q : Nat} : Dt (ifnull t q) := by
  intro L st h K k
  unfold ifnull at k ⊢
  split at k
  · exact ⟨_, rfl, k⟩
  · exact ⟨_, rfl, k⟩
  · exact k.elim
theorem dt_ifnonnull {t q : Nat} : Dt (ifnonnull t q) := by
  intro L st h K k
  unfold ifnonnull at k ⊢
  split at k
  · exact ⟨_, rfl, k⟩
  · exact ⟨_, rfl, k⟩
  · exact k.elim
theorem dt_aceq {t q : Nat} : Dt (aceq t q) := by
  intro L st h K k
  unfold aceq at k ⊢
  split at k
  · rename_i yy xx rr
    by_cases c : xx = yy
    · exact ⟨_, ⟨fun _ => rfl, fun e => by first | exact absurd e c | exact absurd c e | omega⟩, k.1 c⟩
    · have c2 : xx ≠ yy := by first | exact c | omega | exact Classical.not_not.mp c
      exact ⟨_, ⟨fun e => absurd e c, fun _ => rfl⟩, k.2 c2⟩
  · exact k.elim
theorem dt_acne {t q : Nat} : Dt (acne t q) := by
  intro L st h K k
  unfold acne at k ⊢
  split at k
  · rename_i yy xx rr
    by_cases c : xx ≠ yy
    · exact ⟨_, ⟨fun _ => rfl, fun e => by first | exact absurd e c | exact absurd c e | omega⟩, k.1 c⟩
    · have c2 : xx = yy := by first | exact c | omega | exact Classical.not_not.mp c
      exact ⟨_, ⟨fun e => absurd e c, fun _ => rfl⟩, k.2 c2⟩
  · exact k.elim
theorem dt_ald {ts : List Nat} {q : Nat} : Dt (ald ts q) := by
  intro L st h K k
  unfold ald at k ⊢
  split at k
  · obtain ⟨x0, x1, x2, x3, x4, x5, x6, k⟩ := k
    exact ⟨_, ⟨x0, x1, x2, x3, x4, x5, x6, rfl⟩, k⟩
  · exact k.elim
theorem dt_aldL {q : Nat} : Dt (aldL q) := by
  intro L st h K k
  unfold aldL at k ⊢
  split at k
  · obtain ⟨x0, x1, x2, x3, x4, x5, x6, k⟩ := k
    exact ⟨_, ⟨x0, x1, x2, x3, x4, x5, x6, rfl⟩, k⟩
  · exact k.elim
theorem dt_aldR {q : Nat} : Dt (aldR q) := by
  intro L st h K k
  unfold aldR at k ⊢
  split at k
  · obtain ⟨x0, x1, x2, x3, x4, x5, x6, k⟩ := k
    exact ⟨_, ⟨x0, x1, x2, x3, x4, x5, x6, rfl⟩, k⟩
  · exact k.elim
theorem dt_ast {q : Nat} : Dt (ast q) := by
  intro L st h K k
  unfold ast at k ⊢
  split at k
  · obtain ⟨x0, x1, x2, x3, k⟩ := k
    exact ⟨_, ⟨x0, x1, x2, x3, rfl⟩, k⟩
  · exact k.elim
theorem dt_astB {q : Nat} : Dt (astB q) := by
  intro L st h K k
  unfold astB at k ⊢
  split at k
  · obtain ⟨u, xs, h1, h2, h3, ⟨h4, k⟩ | ⟨h4, k⟩⟩ := k
    · exact ⟨_, ⟨u, xs, h1, h2, h3, Or.inl ⟨h4, rfl⟩⟩, k⟩
    · exact ⟨_, ⟨u, xs, h1, h2, h3, Or.inr ⟨h4, rfl⟩⟩, k⟩
  · exact k.elim
theorem dt_astL {q : Nat} : Dt (astL q) := by
  intro L st h K k
  unfold astL at k ⊢
  split at k
  · obtain ⟨x0, x1, x2, x3, k⟩ := k
    exact ⟨_, ⟨x0, x1, x2, x3, rfl⟩, k⟩
  · exact k.elim
theorem dt_astR {ek : Nat → List (Nat × Nat)} {q : Nat} : Dt (astR ek q) := by
  intro L st h K k
  unfold astR at k ⊢
  split at k
  · obtain ⟨x0, x1, x2, x3, x4, x5, x6, x7, x8, k⟩ := k
    exact ⟨_, ⟨x0, x1, x2, x3, x4, x5, x6, x7, x8, rfl⟩, k⟩
  · exact k.elim
theorem dt_alen {q : Nat} : Dt (alen q) := by
  intro L st h K k
  unfold alen at k ⊢
  split at k
  · obtain ⟨x0, x1, k⟩ := k
    exact ⟨_, ⟨x0, x1, rfl⟩, k⟩
  · exact k.elim
theorem dt_nwI {t q : Nat} : Dt (nwI t q) := by
  intro L st h K k
  unfold nwI at k ⊢
  split at k
  · exact ⟨_, ⟨k.1, k.2.1, rfl⟩, k.2.2⟩
  · exact k.elim
theorem dt_nwR {t q : Nat} : Dt (nwR t q) := by
  intro L st h K k
  unfold nwR at k ⊢
  split at k
  · exact ⟨_, ⟨k.1, k.2.1, rfl⟩, k.2.2⟩
  · exact k.elim
theorem dt_nwO {c : Nat} {fs : List AV} {q : Nat} : Dt (nwO c fs q) := by
  intro L st h K k
  unfold nwO at k ⊢
  exact ⟨_, rfl, k⟩
theorem dt_getf {kk : List (Nat × Nat)} {q : Nat} : Dt (getf kk q) := by
  intro L st h K k
  unfold getf at k ⊢
  split at k
  · obtain ⟨x0, x1, x2, x3, x4, x5, x6, k⟩ := k
    exact ⟨_, ⟨x0, x1, x2, x3, x4, x5, x6, rfl⟩, k⟩
  · exact k.elim
theorem dt_putI {kk : List (Nat × Nat)} {q : Nat} : Dt (putI kk q) := by
  intro L st h K k
  unfold putI at k ⊢
  split at k
  · obtain ⟨x0, x1, x2, x3, x4, x5, k⟩ := k
    exact ⟨_, ⟨x0, x1, x2, x3, x4, x5, rfl⟩, k⟩
  · exact k.elim
theorem dt_putB {kk : List (Nat × Nat)} {q : Nat} : Dt (putB kk q) := by
  intro L st h K k
  unfold putB at k ⊢
  split at k
  · obtain ⟨x0, x1, x2, x3, x4, x5, x6, x7, k⟩ := k
    exact ⟨_, ⟨x0, x1, x2, x3, x4, x5, x6, x7, rfl⟩, k⟩
  · exact k.elim
theorem dt_putZ {kk : List (Nat × Nat)} {q : Nat} : Dt (putZ kk q) := by
  intro L st h K k
  unfold putZ at k ⊢
  split at k
  · obtain ⟨x0, x1, x2, x3, x4, x5, x6, k⟩ := k
    exact ⟨_, ⟨x0, x1, x2, x3, x4, x5, x6, rfl⟩, k⟩
  · exact k.elim
theorem dt_putL {kk : List (Nat × Nat)} {q : Nat} : Dt (putL kk q) := by
  intro L st h K k
  unfold putL at k ⊢
  split at k
  · obtain ⟨x0, x1, x2, x3, x4, x5, k⟩ := k
    exact ⟨_, ⟨x0, x1, x2, x3, x4, x5, rfl⟩, k⟩
  · exact k.elim
theorem dt_putR {kk : List (Nat × Nat)} {q : Nat} : Dt (putR kk q) := by
  intro L st h K k
  unfold putR at k ⊢
  split at k
  · obtain ⟨x0, x1, x2, x3, x4, x5, k⟩ := k
    exact ⟨_, ⟨x0, x1, x2, x3, x4, x5, rfl⟩, k⟩
  · exact k.elim
theorem dt_chk {ks : List (Nat × Nat)} {q : Nat} : Dt (chk ks q) := by
  intro L st h K k
  unfold chk at k ⊢
  split at k
  · exact ⟨_, ⟨k.1, rfl⟩, k.2⟩
  · exact k.elim
theorem dt_oini {q : Nat} : Dt (oini q) := by
  intro L st h K k
  unfold oini at k ⊢
  split at k
  · cases e : Nat.ble (cats _) 30 with
    | true => rw [e] at k; exact ⟨_, rfl, k⟩
    | false => rw [e] at k; exact k.elim
  · exact k.elim
theorem dt_ivS {z n q : Nat} : Dt (ivS z n q) := by
  intro L st h K k
  unfold ivS at k ⊢
  split at k
  · cases e : Nat.ble (cats _) 8 with
    | true => rw [e] at k; exact ⟨_, rfl, k⟩
    | false => rw [e] at k; exact k.elim
  · exact k.elim
theorem dt_ivI {z n q : Nat} : Dt (ivI z n q) := by
  intro L st h K k
  unfold ivI at k ⊢
  split at k
  · cases e : Nat.ble (cats _) 8 with
    | true => rw [e] at k; exact ⟨_, rfl, k⟩
    | false => rw [e] at k; exact k.elim
  · exact k.elim
theorem dt_ivV {zz : List (Nat × Nat)} {n q : Nat} : Dt (ivV zz n q) := by
  intro L st h K k
  unfold ivV at k ⊢
  split at k
  · cases e : Nat.ble (cats _) 8 with
    | true =>
      rw [e] at k
      obtain ⟨u, fs, z, h1, h2, k⟩ := k
      exact ⟨_, ⟨u, fs, z, h1, h2, rfl⟩, k⟩
    | false => rw [e] at k; exact k.elim
  · exact k.elim
theorem dt_retI  : Dt (retI) := by
  intro L st h K k
  unfold retI at k ⊢
  split at k
  · exact ⟨_, rfl, k⟩
  · exact k.elim
theorem dt_retZ  : Dt (retZ) := by
  intro L st h K k
  unfold retZ at k ⊢
  split at k
  · exact ⟨_, ⟨k.1, rfl⟩, k.2⟩
  · exact k.elim
theorem dt_retC  : Dt (retC) := by
  intro L st h K k
  unfold retC at k ⊢
  split at k
  · exact ⟨_, ⟨k.1, k.2.1, rfl⟩, k.2.2⟩
  · exact k.elim
theorem dt_retB  : Dt (retB) := by
  intro L st h K k
  unfold retB at k ⊢
  split at k
  · exact ⟨_, ⟨k.1, k.2.1, rfl⟩, k.2.2⟩
  · exact k.elim
theorem dt_retL  : Dt (retL) := by
  intro L st h K k
  unfold retL at k ⊢
  split at k
  · exact ⟨_, rfl, k⟩
  · exact k.elim
theorem dt_retR  : Dt (retR) := by
  intro L st h K k
  unfold retR at k ⊢
  split at k
  · exact ⟨_, rfl, k⟩
  · exact k.elim
theorem dt_retV  : Dt (retV) := by
  intro L st h K k
  unfold retV at k ⊢
  split at k
  · exact ⟨_, rfl, k⟩
  · exact k.elim
theorem dt_thr  : Dt (thr) := by
  intro L st h K k
  unfold thr at k ⊢
  split at k
  · exact ⟨_, rfl, k⟩
  · exact k.elim
theorem dt_bad  : Dt (bad) := by
  intro L st h K k
  unfold bad at k ⊢
  exact k.elim
theorem swK_dt {x : Int} {df : Nat} {g : Nat → Out} {K : Out → Prop} : ∀ ts : List (Int × Nat), swK x (fun t => K (g t)) df ts → ∃ o, swK x (fun t => g t = o) df ts ∧ K o
  | [], k => ⟨_, rfl, k⟩
  | (a, t) :: r, k => by
    by_cases c : x = a
    · exact ⟨_, ⟨fun _ => rfl, fun e => absurd c e⟩, k.1 c⟩
    · obtain ⟨o, h1, h2⟩ := swK_dt r (k.2 c)
      exact ⟨o, ⟨fun e => absurd e c, fun _ => h1⟩, h2⟩
theorem dt_sw {ts : List (Int × Nat)} {df : Nat} : Dt (sw ts df) := by
  intro L st h K k
  unfold sw at k ⊢
  split at k
  · exact swK_dt ts k
  · exact k.elim
theorem dt_cond {b : Bool} {f g : Sem} (hf : Dt f) (hg : Dt g) : Dt (cond b f g) := by
  cases b
  · exact hg
  · exact hf
/-! more: bits of longs, copies, clones, arrays of arrays, a row's class, bytes read as numbers -/
def land (x y : Int) : Int := (Int64.ofInt x &&& Int64.ofInt y).toInt
def lor (x y : Int) : Int := (Int64.ofInt x ||| Int64.ofInt y).toInt
def lxor (x y : Int) : Int := (Int64.ofInt x ^^^ Int64.ofInt y).toInt
def lshl (x y : Int) : Int := (Int64.ofInt x <<< ((Int32.ofInt y).toInt64 &&& 63)).toInt
def lushr (x y : Int) : Int := ((Int64.ofInt x).toUInt64 >>> ((Int32.ofInt y).toInt64.toUInt64 &&& Int64.toUInt64 63)).toInt64.toInt
def opS (f : Int → Int → Int) (q : Nat) : Sem := fun L st h K => match st with
  | .inl y :: .inr (.inl x) :: r => K (nx q L (vL (f x y) :: r) h)
  | _ => False
theorem dt_opS {f : Int → Int → Int} {q : Nat} : Dt (opS f q) := by
  intro L st h K k
  unfold opS at k ⊢
  split at k
  · exact ⟨_, rfl, k⟩
  · exact k.elim
def cpy {α : Type} (xs ys : List α) (sp dp n : Nat) : List α := ys.take dp ++ ((xs.drop sp).take n ++ ys.drop (dp + n))
def acopy (ek : Nat → List (Nat × Nat)) (q : Nat) : Sem := fun L st h K => match st with
  | .inl n :: .inl dp :: .inr (.inr (.inl (some d))) :: .inl sp :: .inr (.inr (.inl (some s))) :: r => Nat.ble (cats r) 30 = true ∧ 0 ≤ n ∧ 0 ≤ sp ∧ 0 ≤ dp ∧
    ((∃ u xs v ys, h.I s = (u, xs) ∧ h.I d = (v, ys) ∧ v ≠ 0 ∧ u % 200 = v ∧ sp + n ≤ xs.length ∧ dp + n ≤ ys.length ∧ K (nx q L r (h.setI d (cpy xs ys sp.toNat dp.toNat n.toNat)))) ∨
     (∃ u xs v ys, h.R s = (u, xs) ∧ h.R d = (v, ys) ∧ v ≠ 0 ∧ u % 200 = v ∧ sp + n ≤ xs.length ∧ dp + n ≤ ys.length ∧ (∀ z ∈ (xs.drop sp.toNat).take n.toNat, isk h (ek v) z) ∧ K (nx q L r (h.setR d (cpy xs ys sp.toNat dp.toNat n.toNat)))))
  | _ => False
theorem dt_acopy {ek : Nat → List (Nat × Nat)} {q : Nat} : Dt (acopy ek q) := by
  intro L st h K k
  unfold acopy at k ⊢
  split at k
  · obtain ⟨h0, h1, h2, h3, ⟨x0, x1, x2, x3, x4, x5, x6, x7, x8, x9, k⟩ | ⟨x0, x1, x2, x3, x4, x5, x6, x7, x8, x9, x10, k⟩⟩ := k
    · exact ⟨_, ⟨h0, h1, h2, h3, Or.inl ⟨x0, x1, x2, x3, x4, x5, x6, x7, x8, x9, rfl⟩⟩, k⟩
    · exact ⟨_, ⟨h0, h1, h2, h3, Or.inr ⟨x0, x1, x2, x3, x4, x5, x6, x7, x8, x9, x10, rfl⟩⟩, k⟩
  · exact k.elim
def aclone (ti tr q : Nat) : Sem := fun L st h K => match st with
  | .inr (.inr (.inl (some a))) :: r => Nat.ble (cats r) 30 = true ∧ ((∃ xs, ti ≠ 0 ∧ h.I a = (ti, xs) ∧ K (nx q L (vR (some h.sz) :: r) (h.newI ti xs))) ∨ (∃ u xs, tr ≠ 0 ∧ h.R a = (u, xs) ∧ u % 200 = tr ∧ K (nx q L (vR (some h.sz) :: r) (h.newR tr xs))))
  | _ => False
theorem dt_aclone {ti tr q : Nat} : Dt (aclone ti tr q) := by
  intro L st h K k
  unfold aclone at k ⊢
  split at k
  · obtain ⟨h0, ⟨x0, x1, x2, k⟩ | ⟨x0, x1, x2, x3, x4, k⟩⟩ := k
    · exact ⟨_, ⟨h0, Or.inl ⟨x0, x1, x2, rfl⟩⟩, k⟩
    · exact ⟨_, ⟨h0, Or.inr ⟨x0, x1, x2, x3, x4, rfl⟩⟩, k⟩
  · exact k.elim
/-- so many rows of so many zeros -/
def newIs (t k : Nat) : Nat → AH → AH
  | 0, h => h
  | n + 1, h => newIs t k n (h.newI t (List.replicate k 0))
def newRs (t k : Nat) : Nat → AH → AH
  | 0, h => h
  | n + 1, h => newRs t k n (h.newR t (List.replicate k none))
def mulI (t u q : Nat) : Sem := fun L st h K => match st with
  | .inl k :: .inl n :: r => 0 ≤ n ∧ n ≤ 1000 ∧ 0 ≤ k ∧ k ≤ 1000 ∧ K (nx q L (vR (some h.sz) :: r) (newIs u k.toNat n.toNat (h.newR t ((List.range n.toNat).map fun i => some (h.sz + 1 + i)))))
  | _ => False
def mulR (t u q : Nat) : Sem := fun L st h K => match st with
  | .inl k :: .inl n :: r => 0 ≤ n ∧ n ≤ 1000 ∧ 0 ≤ k ∧ k ≤ 1000 ∧ K (nx q L (vR (some h.sz) :: r) (newRs u k.toNat n.toNat (h.newR t ((List.range n.toNat).map fun i => some (h.sz + 1 + i)))))
  | _ => False
theorem dt_mulI {t u q : Nat} : Dt (mulI t u q) := by
  intro L st h K k
  unfold mulI at k ⊢
  split at k
  · exact ⟨_, ⟨k.1, k.2.1, k.2.2.1, k.2.2.2.1, rfl⟩, k.2.2.2.2⟩
  · exact k.elim
theorem dt_mulR {t u q : Nat} : Dt (mulR t u q) := by
  intro L st h K k
  unfold mulR at k ⊢
  split at k
  · exact ⟨_, ⟨k.1, k.2.1, k.2.2.1, k.2.2.2.1, rfl⟩, k.2.2.2.2⟩
  · exact k.elim
/-- the class of a row of objects -/
def getc (c q : Nat) : Sem := fun L st h K => match st with
  | .inr (.inr (.inl (some a))) :: r => ∃ u xs, Nat.ble (cats r) 30 = true ∧ h.R a = (u, xs) ∧ u % 200 = 6 ∧ K (nx q L (vR (h.S c) :: r) h)
  | _ => False
theorem dt_getc {c q : Nat} : Dt (getc c q) := by
  intro L st h K k
  unfold getc at k ⊢
  split at k
  · obtain ⟨x0, x1, x2, x3, x4, k⟩ := k
    exact ⟨_, ⟨x0, x1, x2, x3, x4, rfl⟩, k⟩
  · exact k.elim
def leb : List Int → Int
  | [] => 0
  | b :: r => b % 256 + 256 * leb r
def unsL (q : Nat) : Sem := fun L st h K => match st with
  | .inr (.inl o) :: .inr (.inr (.inl (some a))) :: .inr (.inr (.inl (some b))) :: r => ∃ u xs v fs, Nat.ble (cats r) 30 = true ∧ h.I a = (u, xs) ∧ u = 3 ∧ h.F b = (v, fs) ∧ v % 200 = 28 ∧ 16 ≤ o ∧ o - 16 + 8 ≤ xs.length ∧ K (nx q L (vL (Int64.ofInt (leb ((xs.drop (o - 16).toNat).take 8))).toInt :: r) h)
  | _ => False
def unsI (q : Nat) : Sem := fun L st h K => match st with
  | .inr (.inl o) :: .inr (.inr (.inl (some a))) :: .inr (.inr (.inl (some b))) :: r => ∃ u xs v fs, Nat.ble (cats r) 30 = true ∧ h.I a = (u, xs) ∧ u = 3 ∧ h.F b = (v, fs) ∧ v % 200 = 28 ∧ 16 ≤ o ∧ o - 16 + 4 ≤ xs.length ∧ K (nx q L (vI (Int32.ofInt (leb ((xs.drop (o - 16).toNat).take 4))).toInt :: r) h)
  | _ => False
theorem dt_unsL {q : Nat} : Dt (unsL q) := by
  intro L st h K k
  unfold unsL at k ⊢
  split at k
  · obtain ⟨x0, x1, x2, x3, x4, x5, x6, x7, x8, x9, x10, k⟩ := k
    exact ⟨_, ⟨x0, x1, x2, x3, x4, x5, x6, x7, x8, x9, x10, rfl⟩, k⟩
  · exact k.elim
theorem dt_unsI {q : Nat} : Dt (unsI q) := by
  intro L st h K k
  unfold unsI at k ⊢
  split at k
  · obtain ⟨x0, x1, x2, x3, x4, x5, x6, x7, x8, x9, x10, k⟩ := k
    exact ⟨_, ⟨x0, x1, x2, x3, x4, x5, x6, x7, x8, x9, x10, rfl⟩, k⟩
  · exact k.elim
/-! calls that may throw: the throw goes on to the caller, or a handler takes what is of class 6 -/
def kx (hd : Option Nat) (q : Nat) (L : Ls) (r : List AV) : Rs → AH → St ⊕ (Rs × AH) := fun v h => match v with
  | .inl none => .inl (q, L, r, h)
  | .inl (some x) => .inl (q, L, x :: r, h)
  | .inr a => match hd with
    | none => .inr (.inr a, h)
    | some t => cond (Nat.beq (h.F a).1 6) (.inl (t, L, [vR (some a)], h)) (.inl (99999, [], [], h))
def ivVx (hd : Option Nat) (zz : List (Nat × Nat)) (n q : Nat) : Sem := fun L st h K => match splt n st [] with
  | some (as, .inr (.inr (.inl (some a))) :: r) => cond (Nat.ble (cats r) 8) (∃ u fs z, h.F a = (u, fs) ∧ lk zz (u % 200) = some z ∧ K (cl z (vR (some a) :: as) h (kx hd q L r))) False
  | _ => False
theorem dt_ivVx {hd : Option Nat} {zz : List (Nat × Nat)} {n q : Nat} : Dt (ivVx hd zz n q) := by
  intro L st h K k
  unfold ivVx at k ⊢
  split at k
  · cases e : Nat.ble (cats _) 8 with
    | true =>
      rw [e] at k
      obtain ⟨u, fs, z, h1, h2, k⟩ := k
      exact ⟨_, ⟨u, fs, z, h1, h2, rfl⟩, k⟩
    | false => rw [e] at k; exact k.elim
  · exact k.elim
