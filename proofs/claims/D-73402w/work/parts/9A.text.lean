/-! NAMES: texts of chains and branches -/
abbrev Tx : Type := List Int
def numT (v : Nat) : Tx := if 9 < v then [((48 + v / 10 : Nat) : Int), ((48 + v % 10 : Nat) : Int)] else [((48 + v % 10 : Nat) : Int)]
def difT : Tx → Tx → Int
  | [], l => -((l.length : Nat) : Int)
  | a :: k, [] => (((a :: k).length : Nat) : Int)
  | a :: k, b :: l => if a = b then difT k l else a - b
/-- a text comes into a row of texts, told from its end -/
def insR (t : Tx) : List Tx → List Tx
  | [] => [t]
  | x :: r => if difT t x < 0 then x :: insR t r else t :: x :: r
def hangR (tx : Nat → Tx) (l : List Nat) : List Tx := l.foldl (fun acc d => insR (tx d) acc) []
def hangT (tx : Nat → Tx) (l : List Nat) : List Tx := (hangR tx l).reverse
def nxt (G : Gr) (D : Nat → Nat → Nat) (a b : Nat) : Nat := ((nb G a).find? fun d => decide (D d b + 1 = D a b)).getD 0
def pthL (G : Gr) (D : Nat → Nat → Nat) : Nat → Nat → Nat → List Nat
  | 0, a, _ => [a]
  | f + 1, a, b => a :: pthL G D f (nxt G D a b) b
def ptN (P : List Nat) (i : Nat) : Nat := P[i]?.getD 0
/-- who hangs at the i-th of a way, seen from one (none: -1) -/
def hn (G : Gr) (P : List Nat) (fr : Int) (i : Nat) : List Nat := (nb G (ptN P i)).filter fun d => !decide (((d : Nat) : Int) = fr) && (!(decide (0 < i) && Nat.beq d (ptN P (i - 1))) && !(decide (i + 1 < P.length) && Nat.beq d (ptN P (i + 1))))
def oneT (i : Nat) (t : Tx) : Tx := 45 :: (numT (i + 1) ++ 58 :: t)
def chF (G : Gr) (tx : Nat → Nat → Tx) (P : List Nat) (fr : Int) : Nat → Tx
  | 0 => numT P.length
  | i + 1 => chF G tx P fr i ++ (hangT (tx (ptN P i)) (hn G P fr i)).flatMap (oneT i)
def chT (G : Gr) (tx : Nat → Nat → Tx) (P : List Nat) (fr : Int) : Tx := chF G tx P fr P.length
def minT (acc t : Tx) : Tx := if acc = [] then t else if difT t acc < 0 then t else acc
def endsB (G : Gr) (D : Nat → Nat → Nat) (a c : Nat) : List Nat := (List.range G.1).filter fun e => decide (inB D a c e) && decide (D c e + 1 = tallT (TT G a c))
def wrapT (p : Bool) (t : Tx) : Tx := cond p t (40 :: (t ++ [41]))
def brX (G : Gr) (D : Nat → Nat → Nat) : Nat → Nat → Nat → Tx
  | 0, _, _ => []
  | f + 1, a, c => wrapT (Nat.beq (tallT (TT G a c)) (szT (TT G a c))) ((endsB G D a c).foldl (fun acc e => minT acc (chT G (brX G D f) (pthL G D (D c e) c e) ((a : Nat) : Int))) [])
theorem numT_len (v : Nat) : 1 ≤ (numT v).length ∧ (numT v).length ≤ 2 := by
  unfold numT
  split
  · exact ⟨Nat.le_add_left 1 1, Nat.le_refl 2⟩
  · exact ⟨Nat.le_refl 1, Nat.le_add_left 1 1⟩
theorem insR_mem {t x : Tx} : ∀ {l : List Tx}, x ∈ insR t l ↔ x = t ∨ x ∈ l
  | [] => by simp [insR]
  | y :: r => by
    unfold insR
    split
    · simp only [List.mem_cons, insR_mem (l := r)]
      constructor <;> rintro (h | h | h) <;> simp [h]
    · simp
theorem insR_sum {t : Tx} (f : Tx → Nat) : ∀ {l : List Tx}, ((insR t l).map f).sum = f t + (l.map f).sum
  | [] => by simp [insR]
  | y :: r => by
    unfold insR
    split
    · simp [insR_sum f (l := r)]; omega
    · simp
theorem insR_len {t : Tx} : ∀ {l : List Tx}, (insR t l).length = l.length + 1
  | [] => rfl
  | y :: r => by
    unfold insR
    split
    · simp [insR_len (l := r)]
    · rfl
theorem hangR_snoc (tx : Nat → Tx) (l : List Nat) (e : Nat) : hangR tx (l ++ [e]) = insR (tx e) (hangR tx l) := by unfold hangR; rw [List.foldl_append]; rfl
theorem foldl_insR (tx : Nat → Tx) (f : Tx → Nat) : ∀ (l : List Nat) (m : List Tx), ((l.foldl (fun acc d => insR (tx d) acc) m).map f).sum = (m.map f).sum + (l.map fun d => f (tx d)).sum
  | [], m => by simp
  | e :: r, m => by
    rw [List.foldl_cons, foldl_insR tx f r, insR_sum]
    simp; omega
theorem hangT_sum (tx : Nat → Tx) (f : Tx → Nat) (l : List Nat) : ((hangT tx l).map f).sum = (l.map fun d => f (tx d)).sum := by
  unfold hangT hangR
  rw [List.map_reverse, List.sum_reverse, foldl_insR]
  simp
theorem foldl_insR_len (tx : Nat → Tx) : ∀ (l : List Nat) (m : List Tx), (l.foldl (fun acc d => insR (tx d) acc) m).length = m.length + l.length
  | [], m => by simp
  | e :: r, m => by
    rw [List.foldl_cons, foldl_insR_len tx r, insR_len]
    simp; omega
theorem hangT_len (tx : Nat → Tx) (l : List Nat) : (hangT tx l).length = l.length := by
  unfold hangT hangR
  rw [List.length_reverse, foldl_insR_len]
  simp
theorem hangR_mem (tx : Nat → Tx) {x : Tx} : ∀ (l : List Nat) (m : List Tx), x ∈ l.foldl (fun acc d => insR (tx d) acc) m ↔ x ∈ m ∨ ∃ e, e ∈ l ∧ x = tx e
  | [], m => by simp
  | e :: r, m => by
    rw [List.foldl_cons, hangR_mem tx r, insR_mem]
    simp only [List.mem_cons]
    constructor
    · rintro ((h | h) | ⟨y, h1, h2⟩)
      · exact Or.inr ⟨e, Or.inl rfl, h⟩
      · exact Or.inl h
      · exact Or.inr ⟨y, Or.inr h1, h2⟩
    · rintro (h | ⟨y, rfl | h1, h2⟩)
      · exact Or.inl (Or.inr h)
      · exact Or.inl (Or.inl h2)
      · exact Or.inr ⟨y, h1, h2⟩
theorem hangT_congr {tx tx' : Nat → Tx} {l : List Nat} (h : ∀ e, e ∈ l → tx e = tx' e) : hangT tx l = hangT tx' l := by
  unfold hangT hangR
  congr 1
  have : ∀ (l : List Nat) (m : List Tx), (∀ e, e ∈ l → tx e = tx' e) → l.foldl (fun acc d => insR (tx d) acc) m = l.foldl (fun acc d => insR (tx' d) acc) m := by
    intro l
    induction l with
    | nil => intro m _; rfl
    | cons x r ih =>
      intro m h
      rw [List.foldl_cons, List.foldl_cons, h x List.mem_cons_self]
      exact ih _ fun e he => h e (List.mem_cons_of_mem _ he)
  exact this l [] h
theorem chF_congr {G : Gr} {tx tx' : Nat → Nat → Tx} {P : List Nat} {fr : Int} : ∀ (m : Nat), (∀ i, i < m → ∀ e, e ∈ hn G P fr i → tx (ptN P i) e = tx' (ptN P i) e) → chF G tx P fr m = chF G tx' P fr m
  | 0, _ => rfl
  | m + 1, h => by
    unfold chF
    rw [chF_congr m fun i hi => h i (by omega), hangT_congr (h m (by omega))]
section TXT
variable {G : Gr} {D : Nat → Nat → Nat}
theorem nxt_ok (hD : Far G D) (hG : G.wf) {a b : Nat} (ha : a < G.1) (hb : b < G.1) (hne : a ≠ b) : G.2 a (nxt G D a b) = true ∧ D (nxt G D a b) b + 1 = D a b := by
  obtain ⟨c, c1, c2⟩ := hD.near ha hb hne
  unfold nxt
  cases e : (nb G a).find? fun d => decide (D d b + 1 = D a b) with
  | none =>
    have := List.find?_eq_none.mp e c ((nb_mem hG).mpr c1)
    rw [decide_eq_true c2] at this
    exact absurd rfl this
  | some x =>
    have h1 := List.mem_of_find?_eq_some e
    have h2 := List.find?_some e
    exact ⟨(nb_mem hG).mp h1, of_decide_eq_true h2⟩
theorem pth_len : ∀ f a b, (pthL G D f a b).length = f + 1
  | 0, _, _ => rfl
  | f + 1, a, b => by unfold pthL; rw [List.length_cons, pth_len]
theorem pt_zero : ∀ f a b, ptN (pthL G D f a b) 0 = a
  | 0, _, _ => rfl
  | _ + 1, _, _ => rfl
theorem pt_succ {f a b i : Nat} : ptN (pthL G D (f + 1) a b) (i + 1) = ptN (pthL G D f (nxt G D a b) b) i := by
  unfold ptN
  show (a :: pthL G D f (nxt G D a b) b)[i + 1]?.getD 0 = _
  rw [List.getElem?_cons_succ]
/-- along a way: each step is a bond and comes nearer -/
theorem pt_way (hG : G.wf) (hD : Far G D) : ∀ (f a b : Nat), a < G.1 → b < G.1 → D a b = f → ∀ i, i ≤ f → ptN (pthL G D f a b) i < G.1 ∧ D (ptN (pthL G D f a b) i) b + i = f ∧ (i < f → G.2 (ptN (pthL G D f a b) i) (ptN (pthL G D f a b) (i + 1)) = true)
  | 0, a, b, ha, hb, hf, i, hi => by
    obtain rfl : i = 0 := by omega
    exact ⟨ha, by rw [pt_zero]; omega, fun h => by omega⟩
  | f + 1, a, b, ha, hb, hf, i, hi => by
    have hne : a ≠ b := by
      rintro rfl
      rw [(hD a a ha ha).2.1.mpr rfl] at hf
      omega
    obtain ⟨n1, n2⟩ := nxt_ok hD hG ha hb hne
    have hn := (hG.2.2 _ _ n1).2.1
    have ih := pt_way hG hD f (nxt G D a b) b hn hb (by omega)
    cases i with
    | zero =>
      rw [pt_zero, pt_succ, pt_zero]
      exact ⟨ha, by omega, fun _ => n1⟩
    | succ i =>
      rw [pt_succ, pt_succ]
      obtain ⟨q1, q2, q3⟩ := ih i (by omega)
      exact ⟨q1, by omega, fun h => q3 (by omega)⟩
theorem map_sum_split (l : List Nat) (p : Nat → Bool) (f : Nat → Nat) : (l.map f).sum = ((l.filter p).map f).sum + ((l.filter fun x => !p x).map f).sum := by
  induction l with
  | nil => rfl
  | cons x r ih =>
    rw [List.map_cons, List.sum_cons, ih]
    cases e : p x <;> simp [e] <;> omega
theorem filter_single {l : List Nat} (hl : l.Nodup) {x : Nat} (hx : x ∈ l) : (l.filter fun e => Nat.beq e x) = [x] := by
  induction l with
  | nil => cases hx
  | cons y r ih =>
    obtain ⟨h1, h2⟩ := List.nodup_cons.mp hl
    by_cases c : y = x
    · subst c
      rw [List.filter_cons, if_pos (Nat.beq_refl _)]
      congr 1
      rw [List.filter_eq_nil_iff]
      intro e he
      rw [beqN]
      rintro rfl
      exact h1 he
    · rw [List.filter_cons, if_neg (by rw [beqN]; exact c)]
      exact ih h2 (by rcases List.mem_cons.mp hx with rfl | h; exact absurd rfl c; exact h)
/-- from where a way is seen: a neighbour behind whom it lies, or from nowhere -/
abbrev seenF (G : Gr) (D : Nat → Nat → Nat) (a c b : Nat) (fr : Int) : Prop := (G.2 a c = true ∧ inB D a c b ∧ fr = ((a : Nat) : Int)) ∨ (a = 16 ∧ fr = -1)
def prv (P : List Nat) (a i : Nat) : Nat := if i = 0 then a else ptN P (i - 1)
theorem pt_in (hG : G.wf) (hD : Far G D) {f a c b : Nat} (hac : G.2 a c = true) (hin : inB D a c b) (hb : b < G.1) (hf : D c b = f) : ∀ i, i ≤ f → inB D a c (ptN (pthL G D f c b) i)
  | 0, _ => by rw [pt_zero]; exact (hD.self hG hac).1
  | i + 1, hi => by
    have hc := (hG.2.2 _ _ hac).2.1
    have ih := pt_in hG hD hac hin hb hf i (by omega)
    obtain ⟨w1, w2, w3⟩ := pt_way hG hD f c b hc hb hf i (by omega)
    obtain ⟨v1, v2, -⟩ := pt_way hG hD f c b hc hb hf (i + 1) hi
    apply Classical.byContradiction
    intro hn
    obtain ⟨e1, e2⟩ := Far.edge hG hD hac (w3 (by omega)) ih hn
    rw [e2] at v2
    rw [e1] at w2
    unfold inB at hin
    omega
theorem hn_sum (hG : G.wf) (hD : Far G D) {f a c b : Nat} {fr : Int} (hs : seenF G D a c b fr) (hc : c < G.1) (hb : b < G.1) (hf : D c b = f) (g : Nat → Nat) {i : Nat} (hi : i ≤ f) :
    ((ch G (prv (pthL G D f c b) a i) (ptN (pthL G D f c b) i)).map g).sum = ((hn G (pthL G D f c b) fr i).map g).sum + (if i < f then g (ptN (pthL G D f c b) (i + 1)) else 0) := by
  obtain ⟨w1, w2, w3⟩ := pt_way hG hD f c b hc hb hf i hi
  have hl := pth_len (G := G) (D := D) f c b
  have hdif : ∀ x y, x ≤ f → y ≤ f → ptN (pthL G D f c b) x = ptN (pthL G D f c b) y → x = y := by
    intro x y hx hy e
    have h1 := (pt_way hG hD f c b hc hb hf x hx).2.1
    have h2 := (pt_way hG hD f c b hc hb hf y hy).2.1
    rw [e] at h1
    omega
  have e1 : hn G (pthL G D f c b) fr i = (ch G (prv (pthL G D f c b) a i) (ptN (pthL G D f c b) i)).filter fun d => !(decide (i < f) && Nat.beq d (ptN (pthL G D f c b) (i + 1))) := by
    unfold hn ch
    rw [List.filter_filter]
    refine List.filter_congr fun d hd => ?_
    have hd := (nb_mem hG).mp hd
    have hdl := (hG.2.2 _ _ hd).2.1
    have hn16 := hG.2.1
    rw [hl, show decide (i + 1 < f + 1) = decide (i < f) by by_cases q : i < f <;> simp [q], Bool.and_comm (!(decide (i < f) && _))]
    rw [← Bool.and_assoc]
    congr 1
    unfold prv
    by_cases ei : i = 0
    · subst ei
      rw [if_pos rfl, decide_eq_false (Nat.lt_irrefl 0), Bool.false_and, Bool.not_false, Bool.and_true]
      rcases hs with ⟨h1, h2, h3⟩ | ⟨h1, h2⟩
      · rw [h3]
        by_cases q : d = a
        · subst q; rw [Nat.beq_refl, decide_eq_true rfl]
        · rw [beq_ff q, decide_eq_false (by omega)]
      · rw [h2, beq_ff (by omega), decide_eq_false (by omega)]
    · rw [if_neg ei, decide_eq_true (by omega : 0 < i), Bool.true_and]
      have : ¬ ((d : Nat) : Int) = fr := by
        rcases hs with ⟨h1, h2, h3⟩ | ⟨h1, h2⟩
        · rw [h3]
          intro q
          obtain rfl : d = a := by omega
          have hin := pt_in hG hD h1 h2 hb hf i hi
          obtain ⟨q1, -⟩ := Far.edge hG hD h1 hd hin (hD.self hG h1).2
          have := hdif i 0 hi (Nat.zero_le _) (by rw [q1, pt_zero])
          exact ei this
        · omega
      rw [decide_eq_false this, Bool.not_false, Bool.true_and]
  rw [e1]
  by_cases ci : i < f
  · have hnext := w3 ci
    have hmem : ptN (pthL G D f c b) (i + 1) ∈ ch G (prv (pthL G D f c b) a i) (ptN (pthL G D f c b) i) := by
      refine (ch_mem hG).mpr ⟨hnext, ?_⟩
      unfold prv
      by_cases ei : i = 0
      · rw [if_pos ei]
        have hn16 := hG.2.1
        have hlt := (hG.2.2 _ _ hnext).2.1
        rcases hs with ⟨h1, h2, h3⟩ | ⟨h1, h2⟩
        · intro q
          have hin := pt_in hG hD h1 h2 hb hf (i + 1) (by omega)
          rw [q] at hin
          exact (hD.self hG h1).2 hin
        · omega
      · rw [if_neg ei]
        intro q
        have := hdif _ _ (by omega) (by omega) q
        omega
    have hnd : (ch G (prv (pthL G D f c b) a i) (ptN (pthL G D f c b) i)).Nodup := List.Pairwise.filter _ (nb_nodup G _)
    rw [if_pos ci, map_sum_split _ (fun d => Nat.beq d (ptN (pthL G D f c b) (i + 1))) g, filter_single hnd hmem]
    rw [decide_eq_true ci]
    simp only [Bool.true_and, List.map_cons, List.map_nil, List.sum_cons, List.sum_nil]
    omega
  · rw [if_neg ci, decide_eq_false ci, Nat.add_zero]
    simp only [Bool.false_and, Bool.not_false]
    rw [List.filter_eq_self.mpr fun _ _ => rfl]
/-- what hangs along a way and the way itself are all that is seen -/
theorem hang_sum (hG : G.wf) (hD : Far G D) {f a c b : Nat} {fr : Int} (hs : seenF G D a c b fr) (hc : c < G.1) (hb : b < G.1) (hf : D c b = f) : ∀ i, i ≤ f →
    (sumR i fun k => ((hn G (pthL G D f c b) fr k).map (bsz G D (ptN (pthL G D f c b) k))).sum) + i + (1 + ((ch G (prv (pthL G D f c b) a i) (ptN (pthL G D f c b) i)).map (bsz G D (ptN (pthL G D f c b) i))).sum) = 1 + ((ch G a c).map (bsz G D c)).sum
  | 0, _ => by
    unfold prv
    rw [if_pos rfl, pt_zero]
    show 0 + 0 + _ = _
    omega
  | i + 1, hi => by
    have ih := hang_sum hG hD hs hc hb hf i (by omega)
    have h1 := hn_sum hG hD hs hc hb hf (bsz G D (ptN (pthL G D f c b) i)) (i := i) (by omega)
    obtain ⟨w1, w2, w3⟩ := pt_way hG hD f c b hc hb hf i (by omega)
    have h2 := bsz_eq hG hD (w3 (by omega))
    rw [if_pos (by omega), h2] at h1
    have e : prv (pthL G D f c b) a (i + 1) = ptN (pthL G D f c b) i := by unfold prv; rw [if_neg (by omega)]; rfl
    rw [e]
    show (sumR i _ + ((hn G (pthL G D f c b) fr i).map (bsz G D (ptN (pthL G D f c b) i))).sum) + (i + 1) + _ = _
    omega
theorem hang_all (hG : G.wf) (hD : Far G D) {f a c b : Nat} {fr : Int} (hs : seenF G D a c b fr) (hc : c < G.1) (hb : b < G.1) (hf : D c b = f) :
    (sumR (f + 1) fun k => ((hn G (pthL G D f c b) fr k).map (bsz G D (ptN (pthL G D f c b) k))).sum) + (f + 1) = 1 + ((ch G a c).map (bsz G D c)).sum := by
  have h1 := hang_sum hG hD hs hc hb hf f (Nat.le_refl _)
  have h2 := hn_sum hG hD hs hc hb hf (bsz G D (ptN (pthL G D f c b) f)) (i := f) (Nat.le_refl _)
  rw [if_neg (Nat.lt_irrefl f)] at h2
  rw [h2] at h1
  show (sumR f _ + ((hn G (pthL G D f c b) fr f).map (bsz G D (ptN (pthL G D f c b) f))).sum) + (f + 1) = _
  omega
/-- who hangs is a branch of its own, less than what is seen -/
theorem hn_mem (hG : G.wf) {P : List Nat} {fr : Int} {i e : Nat} (h : e ∈ hn G P fr i) : G.2 (ptN P i) e = true := (nb_mem hG).mp (List.mem_filter.mp h).1
theorem sum_mem {l : List Nat} {g : Nat → Nat} {e : Nat} (h : e ∈ l) : g e ≤ (l.map g).sum := by
  induction l with
  | nil => cases h
  | cons x r ih =>
    rw [List.map_cons, List.sum_cons]
    rcases List.mem_cons.mp h with rfl | h
    · omega
    · have := ih h; omega
theorem sumR_mem {n i : Nat} {g : Nat → Nat} (h : i < n) : g i ≤ sumR n g := by
  induction n with
  | zero => omega
  | succ n ih =>
    show _ ≤ sumR n g + g n
    by_cases c : i = n
    · subst c; omega
    · have := ih (by omega); omega
theorem hn_less (hG : G.wf) (hD : Far G D) {f a c b : Nat} {fr : Int} (hs : seenF G D a c b fr) (hc : c < G.1) (hb : b < G.1) (hf : D c b = f) {i e : Nat} (hi : i ≤ f) (he : e ∈ hn G (pthL G D f c b) fr i) : bsz G D (ptN (pthL G D f c b) i) e < 1 + ((ch G a c).map (bsz G D c)).sum := by
  have h1 := hang_all hG hD hs hc hb hf
  have h2 := sumR_mem (n := f + 1) (i := i) (g := fun k => ((hn G (pthL G D f c b) fr k).map (bsz G D (ptN (pthL G D f c b) k))).sum) (by omega)
  have h3 := sum_mem (g := bsz G D (ptN (pthL G D f c b) i)) he
  omega
end TXT
