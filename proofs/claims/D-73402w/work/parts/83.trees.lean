/-! TREES AS TERMS: 'var' is the end of a row of trees, 'op a b' the tree a ahead of the row b; a tree is the row of what hangs on its first carbon -/
abbrev Tr : Type := Lean.Data.AC.Expr
def kidsT : Tr → List Tr
  | .var _ => []
  | .op a b => a :: kidsT b
def mkT : List Tr → Tr
  | [] => .var 0
  | a :: r => .op a (mkT r)
def okT0 : Tr → Prop
  | .var n => n = 0
  | .op a b => okT0 a ∧ okT0 b
def szT : Tr → Nat
  | .var _ => 1
  | .op a b => szT a + szT b
def tallT : Tr → Nat
  | .var _ => 1
  | .op a b => max (tallT a + 1) (tallT b)
theorem kids_mk : ∀ l : List Tr, kidsT (mkT l) = l
  | [] => rfl
  | a :: r => by simp only [mkT, kidsT, kids_mk r]
theorem mk_kids : ∀ t : Tr, okT0 t → mkT (kidsT t) = t
  | .var n, h => by have h : n = 0 := h; subst h; rfl
  | .op a b, h => by simp only [mkT, kidsT, mk_kids b h.2]
theorem ok_mk : ∀ l : List Tr, (∀ a, a ∈ l → okT0 a) → okT0 (mkT l)
  | [], _ => rfl
  | a :: r, h => ⟨h a List.mem_cons_self, ok_mk r fun x hx => h x (List.mem_cons_of_mem _ hx)⟩
theorem ok_kid : ∀ (t : Tr), okT0 t → ∀ a, a ∈ kidsT t → okT0 a
  | .var _, _, a, h => nomatch h
  | .op x y, h, a, ha => by
    rcases List.mem_cons.mp ha with rfl | ha
    · exact h.1
    · exact ok_kid y h.2 a ha
theorem sz_pos : ∀ t : Tr, 1 ≤ szT t
  | .var _ => Nat.le_refl _
  | .op a b => by have := sz_pos a; simp only [szT]; omega
theorem sz_mk : ∀ l : List Tr, szT (mkT l) = 1 + (l.map szT).sum
  | [] => rfl
  | a :: r => by simp only [mkT, szT, sz_mk r, List.map_cons, List.sum_cons]; omega
theorem sz_kid : ∀ (t a : Tr), a ∈ kidsT t → szT a < szT t
  | .var _, a, h => nomatch h
  | .op x y, a, ha => by
    have := sz_pos y
    have := sz_pos x
    rcases List.mem_cons.mp ha with rfl | ha
    · simp only [szT]; omega
    · have := sz_kid y a ha; simp only [szT]; omega
theorem tall_pos : ∀ t : Tr, 1 ≤ tallT t
  | .var _ => Nat.le_refl _
  | .op a b => by have := tall_pos b; simp only [tallT]; omega
theorem tall_kid : ∀ (t a : Tr), a ∈ kidsT t → tallT a < tallT t
  | .var _, a, h => nomatch h
  | .op x y, a, ha => by
    rcases List.mem_cons.mp ha with rfl | ha
    · simp only [tallT]; omega
    · have := tall_kid y a ha; simp only [tallT]; omega
theorem tall_at : ∀ (t : Tr), (kidsT t = [] ∧ tallT t = 1) ∨ ∃ a, a ∈ kidsT t ∧ tallT t = tallT a + 1
  | .var _ => Or.inl ⟨rfl, rfl⟩
  | .op x y => by
    right
    by_cases c : tallT y ≤ tallT x + 1
    · exact ⟨x, List.mem_cons_self, by simp only [tallT]; omega⟩
    · rcases tall_at y with ⟨h1, h2⟩ | ⟨a, h1, h2⟩
      · omega
      · exact ⟨a, List.mem_cons_of_mem _ h1, by simp only [tallT]; omega⟩
theorem tall_le_sz : ∀ t : Tr, tallT t ≤ szT t
  | .var _ => Nat.le_refl _
  | .op x y => by have := tall_le_sz x; have := tall_le_sz y; have := sz_pos y; have := sz_pos x; simp only [tallT, szT]; omega
/-- by parts, then by how many -/
def lexT : Tr → Tr → Int
  | .var _, .var _ => 0
  | .var _, .op _ _ => -1
  | .op _ _, .var _ => 1
  | .op a b, .op c e => if szT a < szT c then -1 else if szT c < szT a then 1 else if lexT a c = 0 then lexT b e else lexT a c
/-- by size, then by parts -/
def cmpT (a c : Tr) : Int := if szT a < szT c then -1 else if szT c < szT a then 1 else lexT a c
theorem lexT_op {a b c e : Tr} : lexT (.op a b) (.op c e) = if cmpT a c = 0 then lexT b e else cmpT a c := by
  unfold cmpT
  rw [lexT]
  by_cases h1 : szT a < szT c
  · simp [h1]
  · by_cases h2 : szT c < szT a
    · simp [h1, h2]
    · simp [h1, h2]
theorem lexT_rng : ∀ a c : Tr, lexT a c = -1 ∨ lexT a c = 0 ∨ lexT a c = 1
  | .var _, .var _ => by simp [lexT]
  | .var _, .op _ _ => by simp [lexT]
  | .op _ _, .var _ => by simp [lexT]
  | .op a b, .op c e => by
    have h1 := lexT_rng a c
    have h2 := lexT_rng b e
    rw [lexT]
    split
    · simp
    · split
      · simp
      · split
        · exact h2
        · exact h1
theorem cmpT_rng (a c : Tr) : cmpT a c = -1 ∨ cmpT a c = 0 ∨ cmpT a c = 1 := by
  unfold cmpT
  split
  · simp
  · split
    · simp
    · exact lexT_rng a c
theorem lexT_self : ∀ a : Tr, lexT a a = 0
  | .var _ => by simp [lexT]
  | .op a b => by rw [lexT]; simp [lexT_self a, lexT_self b]
theorem cmpT_self (a : Tr) : cmpT a a = 0 := by unfold cmpT; simp [lexT_self]
theorem lexT_neg : ∀ a c : Tr, lexT c a = - lexT a c
  | .var _, .var _ => by simp [lexT]
  | .var _, .op _ _ => by simp [lexT]
  | .op _ _, .var _ => by simp [lexT]
  | .op a b, .op c e => by
    have h1 := lexT_neg a c
    have h2 := lexT_neg b e
    rw [lexT, lexT]
    by_cases c1 : szT a < szT c
    · rw [if_pos c1, if_neg (by omega), if_pos c1]; rfl
    · by_cases c2 : szT c < szT a
      · rw [if_pos c2, if_neg c1, if_pos c2]
      · rw [if_neg c1, if_neg c2, if_neg c2, if_neg c1]
        by_cases c3 : lexT a c = 0
        · rw [if_pos c3, if_pos (by omega), h2]
        · rw [if_neg c3, if_neg (by omega), h1]
theorem cmpT_neg (a c : Tr) : cmpT c a = - cmpT a c := by
  unfold cmpT
  by_cases c1 : szT a < szT c
  · rw [if_pos c1, if_neg (by omega), if_pos c1]; rfl
  · by_cases c2 : szT c < szT a
    · rw [if_pos c2, if_neg c1, if_pos c2]
    · rw [if_neg c1, if_neg c2, if_neg c2, if_neg c1, lexT_neg]
theorem lexT_eq : ∀ a c : Tr, okT0 a → okT0 c → lexT a c = 0 → a = c
  | .var n, .var m, h1, h2, _ => by have h1 : n = 0 := h1; have h2 : m = 0 := h2; rw [h1, h2]
  | .var _, .op _ _, _, _, h => by simp [lexT] at h
  | .op _ _, .var _, _, _, h => by simp [lexT] at h
  | .op a b, .op c e, h1, h2, h => by
    rw [lexT] at h
    split at h
    · exact absurd h (by decide)
    · split at h
      · exact absurd h (by decide)
      · split at h
        · rename_i h3
          rw [lexT_eq a c h1.1 h2.1 h3, lexT_eq b e h1.2 h2.2 h]
        · rename_i h3
          exact absurd h h3
theorem cmpT_eq {a c : Tr} (h1 : okT0 a) (h2 : okT0 c) : cmpT a c = 0 ↔ a = c := by
  constructor
  · intro h
    unfold cmpT at h
    split at h
    · exact absurd h (by decide)
    · split at h
      · exact absurd h (by decide)
      · exact lexT_eq a c h1 h2 h
  · rintro rfl; exact cmpT_self a
/-- not below, and not below: not below -/
theorem lexT_trans : ∀ a b c : Tr, 0 ≤ lexT a b → 0 ≤ lexT b c → 0 ≤ lexT a c ∧ (lexT a c = 0 → lexT a b = 0 ∧ lexT b c = 0)
  | .var _, .var _, .var _, _, _ => by simp [lexT]
  | .var _, .var _, .op _ _, _, h => by simp [lexT] at h
  | .var _, .op _ _, _, h, _ => by simp [lexT] at h
  | .op _ _, .var _, .op _ _, _, h => by simp [lexT] at h
  | .op _ _, .var _, .var _, _, _ => by simp [lexT]
  | .op _ _, .op _ _, .var _, _, _ => by simp [lexT]
  | .op a x, .op b y, .op c z, h1, h2 => by
    have i1 := lexT_trans a b c
    have i2 := lexT_trans x y z
    have ra := lexT_rng a b
    have rb := lexT_rng b c
    have rc := lexT_rng a c
    rw [lexT] at h1 h2 ⊢
    rw [lexT, lexT]
    by_cases c1 : szT a < szT b
    · rw [if_pos c1] at h1; exact absurd h1 (by decide)
    · by_cases c2 : szT b < szT c
      · rw [if_pos c2] at h2; exact absurd h2 (by decide)
      · rw [if_neg c1] at h1 ⊢
        rw [if_neg c2] at h2 ⊢
        rw [if_neg (show ¬ szT a < szT c by omega)]
        by_cases c3 : szT b < szT a
        · rw [if_pos (show szT c < szT a by omega)]; exact ⟨by decide, fun h => absurd h (by decide)⟩
        · rw [if_neg c3] at h1 ⊢
          by_cases c4 : szT c < szT b
          · rw [if_pos (show szT c < szT a by omega)]; exact ⟨by decide, fun h => absurd h (by decide)⟩
          · rw [if_neg c4] at h2 ⊢
            rw [if_neg (show ¬ szT c < szT a by omega)]
            by_cases c5 : lexT a b = 0
            · rw [if_pos c5] at h1 ⊢
              by_cases c6 : lexT b c = 0
              · rw [if_pos c6] at h2 ⊢
                have h3 : lexT a c = 0 := by
                  have k := i1 (by omega) (by omega)
                  have k2 := lexT_trans c b a (by rw [lexT_neg]; omega) (by rw [lexT_neg]; omega)
                  rw [lexT_neg a c] at k2
                  omega
                rw [if_pos h3]
                exact i2 h1 h2
              · rw [if_neg c6] at h2 ⊢
                have k := i1 (by omega) h2
                have h3 : lexT a c ≠ 0 := fun e => c6 (k.2 e).2
                rw [if_neg h3]
                exact ⟨k.1, fun e => absurd e h3⟩
            · rw [if_neg c5] at h1 ⊢
              by_cases c6 : lexT b c = 0
              · have k := i1 h1 (by omega)
                have h3 : lexT a c ≠ 0 := fun e => c5 (k.2 e).1
                rw [if_neg h3]
                exact ⟨k.1, fun e => absurd e h3⟩
              · rw [if_neg c6] at h2 ⊢
                have k := i1 h1 h2
                have h3 : lexT a c ≠ 0 := fun e => c5 (k.2 e).1
                rw [if_neg h3]
                exact ⟨k.1, fun e => absurd e h3⟩
  termination_by a b c => szT a + szT b + szT c
  decreasing_by
    all_goals (have := sz_pos a; have := sz_pos b; have := sz_pos c; have := sz_pos x; have := sz_pos y; have := sz_pos z; simp only [szT]; omega)
theorem cmpT_trans {a b c : Tr} (h1 : 0 ≤ cmpT a b) (h2 : 0 ≤ cmpT b c) : 0 ≤ cmpT a c := by
  unfold cmpT at *
  by_cases c1 : szT a < szT b
  · rw [if_pos c1] at h1; exact absurd h1 (by decide)
  · by_cases c2 : szT b < szT c
    · rw [if_pos c2] at h2; exact absurd h2 (by decide)
    · rw [if_neg c1] at h1
      rw [if_neg c2] at h2
      rw [if_neg (show ¬ szT a < szT c by omega)]
      by_cases c5 : szT c < szT a
      · rw [if_pos c5]; decide
      · rw [if_neg c5]
        rw [if_neg (by omega)] at h1 h2
        exact (lexT_trans a b c h1 h2).1
/-- a tree comes into a row, behind those that are not below it -/
def insT (b : Tr) : List Tr → List Tr
  | [] => [b]
  | x :: r => if cmpT x b < 0 then b :: x :: r else x :: insT b r
def srtT (l : List Tr) : List Tr := l.foldl (fun acc b => insT b acc) []
def sortedT : List Tr → Prop
  | [] => True
  | a :: r => (∀ b, b ∈ r → 0 ≤ cmpT a b) ∧ sortedT r
theorem ins_mem {b x : Tr} : ∀ {l : List Tr}, x ∈ insT b l ↔ x = b ∨ x ∈ l
  | [] => by simp [insT]
  | y :: r => by
    unfold insT
    split
    · simp
    · simp only [List.mem_cons, ins_mem (l := r)]
      constructor <;> rintro (h | h | h) <;> simp [h]
theorem ins_sorted {b : Tr} : ∀ {l : List Tr}, sortedT l → sortedT (insT b l)
  | [], _ => ⟨fun _ h => (nomatch h), trivial⟩
  | y :: r, h => by
    unfold insT
    split
    · rename_i c
      have hb : 0 ≤ cmpT b y := by rw [cmpT_neg]; omega
      refine ⟨fun z hz => ?_, h⟩
      rcases List.mem_cons.mp hz with rfl | hz
      · exact hb
      · exact cmpT_trans hb (h.1 z hz)
    · rename_i c
      refine ⟨fun z hz => ?_, ins_sorted h.2⟩
      rcases ins_mem.mp hz with rfl | hz
      · omega
      · exact h.1 z hz
theorem ins_len {b : Tr} : ∀ {l : List Tr}, (insT b l).length = l.length + 1
  | [] => rfl
  | y :: r => by
    unfold insT
    split
    · rfl
    · simp [ins_len (l := r)]
theorem ins_sum {b : Tr} (f : Tr → Nat) : ∀ {l : List Tr}, ((insT b l).map f).sum = f b + (l.map f).sum
  | [] => by simp [insT]
  | y :: r => by
    unfold insT
    split
    · simp
    · simp [ins_sum f (l := r)]; omega
theorem foldl_ins (P : List Tr → List Tr → Prop) (h : ∀ l m b, P l m → P (l ++ [b]) (insT b m)) : ∀ (l l0 m : List Tr), P l0 m → P (l0 ++ l) (l.foldl (fun acc b => insT b acc) m)
  | [], l0, m, k => by simpa using k
  | b :: r, l0, m, k => by
    have := foldl_ins P h r (l0 ++ [b]) (insT b m) (h l0 m b k)
    simpa using this
theorem srt_all (P : List Tr → List Tr → Prop) (h0 : P [] []) (h : ∀ l m b, P l m → P (l ++ [b]) (insT b m)) (l : List Tr) : P l (srtT l) := by
  have := foldl_ins P h l [] [] h0
  rw [List.nil_append] at this
  exact this
theorem srt_snoc (l : List Tr) (b : Tr) : srtT (l ++ [b]) = insT b (srtT l) := by unfold srtT; simp
theorem srt_mem {x : Tr} (l : List Tr) : x ∈ srtT l ↔ x ∈ l := by
  refine srt_all (fun l m => x ∈ m ↔ x ∈ l) (Iff.rfl) (fun l m b k => ?_) l
  rw [ins_mem, k]; simp [or_comm]
theorem srt_sorted (l : List Tr) : sortedT (srtT l) := srt_all (fun _ m => sortedT m) trivial (fun _ _ _ k => ins_sorted k) l
theorem srt_len (l : List Tr) : (srtT l).length = l.length := srt_all (fun l m => m.length = l.length) rfl (fun l m b k => by rw [ins_len, k]; simp) l
theorem srt_sum (f : Tr → Nat) (l : List Tr) : ((srtT l).map f).sum = (l.map f).sum := srt_all (fun l m => (m.map f).sum = (l.map f).sum) rfl (fun l m b k => by rw [ins_sum, k]; simp; omega) l
/-- the place where a tree comes in does not hang on the order in which others came -/
theorem ins_comm {a b : Tr} (ha : okT0 a) (hb : okT0 b) : ∀ {l : List Tr}, sortedT l → insT a (insT b l) = insT b (insT a l)
  | [], _ => by
    simp only [insT]
    have n := cmpT_neg a b
    by_cases c : cmpT a b = 0
    · have := (cmpT_eq ha hb).mp c; subst this; rfl
    · have r := cmpT_rng a b
      by_cases c2 : cmpT b a < 0
      · rw [if_pos c2, if_neg (by omega)]
      · rw [if_neg c2, if_pos (by omega)]
  | y :: r, h => by
    have n := cmpT_neg a b
    have ih := ins_comm ha hb (l := r) h.2
    by_cases ca : cmpT y a < 0
    · by_cases cb : cmpT y b < 0
      · have e1 : insT b (y :: r) = b :: y :: r := by simp [insT, cb]
        have e2 : insT a (y :: r) = a :: y :: r := by simp [insT, ca]
        rw [e1, e2]
        by_cases c : cmpT a b = 0
        · have := (cmpT_eq ha hb).mp c; subst this; rfl
        · by_cases c2 : cmpT b a < 0
          · simp [insT, c2, show ¬ cmpT a b < 0 by omega, cb]
          · simp [insT, c2, show cmpT a b < 0 by omega, ca]
      · have e1 : insT b (y :: r) = y :: insT b r := by simp [insT, cb]
        have e2 : insT a (y :: r) = a :: y :: r := by simp [insT, ca]
        have c3 : ¬ cmpT a b < 0 := by
          have h1 : 0 ≤ cmpT a y := by rw [cmpT_neg]; omega
          have := cmpT_trans h1 (show 0 ≤ cmpT y b by omega)
          omega
        rw [e1, e2]
        simp [insT, ca, c3, cb]
    · by_cases cb : cmpT y b < 0
      · have e1 : insT b (y :: r) = b :: y :: r := by simp [insT, cb]
        have e2 : insT a (y :: r) = y :: insT a r := by simp [insT, ca]
        have c3 : ¬ cmpT b a < 0 := by
          have h1 : 0 ≤ cmpT b y := by rw [cmpT_neg]; omega
          have := cmpT_trans h1 (show 0 ≤ cmpT y a by omega)
          omega
        rw [e1, e2]
        simp [insT, ca, c3, cb]
      · simp [insT, ca, cb, ih]
theorem srt_cons {b : Tr} (hb : okT0 b) (l : List Tr) (hl : ∀ x, x ∈ l → okT0 x) : srtT (b :: l) = insT b (srtT l) := by
  have key : ∀ (l m : List Tr), (∀ x, x ∈ l → okT0 x) → sortedT m → l.foldl (fun acc b => insT b acc) (insT b m) = insT b (l.foldl (fun acc b => insT b acc) m) := by
    intro l
    induction l with
    | nil => intro m _ _; rfl
    | cons x r ih =>
      intro m h1 h2
      simp only [List.foldl_cons]
      rw [ins_comm (h1 x List.mem_cons_self) hb h2]
      exact ih _ (fun z hz => h1 z (List.mem_cons_of_mem _ hz)) (ins_sorted h2)
  exact key l [] hl trivial
/-- rows of the same trees, whatever the order, come to the same -/
theorem srt_perm {l m : List Tr} (h : l.Perm m) (hl : ∀ x, x ∈ l → okT0 x) : srtT l = srtT m := by
  induction h with
  | nil => rfl
  | cons x hp ih =>
    rename_i l1 l2
    have h2 : ∀ z, z ∈ l2 → okT0 z := fun z hz => hl z (List.mem_cons_of_mem _ (hp.mem_iff.mpr hz))
    rw [srt_cons (hl x List.mem_cons_self) _ (fun z hz => hl z (List.mem_cons_of_mem _ hz)), srt_cons (hl x List.mem_cons_self) _ h2, ih fun z hz => hl z (List.mem_cons_of_mem _ hz)]
  | swap x y l =>
    have hx := hl x (by simp)
    have hy := hl y (by simp)
    have hr : ∀ z, z ∈ l → okT0 z := fun z hz => hl z (by simp [hz])
    rw [srt_cons hy _ (fun z hz => hl z (List.mem_cons_of_mem _ hz)), srt_cons hx _ hr, srt_cons hx _ (fun z hz => by
      rcases List.mem_cons.mp hz with rfl | hz
      · exact hy
      · exact hr z hz), srt_cons hy _ hr, ins_comm hy hx (srt_sorted _)]
  | trans h1 h2 i1 i2 => exact (i1 hl).trans (i2 fun z hz => hl z (h1.mem_iff.mpr hz))
/-- a row that stands already -/
theorem srt_id : ∀ (l : List Tr), sortedT l → (∀ x, x ∈ l → okT0 x) → srtT l = l
  | [], _, _ => rfl
  | a :: r, h, ho => by
    have hr : ∀ x, x ∈ r → okT0 x := fun z hz => ho z (List.mem_cons_of_mem _ hz)
    rw [srt_cons (ho a List.mem_cons_self) r hr, srt_id r h.2 hr]
    cases r with
    | nil => rfl
    | cons y t =>
      have h1 := h.1 y List.mem_cons_self
      by_cases c : cmpT y a < 0
      · simp [insT, c]
      · have n := cmpT_neg a y
        have : a = y := (cmpT_eq (ho a List.mem_cons_self) (hr y List.mem_cons_self)).mp (by omega)
        subst this
        have key : ∀ t : List Tr, sortedT (a :: t) → (∀ x, x ∈ t → okT0 x) → insT a t = a :: t := by
          intro t
          induction t with
          | nil => intro _ _; rfl
          | cons z u ih =>
            intro k1 k2
            unfold insT
            have k3 := k1.1 z List.mem_cons_self
            have n := cmpT_neg a z
            by_cases c : cmpT z a < 0
            · rw [if_pos c]
            · rw [if_neg c]
              have : a = z := (cmpT_eq (ho a List.mem_cons_self) (k2 z List.mem_cons_self)).mp (by omega)
              subst this
              rw [ih k1.2 fun x hx => k2 x (List.mem_cons_of_mem _ hx)]
        exact key (a :: t) h hr
