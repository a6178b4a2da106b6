/-! THE TWIN LAYS A SHAPE's VALUES -/
def KidsOf (A : Nat → List Int) (tab : List Tr) (s : Nat) (l : List Tr) : Prop := s ≤ 63 ∧ gt (A 12) s = ((l.length : Nat) : Int) ∧ l.length ≤ 4 ∧ (∀ v, v ∈ l → v ∈ tab) ∧ ∀ k, k < 4 → ∃ i, i ≤ tab.length ∧ gt (A 11) (4 * s + k) = ((i : Nat) : Int) ∧ gtT tab i = l[k]?
theorem KidsOf.same {A A' : Nat → List Int} {tab : List Tr} {s : Nat} {l : List Tr} (h : KidsOf A tab s l) (e1 : A' 11 = A 11) (e2 : A' 12 = A 12) : KidsOf A' tab s l := by
  obtain ⟨h1, h2, h3, h4, h5⟩ := h
  exact ⟨h1, by rw [e2]; exact h2, h3, h4, fun k hk => by rw [e1]; exact h5 k hk⟩
theorem drop_at {l : List Tr} {k : Nat} {a : Tr} {t : List Tr} (h : l.drop k = a :: t) (n : Nat) : l[k + n]? = (a :: t)[n]? := by rw [← h, List.getElem?_drop]
theorem lmulN {a b : Nat} (h : a * b ≤ 9223372036854775807) : lmul (a : Int) (b : Int) = ((a * b : Nat) : Int) := by
  rw [lmul_eq (by rw [← Int.natCast_mul]; exact ⟨by omega, by omega⟩), Int.natCast_mul]
theorem laddN {a b : Nat} (h : a + b ≤ 9223372036854775807) : ladd (a : Int) (b : Int) = ((a + b : Nat) : Int) := by
  rw [ladd_eq ⟨by omega, by omega⟩]; omega
theorem ldivN {a b : Nat} (h : a ≤ 9223372036854775807) (hb : 0 < b) (hb2 : b ≤ 9223372036854775807) : ldiv (a : Int) (b : Int) = ((a / b : Nat) : Int) := by
  rw [ldiv_eq ⟨by omega, by omega⟩ ⟨by omega, by omega⟩]; rfl
theorem imulN {a b : Nat} (h : a * b ≤ 2147483647) : imul (a : Int) (b : Int) = ((a * b : Nat) : Int) := by
  rw [imul_eq (by rw [← Int.natCast_mul]; exact ⟨by omega, by omega⟩), Int.natCast_mul]
theorem iaddN {a b : Nat} (h : a + b ≤ 2147483647) : iadd (a : Int) (b : Int) = ((a + b : Nat) : Int) := by
  rw [iadd_eq ⟨by omega, by omega⟩]; omega
section VALS
variable {d : Nat} {h0 : AH} {M : Nat} {A : Nat → List Int} {sc : Nat → Int} {tab : List Tr}
theorem alike_loop (hA : lens A) (hT : TbT tab) {s k : Nat} {l : List Tr} (hK : KidsOf A tab s l) {a : Tr} {t : List Tr} (hd : l.drop k = a :: t) :
    ∀ (j n : Nat), j + n = 6 → 1 ≤ n → n ≤ t.length + 1 → twl a t = n - 1 + twl a (t.drop (n - 1)) → wp (d + 1) 319 (2, [some (vR (some M)), some (vI s), some (vI k), some (vI n)], [], tw h0 M A sc) (gives (tw h0 M A sc) ((1 + twl a t : Nat) : Int)) := by
  obtain ⟨hs, hK1, hl4, hin, hK2⟩ := hK
  have hlen : l.length = k + 1 + t.length := by
    have := congrArg List.length hd
    rw [List.length_drop, List.length_cons] at this
    omega
  have ok : ∀ v, v ∈ l → okT0 v := fun v hv => (hT.2.1 v (hin v hv)).1
  have hak : l[k]? = some a := drop_at hd 0
  have hmem : ∀ i v, l[i]? = some v → v ∈ l := fun i v h => List.mem_of_getElem? h
  intro j
  induction j with
  | zero => intro n h1 h2 h3; omega
  | succ j ih =>
    intro n h1 h2 h3 h4
    refine wp.go [2] 60 fun W C hW hC => ?_
    (conv => whnf); simp (disch := omega) only [iadd_eq, isub_eq, imul_eq]
    refine ⟨_, _, _, _, twF, rfl, rfl, ?_⟩
    refine ⟨_, _, _, twI rfl rfl, rfl, (by omega), gt_at (s) (by omega) (lenlt (j := 12) (hA) (show (s) < 64 by omega)), ?_⟩
    rw [hK1]
    refine ⟨fun c => ?_, fun c => ?_⟩
    · have : n = t.length + 1 := by omega
      subst this
      rw [Nat.add_sub_cancel, List.drop_length, twl_nil, Nat.add_zero] at h4
      exact ⟨by rw [h4, Nat.add_comm], rfl⟩
    · have hn : n - 1 < t.length := by omega
      obtain ⟨b, hb⟩ : ∃ b, t[n - 1]? = some b := ⟨_, List.getElem?_eq_getElem hn⟩
      have hb2 : l[k + n]? = some b := by
        rw [drop_at hd n]
        obtain ⟨m, rfl⟩ : ∃ m, n = m + 1 := ⟨n - 1, by omega⟩
        simpa using hb
      have hdr : t.drop (n - 1) = b :: t.drop n := by
        rw [List.drop_eq_getElem_cons hn]
        rw [List.getElem?_eq_getElem hn] at hb
        cases hb
        rw [Nat.sub_add_cancel h2]
      obtain ⟨i1, p1, p2, p3⟩ := hK2 (k + n) (by omega)
      obtain ⟨i2, q1, q2, q3⟩ := hK2 k (by omega)
      refine ⟨_, _, _, _, twF, rfl, rfl, ?_⟩
      (conv => whnf); simp (disch := omega) only [iadd_eq, isub_eq, imul_eq]
      refine ⟨_, _, _, twI rfl rfl, rfl, (by omega), gt_at (4 * s + k + n) (by omega) (lenlt (j := 11) (hA) (show (4 * s + k + n) < 256 by omega)), ?_⟩
      rw [show 4 * s + k + n = 4 * s + (k + n) by omega, p2]
      refine ⟨_, _, _, _, twF, rfl, rfl, ?_⟩
      (conv => whnf); simp (disch := omega) only [iadd_eq, isub_eq, imul_eq]
      refine ⟨_, _, _, twI rfl rfl, rfl, (by omega), gt_at (4 * s + k) (by omega) (lenlt (j := 11) (hA) (show (4 * s + k) < 256 by omega)), ?_⟩
      rw [q2]
      rw [hdr, twl_cons] at h4
      have okb := ok b (hmem _ _ hb2)
      have oka := ok a (hmem _ _ hak)
      refine ⟨fun c1 => ?_, fun c1 => ?_⟩
      · have : ¬ eqT b a = true := fun e => c1 (by
          have := (eqT_iff okb oka).mp e
          subst this
          rw [gtT_inj hT.1 p1 q1 (by rw [p3, q3, hb2, hak])])
        rw [if_neg this] at h4
        exact ⟨by rw [h4]; congr 3; omega, rfl⟩
      · have : i1 = i2 := by omega
        subst this
        rw [p3, hb2, hak] at q3
        cases q3
        rw [if_pos (eqT_self _)] at h4
        (conv => whnf); simp (disch := omega) only [iadd_eq, isub_eq, imul_eq]
        exact hW _ (ih (n + 1) (by omega) (by omega) (by omega) (by rw [Nat.add_sub_cancel]; omega))
/-- Model.alike -/
theorem alike_spec (hA : lens A) (hT : TbT tab) {s k : Nat} {l : List Tr} (hK : KidsOf A tab s l) {a : Tr} {t : List Tr} (hd : l.drop k = a :: t) : wp (d + 1) 319 (0, ent 4 [vR (some M), vI s, vI k], [], tw h0 M A sc) (gives (tw h0 M A sc) ((1 + twl a t : Nat) : Int)) := by
  refine wp.go [2] 20 fun W C hW hC => ?_
  exact hW _ (alike_loop hA hT hK hd 5 1 rfl (by omega) (by omega) (by simp))
/-- Model.factorial -/
theorem factorial_spec {h : AH} {n : Nat} (hn : 1 ≤ n) (hn4 : n ≤ 4) : wp (d + 1) 320 (0, ent 1 [vI n], [], h) (fun r h' => r = .inl (some (vL ((factN n : Nat) : Int))) ∧ h' = h) := by
  refine wp.go [] 40 fun W C hW hC => ?_
  refine ⟨fun c => ?_, fun c => ?_⟩
  · refine ⟨fun c1 => ?_, fun c1 => ?_⟩
    · refine ⟨fun c2 => ?_, fun c2 => ?_⟩
      · refine ⟨?_, rfl⟩
        obtain rfl : n = 4 := by omega
        rfl
      · refine ⟨?_, rfl⟩
        obtain rfl : n = 3 := by omega
        rfl
    · refine ⟨?_, rfl⟩
      obtain rfl : n = 2 := by omega
      rfl
  · refine ⟨?_, rfl⟩
    obtain rfl : n = 1 := by omega
    rfl
/-! symmetry -/
theorem ways_pos : ∀ (t : Tr) (p : Option Tr) (r : Nat), 1 ≤ waysA t p r
  | .var _, _, _ => Nat.le_refl _
  | .op a b, p, r => by
    have h1 := ways_pos a none 0
    have h2 : 1 ≤ runT p r a := by unfold runT; cases eqO p (some a) <;> simp
    have h3 := ways_pos b (some a) (runT p r a)
    simp only [waysA]
    exact Nat.mul_le_mul (Nat.mul_le_mul h1 h2) h3
theorem prodW_pos : ∀ l : List Tr, 1 ≤ prodW l
  | [] => Nat.le_refl _
  | a :: t => Nat.mul_le_mul (ways_pos a none 0) (prodW_pos t)
theorem factN_pos (n : Nat) : 1 ≤ factN n := by unfold factN; split; decide; split; decide; split <;> decide
theorem symD_pos : ∀ (f : Nat) (l : List Tr), 1 ≤ symD f l
  | 0, _ => Nat.le_refl _
  | _ + 1, [] => Nat.le_refl _
  | f + 1, a :: t => Nat.mul_le_mul (factN_pos _) (symD_pos f _)
theorem symD_le : ∀ l : List Tr, l.length ≤ 4 → symD 5 l ≤ 24 ∧ (l.length ≤ 3 → symD 5 l ≤ 6)
  | [], _ => ⟨by decide, fun _ => by decide⟩
  | [a], _ => by simp [symD, twl_nil, factN]
  | [a, b], _ => by
    simp only [symD, twl_cons, twl_nil]
    by_cases c : eqT b a = true <;> simp [c, symD, factN, twl_nil]
  | [a, b, c], _ => by
    simp only [symD, twl_cons, twl_nil]
    by_cases c1 : eqT b a = true <;> by_cases c2 : eqT c a = true <;> by_cases c3 : eqT c b = true <;> simp [c1, c2, c3, symD, factN, twl_nil, twl_cons]
  | [a, b, c, e], _ => by
    simp only [symD, twl_cons, twl_nil]
    by_cases c1 : eqT b a = true <;> by_cases c2 : eqT c a = true <;> by_cases c3 : eqT c b = true <;> by_cases c4 : eqT e a = true <;> by_cases c5 : eqT e b = true <;> by_cases c6 : eqT e c = true <;> simp [c1, c2, c3, c4, c5, c6, symD, factN, twl_nil, twl_cons]
  | _ :: _ :: _ :: _ :: _ :: _, h => by simp at h
theorem six_pos (n : Nat) : 1 ≤ 6 ^ n := Nat.pow_pos (by decide)
theorem prodW_le : ∀ (l : List Tr), (∀ v, v ∈ l → waysT v ≤ 6 ^ szT v) → prodW l ≤ 6 ^ sumS l
  | [], _ => by decide
  | a :: t, h => by
    have h1 := h a List.mem_cons_self
    have h2 := prodW_le t fun v hv => h v (List.mem_cons_of_mem _ hv)
    have e : sumS (a :: t) = szT a + sumS t := by simp [sumS]
    rw [e, Nat.pow_add]
    exact Nat.mul_le_mul h1 h2
theorem tab_ways (hT : TbT tab) : ∀ (n : Nat) (t : Tr), szT t ≤ n → t ∈ tab → (kidsT t).length ≤ 3 → waysT t ≤ 6 ^ szT t := by
  intro n
  induction n with
  | zero => intro t h; have := sz_pos t; omega
  | succ n ih =>
    intro t hs ht hk
    obtain ⟨h1, h2, h3, h4⟩ := hT.2.1 t ht
    have hm := mk_kids t h1
    have hsz : szT t = 1 + sumS (kidsT t) := by
      have := sz_mk (kidsT t)
      rw [hm] at this
      exact this
    have ho : ∀ v, v ∈ kidsT t → okT0 v := ok_kid t h1
    have hw : waysT t = prodW (kidsT t) * symD 5 (kidsT t) := by
      have := ways_mk h3 ho
      rw [hm] at this
      exact this
    have hp := prodW_le (kidsT t) fun v hv => ih v (by have := sz_kid t v hv; omega) (h4 v hv).1 (h4 v hv).2
    have hq := (symD_le (kidsT t) h3).2 hk
    rw [hw, hsz, Nat.pow_add, Nat.mul_comm]
    exact Nat.mul_le_mul hq hp
/-- what the symmetry of a new shape may come to -/
theorem ways_bound (hT : TbT tab) {l : List Tr} (h4 : l.length ≤ 4) (hs : sumS l ≤ 15) (hl : ∀ v, v ∈ l → v ∈ tab ∧ (kidsT v).length ≤ 3) : prodW l * symD 5 l ≤ 24 * 6 ^ 15 := by
  have h1 := prodW_le l fun v hv => tab_ways hT _ v (Nat.le_refl _) (hl v hv).1 (hl v hv).2
  have h2 := (symD_le l h4).1
  have h3 : 6 ^ sumS l ≤ 6 ^ 15 := Nat.pow_le_pow_right (by decide) hs
  rw [Nat.mul_comm]
  exact Nat.mul_le_mul h2 (Nat.le_trans h1 h3)
theorem big24 : 24 * 6 ^ 15 = 11284439629824 := by decide
theorem sym_l1 (hA : lens A) (hT : TbT tab) (hV : TbV A tab) {s : Nat} {l : List Tr} (hK : KidsOf A tab s l) (hB : prodW l ≤ 11284439629824) {Q : Rs → AH → Prop} (hQ : wp (d + 2) 318 (41, [some (vR (some M)), some (vI s), some (vL ((prodW l : Nat) : Int)), none, some (vI ((l.length : Nat) : Int))], [], tw h0 M A sc) Q) :
    ∀ (j k v : Nat), j + k = l.length → v * prodW (l.drop k) = prodW l → wp (d + 2) 318 (5, [some (vR (some M)), some (vI s), some (vL ((v : Nat) : Int)), none, some (vI k)], [], tw h0 M A sc) Q := by
  obtain ⟨hs, hK1, hl4, hin, hK2⟩ := hK
  have hl := hT.2.2
  intro j
  induction j with
  | zero =>
    intro k v hk hv
    obtain rfl : k = l.length := by omega
    rw [List.drop_length] at hv
    have : v = prodW l := by simpa [prodW] using hv
    subst this
    refine wp.go [5, 41] 40 fun W C hW hC => ?_
    refine ⟨_, _, _, _, twF, rfl, rfl, ?_⟩
    refine ⟨_, _, _, twI rfl rfl, rfl, (by omega), gt_at (s) (by omega) (lenlt (j := 12) (hA) (show (s) < 64 by omega)), ?_⟩
    rw [hK1]
    refine ⟨fun _ => hW _ hQ, fun c => absurd c (by omega)⟩
  | succ j ih =>
    intro k v hk hv
    have hkl : k < l.length := by omega
    have hdr : l.drop k = l[k] :: l.drop (k + 1) := List.drop_eq_getElem_cons hkl
    rw [hdr] at hv
    simp only [prodW] at hv
    have hle : v * waysT l[k] ≤ prodW l := by
      rw [← hv, ← Nat.mul_assoc]
      exact Nat.le_mul_of_pos_right _ (prodW_pos _)
    obtain ⟨i, p1, p2, p3⟩ := hK2 k (by omega)
    rw [List.getElem?_eq_getElem hkl] at p3
    have hw := (hV i _ p3).2.2.1
    refine wp.go [5, 41] 60 fun W C hW hC => ?_
    refine ⟨_, _, _, _, twF, rfl, rfl, ?_⟩
    refine ⟨_, _, _, twI rfl rfl, rfl, (by omega), gt_at (s) (by omega) (lenlt (j := 12) (hA) (show (s) < 64 by omega)), ?_⟩
    rw [hK1]
    refine ⟨fun c => absurd c (by omega), fun _ => ?_⟩
    refine ⟨_, _, _, _, twF, rfl, rfl, ?_⟩
    refine ⟨_, _, _, _, twF, rfl, rfl, ?_⟩
    (conv => whnf); simp (disch := omega) only [iadd_eq, isub_eq, imul_eq]
    refine ⟨_, _, _, twI rfl rfl, rfl, (by omega), gt_at (4 * s + k) (by omega) (lenlt (j := 11) (hA) (show (4 * s + k) < 256 by omega)), ?_⟩
    rw [p2]
    refine ⟨_, _, _, twI rfl rfl, rfl, (by omega), gt_at (i) (by omega) (lenlt (j := 16) (hA) (show (i) < 64 by omega)), ?_⟩
    rw [hw]
    conv => whnf
    rw [lmulN (by omega), iadd_eq (by omega)]
    exact hW _ (ih (k + 1) (v * waysT l[k]) (by omega) (by rw [Nat.mul_assoc]; exact hv))
theorem sym_l2 (hA : lens A) (hT : TbT tab) {s : Nat} {l : List Tr} (hK : KidsOf A tab s l) {T : Nat} (hB : T ≤ 11284439629824) {Q : Rs → AH → Prop} (hQ : ∀ k : Nat, wp (d + 2) 318 (83, [some (vR (some M)), some (vI s), some (vL ((T : Nat) : Int)), none, some (vI k)], [], tw h0 M A sc) Q) :
    ∀ (f k v : Nat), l.length ≤ k + f → v * symD f (l.drop k) = T → wp (d + 2) 318 (44, [some (vR (some M)), some (vI s), some (vL ((v : Nat) : Int)), none, some (vI k)], [], tw h0 M A sc) Q := by
  have hK' := hK
  obtain ⟨hs, hK1, hl4, hin, hK2⟩ := hK
  intro f
  induction f with
  | zero =>
    intro k v hk hv
    have : v = T := by simpa [symD] using hv
    subst this
    refine wp.go [44, 83] 40 fun W C hW hC => ?_
    refine ⟨_, _, _, _, twF, rfl, rfl, ?_⟩
    refine ⟨_, _, _, twI rfl rfl, rfl, (by omega), gt_at (s) (by omega) (lenlt (j := 12) (hA) (show (s) < 64 by omega)), ?_⟩
    rw [hK1]
    refine ⟨fun _ => hW _ (hQ k), fun c => absurd c (by omega)⟩
  | succ f ih =>
    intro k v hk hv
    refine wp.go [44, 83] 60 fun W C hW hC => ?_
    refine ⟨_, _, _, _, twF, rfl, rfl, ?_⟩
    refine ⟨_, _, _, twI rfl rfl, rfl, (by omega), gt_at (s) (by omega) (lenlt (j := 12) (hA) (show (s) < 64 by omega)), ?_⟩
    rw [hK1]
    refine ⟨fun c => ?_, fun c => ?_⟩
    · rw [List.drop_eq_nil_of_le (by omega)] at hv
      have : v = T := by simpa [symD] using hv
      subst this
      exact hW _ (hQ k)
    · have hkl : k < l.length := by omega
      have hdr : l.drop k = l[k] :: l.drop (k + 1) := List.drop_eq_getElem_cons hkl
      have htl := twl_le l[k] (l.drop (k + 1))
      rw [List.length_drop] at htl
      rw [hdr] at hv
      simp only [symD] at hv
      have hle : v * factN (1 + twl l[k] (l.drop (k + 1))) ≤ T := by
        rw [← hv, ← Nat.mul_assoc]
        exact Nat.le_mul_of_pos_right _ (symD_pos _ _)
      refine ⟨_, _, _, twF, rfl, ?_⟩
      refine hC _ _ _ (use (alike_spec hA hT hK' hdr) ?_); rintro _ _ ⟨rfl, rfl⟩
      refine hC _ _ _ (use (factorial_spec (by omega) (by omega)) ?_); rintro _ _ ⟨rfl, rfl⟩
      refine ⟨_, _, _, twF, rfl, ?_⟩
      refine hC _ _ _ (use (alike_spec hA hT hK' hdr) ?_); rintro _ _ ⟨rfl, rfl⟩
      conv => whnf
      rw [lmulN (by omega), iaddN (by omega)]
      refine hW _ (ih _ _ (by omega) ?_)
      have e : l.drop (k + (1 + twl l[k] (l.drop (k + 1)))) = (l.drop (k + 1)).drop (twl l[k] (l.drop (k + 1))) := by rw [List.drop_drop]; congr 1; omega
      rw [← hv, Nat.mul_assoc, e]
/-- Model.laysSymmetry -/
theorem laysSymmetry_spec (hA : lens A) (hT : TbT tab) (hV : TbV A tab) {s : Nat} {l : List Tr} (hK : KidsOf A tab s l) (hs : sumS l ≤ 15) (hl3 : ∀ v, v ∈ l → (kidsT v).length ≤ 3) : wp (d + 2) 318 (0, ent 5 [vR (some M), vI s], [], tw h0 M A sc) (fun r h' => r = .inl none ∧ ∃ X, h' = tw h0 M (up A 16 X) sc ∧ X = (A 16).set s ((waysT (mkT l) : Nat) : Int)) := by
  have hb := ways_bound hT hK.2.2.1 hs fun v hv => ⟨hK.2.2.2.1 v hv, hl3 v hv⟩
  rw [big24] at hb
  have hw := ways_mk hK.2.2.1 fun v hv => (hT.2.1 v (hK.2.2.2.1 v hv)).1
  have hp : prodW l ≤ 11284439629824 := Nat.le_trans (Nat.le_mul_of_pos_right _ (symD_pos 5 l)) hb
  have hs63 := hK.1
  refine wp.go [5] 20 fun W C hW hC => ?_
  refine hW _ (sym_l1 hA hT hV hK hp ?_ l.length 0 1 rfl (by simp))
  refine wp.go [44] 20 fun W C hW hC => ?_
  refine hW _ (sym_l2 hA hT hK hb (fun k => ?_) 5 0 (prodW l) (by have := hK.2.2.1; omega) (by simp))
  refine wp.go [] 20 fun W C hW hC => ?_
  refine ⟨_, _, _, _, twF, rfl, rfl, ?_⟩
  (refine ⟨_, twI rfl rfl, (by omega), (ilt (s) (by omega) (lenlt (j := 16) (hA) (show (s) < 64 by omega))), ?_⟩; rw [twSetI rfl rfl]; try rw [Int.toNat_natCast])
  exact ⟨rfl, _, rfl, by rw [hw]⟩
end VALS
