/-! ARITHMETIC IN RANGE: the machine's sums are the integers' -/
abbrev I32 (x : Int) : Prop := -2147483648 ≤ x ∧ x ≤ 2147483647
abbrev I64 (x : Int) : Prop := -9223372036854775808 ≤ x ∧ x ≤ 9223372036854775807
theorem i32_ofInt {x : Int} (h : I32 x) : (Int32.ofInt x).toInt = x := by
  rw [Int32.toInt_ofInt]
  exact Int.bmod_eq_of_le (by have := h.1; simp only [Int32.size]; omega) (by have := h.2; simp only [Int32.size]; omega)
theorem i64_ofInt {x : Int} (h : I64 x) : (Int64.ofInt x).toInt = x := by
  rw [Int64.toInt_ofInt]
  exact Int.bmod_eq_of_le (by have := h.1; simp only [Int64.size]; omega) (by have := h.2; simp only [Int64.size]; omega)
theorem iadd_eq {x y : Int} (h : I32 (x + y)) : iadd x y = x + y := by
  unfold iadd
  rw [← Int32.ofInt_add]
  exact i32_ofInt h
theorem isub_eq {x y : Int} (h : I32 (x - y)) : isub x y = x - y := by
  unfold isub
  rw [← Int32.ofInt_sub]
  exact i32_ofInt h
theorem imul_eq {x y : Int} (h : I32 (x * y)) : imul x y = x * y := by
  unfold imul
  rw [← Int32.ofInt_mul]
  exact i32_ofInt h
theorem ineg_eq {x : Int} (h : I32 (-x)) : ineg x = -x := by
  unfold ineg
  rw [← Int32.ofInt_neg]
  exact i32_ofInt h
theorem ladd_eq {x y : Int} (h : I64 (x + y)) : ladd x y = x + y := by
  unfold ladd
  rw [← Int64.ofInt_add]
  exact i64_ofInt h
theorem lsub_eq {x y : Int} (h : I64 (x - y)) : lsub x y = x - y := by
  unfold lsub
  rw [← Int64.ofInt_sub]
  exact i64_ofInt h
theorem lmul_eq {x y : Int} (h : I64 (x * y)) : lmul x y = x * y := by
  unfold lmul
  rw [← Int64.ofInt_mul]
  exact i64_ofInt h
theorem idiv_eq {x y : Int} (hx : 0 ≤ x ∧ x ≤ 2147483647) (hy : 0 < y ∧ y ≤ 2147483647) : idiv x y = x / y := by
  unfold idiv
  have hq : 0 ≤ x / y := Int.ediv_nonneg hx.1 (by omega)
  have hq2 : x / y ≤ x := Int.ediv_le_self _ hx.1
  rw [Int32.toInt_div, i32_ofInt ⟨by omega, by omega⟩, i32_ofInt ⟨by omega, by omega⟩, Int.tdiv_eq_ediv_of_nonneg hx.1]
  exact Int.bmod_eq_of_le (by omega) (by omega)
theorem ldiv_eq {x y : Int} (hx : 0 ≤ x ∧ x ≤ 9223372036854775807) (hy : 0 < y ∧ y ≤ 9223372036854775807) : ldiv x y = x / y := by
  unfold ldiv
  have hq : 0 ≤ x / y := Int.ediv_nonneg hx.1 (by omega)
  have hq2 : x / y ≤ x := Int.ediv_le_self _ hx.1
  rw [Int64.toInt_div, i64_ofInt ⟨by omega, by omega⟩, i64_ofInt ⟨by omega, by omega⟩, Int.tdiv_eq_ediv_of_nonneg hx.1]
  exact Int.bmod_eq_of_le (by omega) (by omega)
theorem irem_eq {x y : Int} (hx : 0 ≤ x ∧ x ≤ 2147483647) (hy : 0 < y ∧ y ≤ 2147483647) : irem x y = x % y := by
  have hd := idiv_eq hx hy
  have hq : 0 ≤ x / y := Int.ediv_nonneg hx.1 (by omega)
  have hq2 : x / y ≤ x := Int.ediv_le_self _ hx.1
  have e : Int32.ofInt x / Int32.ofInt y = Int32.ofInt (x / y) := Int32.toInt_inj.mp (by rw [i32_ofInt ⟨by omega, by omega⟩]; exact hd)
  unfold irem
  rw [e, ← Int32.ofInt_mul, ← Int32.ofInt_sub]
  have h1 : x - x / y * y = x % y := by
    have := Int.mul_ediv_add_emod x y
    rw [Int.mul_comm] at this
    omega
  have h2 := Int.emod_nonneg x (show y ≠ 0 by omega)
  have h3 := Int.emod_lt_of_pos x hy.1
  rw [h1]
  exact i32_ofInt ⟨by omega, by omega⟩
theorem l2i_eq {x : Int} (h : I32 x) : l2i x = x := by
  unfold l2i
  rw [Int64.toInt_toInt32, i64_ofInt ⟨by have := h.1; omega, by have := h.2; omega⟩]
  exact Int.bmod_eq_of_le (by have := h.1; omega) (by have := h.2; omega)
theorem lcmp_lt {x y : Int} : lcmp x y < 0 ↔ x < y := by
  unfold lcmp; split
  · simp [*]
  · split <;> simp_all
theorem lcmp_gt {x y : Int} : 0 < lcmp x y ↔ y < x := by
  unfold lcmp; split
  · constructor <;> intro <;> omega
  · split
    · constructor <;> intro <;> omega
    · constructor <;> intro <;> omega
theorem lcmp_eq {x y : Int} : lcmp x y = 0 ↔ x = y := by
  unfold lcmp; split
  · constructor <;> intro <;> omega
  · split
    · constructor <;> intro <;> omega
    · constructor <;> intro <;> omega
/-- Model.isIn -/
theorem isIn_spec (v lo hi : Int) (h : AH) : wp 1 271 (0, ent 6 [vL v, vL lo, vL hi], [], h) (fun r h' => h' = h ∧ r = .inl (some (vI (if lo ≤ v ∧ v ≤ hi then 1 else 0)))) := by
  refine wp.run [] 20 ?_
  refine ⟨fun hc => ?_, fun hc => ?_⟩
  · refine ⟨Or.inl rfl, rfl, ?_⟩
    rw [if_neg]
    have := lcmp_lt.mp hc
    omega
  · refine ⟨fun hd => ?_, fun hd => ?_⟩
    · refine ⟨Or.inl rfl, rfl, ?_⟩
      rw [if_neg]
      have := lcmp_gt.mp hd
      omega
    · refine ⟨Or.inr rfl, rfl, ?_⟩
      rw [if_pos]
      have h1 : ¬ v < lo := fun z => absurd (lcmp_lt.mpr z) (by omega)
      have h2 : ¬ hi < v := fun z => absurd (lcmp_gt.mpr z) (by omega)
      omega
