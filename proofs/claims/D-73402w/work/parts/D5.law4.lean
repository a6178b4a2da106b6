/-! the sums over all orders of four against the short words of One -/
theorem idx24 : (List.range 64).filter dis = [6, 7, 9, 11, 13, 14, 18, 19, 24, 27, 28, 30, 33, 35, 36, 39, 44, 45, 49, 50, 52, 54, 56, 57] := by decide
set_option maxHeartbeats 200000 in
theorem sum9 (F : Nat → Nat) : sumR 64 (g9 F) = F 0 * F 1 * F 2 * F 3 + (F 0 * F 1 * F 3 * F 2 + (F 0 * F 2 * F 1 * F 3 + (F 0 * F 2 * F 3 * F 1 + (F 0 * F 3 * F 1 * F 2 + (F 0 * F 3 * F 2 * F 1 + (F 1 * F 0 * F 2 * F 3 + (F 1 * F 0 * F 3 * F 2 + (F 1 * F 2 * F 0 * F 3 + (F 1 * F 2 * F 3 * F 0 + (F 1 * F 3 * F 0 * F 2 + (F 1 * F 3 * F 2 * F 0 + (F 2 * F 0 * F 1 * F 3 + (F 2 * F 0 * F 3 * F 1 + (F 2 * F 1 * F 0 * F 3 + (F 2 * F 1 * F 3 * F 0 + (F 2 * F 3 * F 0 * F 1 + (F 2 * F 3 * F 1 * F 0 + (F 3 * F 0 * F 1 * F 2 + (F 3 * F 0 * F 2 * F 1 + (F 3 * F 1 * F 0 * F 2 + (F 3 * F 1 * F 2 * F 0 + (F 3 * F 2 * F 0 * F 1 + (F 3 * F 2 * F 1 * F 0 + (0)))))))))))))))))))))))) := by
  have h : sumR 64 (g9 F) = (([6, 7, 9, 11, 13, 14, 18, 19, 24, 27, 28, 30, 33, 35, 36, 39, 44, 45, 49, 50, 52, 54, 56, 57] : List Nat).map fun i => r9 F (i / 16) (i / 4 % 4) (i % 4) (lastI i)).sum := by
    rw [← idx24]
    exact (map_sum_filter dis _ 64).symm
  rw [h]
  rfl
set_option maxHeartbeats 200000 in
theorem sum10 (F : Nat → Nat) (E : Nat → Nat → Bool) : sumR 64 (g10 F E) = cond (E 0 1 && E 2 3) (F 0 * F 2) 0 + (cond (E 0 1 && E 3 2) (F 0 * F 3) 0 + (cond (E 0 2 && E 1 3) (F 0 * F 1) 0 + (cond (E 0 2 && E 3 1) (F 0 * F 3) 0 + (cond (E 0 3 && E 1 2) (F 0 * F 1) 0 + (cond (E 0 3 && E 2 1) (F 0 * F 2) 0 + (cond (E 1 0 && E 2 3) (F 1 * F 2) 0 + (cond (E 1 0 && E 3 2) (F 1 * F 3) 0 + (cond (E 1 2 && E 0 3) (F 1 * F 0) 0 + (cond (E 1 2 && E 3 0) (F 1 * F 3) 0 + (cond (E 1 3 && E 0 2) (F 1 * F 0) 0 + (cond (E 1 3 && E 2 0) (F 1 * F 2) 0 + (cond (E 2 0 && E 1 3) (F 2 * F 1) 0 + (cond (E 2 0 && E 3 1) (F 2 * F 3) 0 + (cond (E 2 1 && E 0 3) (F 2 * F 0) 0 + (cond (E 2 1 && E 3 0) (F 2 * F 3) 0 + (cond (E 2 3 && E 0 1) (F 2 * F 0) 0 + (cond (E 2 3 && E 1 0) (F 2 * F 1) 0 + (cond (E 3 0 && E 1 2) (F 3 * F 1) 0 + (cond (E 3 0 && E 2 1) (F 3 * F 2) 0 + (cond (E 3 1 && E 0 2) (F 3 * F 0) 0 + (cond (E 3 1 && E 2 0) (F 3 * F 2) 0 + (cond (E 3 2 && E 0 1) (F 3 * F 0) 0 + (cond (E 3 2 && E 1 0) (F 3 * F 1) 0 + (0)))))))))))))))))))))))) := by
  have h : sumR 64 (g10 F E) = (([6, 7, 9, 11, 13, 14, 18, 19, 24, 27, 28, 30, 33, 35, 36, 39, 44, 45, 49, 50, 52, 54, 56, 57] : List Nat).map fun i => r10 F E (i / 16) (i / 4 % 4) (i % 4) (lastI i)).sum := by
    rw [← idx24]
    exact (map_sum_filter dis _ 64).symm
  rw [h]
  rfl
set_option maxHeartbeats 200000 in
theorem sum11 (F : Nat → Nat) (E : Nat → Nat → Bool) : sumR 64 (g11 F E) = cond (E 0 1 && E 1 2) (F 0 * F 3) 0 + (cond (E 0 1 && E 1 3) (F 0 * F 2) 0 + (cond (E 0 2 && E 2 1) (F 0 * F 3) 0 + (cond (E 0 2 && E 2 3) (F 0 * F 1) 0 + (cond (E 0 3 && E 3 1) (F 0 * F 2) 0 + (cond (E 0 3 && E 3 2) (F 0 * F 1) 0 + (cond (E 1 0 && E 0 2) (F 1 * F 3) 0 + (cond (E 1 0 && E 0 3) (F 1 * F 2) 0 + (cond (E 1 2 && E 2 0) (F 1 * F 3) 0 + (cond (E 1 2 && E 2 3) (F 1 * F 0) 0 + (cond (E 1 3 && E 3 0) (F 1 * F 2) 0 + (cond (E 1 3 && E 3 2) (F 1 * F 0) 0 + (cond (E 2 0 && E 0 1) (F 2 * F 3) 0 + (cond (E 2 0 && E 0 3) (F 2 * F 1) 0 + (cond (E 2 1 && E 1 0) (F 2 * F 3) 0 + (cond (E 2 1 && E 1 3) (F 2 * F 0) 0 + (cond (E 2 3 && E 3 0) (F 2 * F 1) 0 + (cond (E 2 3 && E 3 1) (F 2 * F 0) 0 + (cond (E 3 0 && E 0 1) (F 3 * F 2) 0 + (cond (E 3 0 && E 0 2) (F 3 * F 1) 0 + (cond (E 3 1 && E 1 0) (F 3 * F 2) 0 + (cond (E 3 1 && E 1 2) (F 3 * F 0) 0 + (cond (E 3 2 && E 2 0) (F 3 * F 1) 0 + (cond (E 3 2 && E 2 1) (F 3 * F 0) 0 + (0)))))))))))))))))))))))) := by
  have h : sumR 64 (g11 F E) = (([6, 7, 9, 11, 13, 14, 18, 19, 24, 27, 28, 30, 33, 35, 36, 39, 44, 45, 49, 50, 52, 54, 56, 57] : List Nat).map fun i => r11 F E (i / 16) (i / 4 % 4) (i % 4) (lastI i)).sum := by
    rw [← idx24]
    exact (map_sum_filter dis _ 64).symm
  rw [h]
  rfl
set_option maxHeartbeats 200000 in
theorem sum12 (F O : Nat → Nat) (E : Nat → Nat → Bool) : sumR 64 (g12 F O E) = cond (E 0 1) (F 0 * O 2 * O 3) 0 + (cond (E 0 1) (F 0 * O 3 * O 2) 0 + (cond (E 0 2) (F 0 * O 1 * O 3) 0 + (cond (E 0 2) (F 0 * O 3 * O 1) 0 + (cond (E 0 3) (F 0 * O 1 * O 2) 0 + (cond (E 0 3) (F 0 * O 2 * O 1) 0 + (cond (E 1 0) (F 1 * O 2 * O 3) 0 + (cond (E 1 0) (F 1 * O 3 * O 2) 0 + (cond (E 1 2) (F 1 * O 0 * O 3) 0 + (cond (E 1 2) (F 1 * O 3 * O 0) 0 + (cond (E 1 3) (F 1 * O 0 * O 2) 0 + (cond (E 1 3) (F 1 * O 2 * O 0) 0 + (cond (E 2 0) (F 2 * O 1 * O 3) 0 + (cond (E 2 0) (F 2 * O 3 * O 1) 0 + (cond (E 2 1) (F 2 * O 0 * O 3) 0 + (cond (E 2 1) (F 2 * O 3 * O 0) 0 + (cond (E 2 3) (F 2 * O 0 * O 1) 0 + (cond (E 2 3) (F 2 * O 1 * O 0) 0 + (cond (E 3 0) (F 3 * O 1 * O 2) 0 + (cond (E 3 0) (F 3 * O 2 * O 1) 0 + (cond (E 3 1) (F 3 * O 0 * O 2) 0 + (cond (E 3 1) (F 3 * O 2 * O 0) 0 + (cond (E 3 2) (F 3 * O 0 * O 1) 0 + (cond (E 3 2) (F 3 * O 1 * O 0) 0 + (0)))))))))))))))))))))))) := by
  have h : sumR 64 (g12 F O E) = (([6, 7, 9, 11, 13, 14, 18, 19, 24, 27, 28, 30, 33, 35, 36, 39, 44, 45, 49, 50, 52, 54, 56, 57] : List Nat).map fun i => r12 F O E (i / 16) (i / 4 % 4) (i % 4) (lastI i)).sum := by
    rw [← idx24]
    exact (map_sum_filter dis _ 64).symm
  rw [h]
  rfl
set_option maxHeartbeats 4000000 in
theorem prod24 (a b c d : Nat) : a * b * c * d + (a * b * d * c + (a * c * b * d + (a * c * d * b + (a * d * b * c + (a * d * c * b + (b * a * c * d + (b * a * d * c + (b * c * a * d + (b * c * d * a + (b * d * a * c + (b * d * c * a + (c * a * b * d + (c * a * d * b + (c * b * a * d + (c * b * d * a + (c * d * a * b + (c * d * b * a + (d * a * b * c + (d * a * c * b + (d * b * a * c + (d * b * c * a + (d * c * a * b + (d * c * b * a + (0)))))))))))))))))))))))) = 24 * (a * b * c * d) := by
  rw [show a * b * d * c = a * b * c * d by ac_rfl]
  rw [show a * c * b * d = a * b * c * d by ac_rfl]
  rw [show a * c * d * b = a * b * c * d by ac_rfl]
  rw [show a * d * b * c = a * b * c * d by ac_rfl]
  rw [show a * d * c * b = a * b * c * d by ac_rfl]
  rw [show b * a * c * d = a * b * c * d by ac_rfl]
  rw [show b * a * d * c = a * b * c * d by ac_rfl]
  rw [show b * c * a * d = a * b * c * d by ac_rfl]
  rw [show b * c * d * a = a * b * c * d by ac_rfl]
  rw [show b * d * a * c = a * b * c * d by ac_rfl]
  rw [show b * d * c * a = a * b * c * d by ac_rfl]
  rw [show c * a * b * d = a * b * c * d by ac_rfl]
  rw [show c * a * d * b = a * b * c * d by ac_rfl]
  rw [show c * b * a * d = a * b * c * d by ac_rfl]
  rw [show c * b * d * a = a * b * c * d by ac_rfl]
  rw [show c * d * a * b = a * b * c * d by ac_rfl]
  rw [show c * d * b * a = a * b * c * d by ac_rfl]
  rw [show d * a * b * c = a * b * c * d by ac_rfl]
  rw [show d * a * c * b = a * b * c * d by ac_rfl]
  rw [show d * b * a * c = a * b * c * d by ac_rfl]
  rw [show d * b * c * a = a * b * c * d by ac_rfl]
  rw [show d * c * a * b = a * b * c * d by ac_rfl]
  rw [show d * c * b * a = a * b * c * d by ac_rfl]
  generalize a * b * c * d = P
  omega
theorem law4_TTT (F O : Nat → Nat) (E : Nat → Nat → Bool) (h01 : E 0 1 = true) (h10 : E 1 0 = true) (h02 : E 0 2 = true) (h20 : E 2 0 = true) (h03 : E 0 3 = true) (h30 : E 3 0 = true) (h12 : E 1 2 = true) (h21 : E 2 1 = true) (h13 : E 1 3 = true) (h31 : E 3 1 = true) (h23 : E 2 3 = true) (h32 : E 3 2 = true) (f1 : F 1 = F 0) (o1 : O 1 = O 0) (f2 : F 2 = F 0) (o2 : O 2 = O 0) (f3 : F 3 = F 0) (o3 : O 3 = O 0) : sumR 64 (g9 F) / (smR E 3).1 = ordN E 4 * prdN F 4 ∧ sumR 64 (g10 F E) / (smR E 3).1 = twoC F E ∧ sumR 64 (g11 F E) / (smR E 3).1 = thrC F E ∧ sumR 64 (g12 F O E) / (smR E 3).1 = mirO F O E 4 0 := by
  rw [sum9, sum10, sum11, sum12]
  refine ⟨?_, ?_, ?_, ?_⟩
  · simp [smR, ordN, rnE, rnF, prdN, h01, h10, h02, h20, h03, h30, h12, h21, h13, h31, h23, h32, f1, o1, f2, o2, f3, o3, Nat.mul_comm, Nat.mul_left_comm, Nat.mul_assoc] <;> first | omega | grind
  · simp [smR, twoC, h01, h10, h02, h20, h03, h30, h12, h21, h13, h31, h23, h32, f1, o1, f2, o2, f3, o3, Nat.mul_comm, Nat.mul_left_comm, Nat.mul_assoc] <;> first | omega | grind
  · simp [smR, thrC, h01, h10, h02, h20, h03, h30, h12, h21, h13, h31, h23, h32, f1, o1, f2, o2, f3, o3, Nat.mul_comm, Nat.mul_left_comm, Nat.mul_assoc] <;> first | omega | grind
  · simp [smR, mirO, mirI, mirT, toldC, cC, itsC, h01, h10, h02, h20, h03, h30, h12, h21, h13, h31, h23, h32, f1, o1, f2, o2, f3, o3, Nat.mul_comm, Nat.mul_left_comm, Nat.mul_assoc] <;> first | omega | grind
theorem law4_TTF (F O : Nat → Nat) (E : Nat → Nat → Bool) (h01 : E 0 1 = true) (h10 : E 1 0 = true) (h02 : E 0 2 = true) (h20 : E 2 0 = true) (h03 : E 0 3 = false) (h30 : E 3 0 = false) (h12 : E 1 2 = true) (h21 : E 2 1 = true) (h13 : E 1 3 = false) (h31 : E 3 1 = false) (h23 : E 2 3 = false) (h32 : E 3 2 = false) (f1 : F 1 = F 0) (o1 : O 1 = O 0) (f2 : F 2 = F 0) (o2 : O 2 = O 0) : sumR 64 (g9 F) / (smR E 3).1 = ordN E 4 * prdN F 4 ∧ sumR 64 (g10 F E) / (smR E 3).1 = twoC F E ∧ sumR 64 (g11 F E) / (smR E 3).1 = thrC F E ∧ sumR 64 (g12 F O E) / (smR E 3).1 = mirO F O E 4 0 := by
  rw [sum9, sum10, sum11, sum12]
  refine ⟨?_, ?_, ?_, ?_⟩
  · simp [smR, ordN, rnE, rnF, prdN, h01, h10, h02, h20, h03, h30, h12, h21, h13, h31, h23, h32, f1, o1, f2, o2, Nat.mul_comm, Nat.mul_left_comm, Nat.mul_assoc] <;> first | omega | grind
  · simp [smR, twoC, h01, h10, h02, h20, h03, h30, h12, h21, h13, h31, h23, h32, f1, o1, f2, o2, Nat.mul_comm, Nat.mul_left_comm, Nat.mul_assoc] <;> first | omega | grind
  · simp [smR, thrC, h01, h10, h02, h20, h03, h30, h12, h21, h13, h31, h23, h32, f1, o1, f2, o2, Nat.mul_comm, Nat.mul_left_comm, Nat.mul_assoc] <;> first | omega | grind
  · simp [smR, mirO, mirI, mirT, toldC, cC, itsC, h01, h10, h02, h20, h03, h30, h12, h21, h13, h31, h23, h32, f1, o1, f2, o2, Nat.mul_comm, Nat.mul_left_comm, Nat.mul_assoc] <;> first | omega | grind
theorem law4_TFT (F O : Nat → Nat) (E : Nat → Nat → Bool) (h01 : E 0 1 = true) (h10 : E 1 0 = true) (h02 : E 0 2 = false) (h20 : E 2 0 = false) (h03 : E 0 3 = false) (h30 : E 3 0 = false) (h12 : E 1 2 = false) (h21 : E 2 1 = false) (h13 : E 1 3 = false) (h31 : E 3 1 = false) (h23 : E 2 3 = true) (h32 : E 3 2 = true) (f1 : F 1 = F 0) (o1 : O 1 = O 0) (f3 : F 3 = F 2) (o3 : O 3 = O 2) : sumR 64 (g9 F) / (smR E 3).1 = ordN E 4 * prdN F 4 ∧ sumR 64 (g10 F E) / (smR E 3).1 = twoC F E ∧ sumR 64 (g11 F E) / (smR E 3).1 = thrC F E ∧ sumR 64 (g12 F O E) / (smR E 3).1 = mirO F O E 4 0 := by
  rw [sum9, sum10, sum11, sum12]
  refine ⟨?_, ?_, ?_, ?_⟩
  · simp [smR, ordN, rnE, rnF, prdN, h01, h10, h02, h20, h03, h30, h12, h21, h13, h31, h23, h32, f1, o1, f3, o3, Nat.mul_comm, Nat.mul_left_comm, Nat.mul_assoc] <;> first | omega | grind
  · simp [smR, twoC, h01, h10, h02, h20, h03, h30, h12, h21, h13, h31, h23, h32, f1, o1, f3, o3, Nat.mul_comm, Nat.mul_left_comm, Nat.mul_assoc] <;> first | omega | grind
  · simp [smR, thrC, h01, h10, h02, h20, h03, h30, h12, h21, h13, h31, h23, h32, f1, o1, f3, o3, Nat.mul_comm, Nat.mul_left_comm, Nat.mul_assoc] <;> first | omega | grind
  · simp [smR, mirO, mirI, mirT, toldC, cC, itsC, h01, h10, h02, h20, h03, h30, h12, h21, h13, h31, h23, h32, f1, o1, f3, o3, Nat.mul_comm, Nat.mul_left_comm, Nat.mul_assoc] <;> first | omega | grind
theorem law4_TFF (F O : Nat → Nat) (E : Nat → Nat → Bool) (h01 : E 0 1 = true) (h10 : E 1 0 = true) (h02 : E 0 2 = false) (h20 : E 2 0 = false) (h03 : E 0 3 = false) (h30 : E 3 0 = false) (h12 : E 1 2 = false) (h21 : E 2 1 = false) (h13 : E 1 3 = false) (h31 : E 3 1 = false) (h23 : E 2 3 = false) (h32 : E 3 2 = false) (f1 : F 1 = F 0) (o1 : O 1 = O 0) : sumR 64 (g9 F) / (smR E 3).1 = ordN E 4 * prdN F 4 ∧ sumR 64 (g10 F E) / (smR E 3).1 = twoC F E ∧ sumR 64 (g11 F E) / (smR E 3).1 = thrC F E ∧ sumR 64 (g12 F O E) / (smR E 3).1 = mirO F O E 4 0 := by
  rw [sum9, sum10, sum11, sum12]
  refine ⟨?_, ?_, ?_, ?_⟩
  · simp [smR, ordN, rnE, rnF, prdN, h01, h10, h02, h20, h03, h30, h12, h21, h13, h31, h23, h32, f1, o1, Nat.mul_comm, Nat.mul_left_comm, Nat.mul_assoc] <;> first | omega | grind
  · simp [smR, twoC, h01, h10, h02, h20, h03, h30, h12, h21, h13, h31, h23, h32, f1, o1, Nat.mul_comm, Nat.mul_left_comm, Nat.mul_assoc] <;> first | omega | grind
  · simp [smR, thrC, h01, h10, h02, h20, h03, h30, h12, h21, h13, h31, h23, h32, f1, o1, Nat.mul_comm, Nat.mul_left_comm, Nat.mul_assoc] <;> first | omega | grind
  · simp [smR, mirO, mirI, mirT, toldC, cC, itsC, h01, h10, h02, h20, h03, h30, h12, h21, h13, h31, h23, h32, f1, o1, Nat.mul_comm, Nat.mul_left_comm, Nat.mul_assoc] <;> first | omega | grind
theorem law4_FTT (F O : Nat → Nat) (E : Nat → Nat → Bool) (h01 : E 0 1 = false) (h10 : E 1 0 = false) (h02 : E 0 2 = false) (h20 : E 2 0 = false) (h03 : E 0 3 = false) (h30 : E 3 0 = false) (h12 : E 1 2 = true) (h21 : E 2 1 = true) (h13 : E 1 3 = true) (h31 : E 3 1 = true) (h23 : E 2 3 = true) (h32 : E 3 2 = true) (f2 : F 2 = F 1) (o2 : O 2 = O 1) (f3 : F 3 = F 1) (o3 : O 3 = O 1) : sumR 64 (g9 F) / (smR E 3).1 = ordN E 4 * prdN F 4 ∧ sumR 64 (g10 F E) / (smR E 3).1 = twoC F E ∧ sumR 64 (g11 F E) / (smR E 3).1 = thrC F E ∧ sumR 64 (g12 F O E) / (smR E 3).1 = mirO F O E 4 0 := by
  rw [sum9, sum10, sum11, sum12]
  refine ⟨?_, ?_, ?_, ?_⟩
  · simp [smR, ordN, rnE, rnF, prdN, h01, h10, h02, h20, h03, h30, h12, h21, h13, h31, h23, h32, f2, o2, f3, o3, Nat.mul_comm, Nat.mul_left_comm, Nat.mul_assoc] <;> first | omega | grind
  · simp [smR, twoC, h01, h10, h02, h20, h03, h30, h12, h21, h13, h31, h23, h32, f2, o2, f3, o3, Nat.mul_comm, Nat.mul_left_comm, Nat.mul_assoc] <;> first | omega | grind
  · simp [smR, thrC, h01, h10, h02, h20, h03, h30, h12, h21, h13, h31, h23, h32, f2, o2, f3, o3, Nat.mul_comm, Nat.mul_left_comm, Nat.mul_assoc] <;> first | omega | grind
  · simp [smR, mirO, mirI, mirT, toldC, cC, itsC, h01, h10, h02, h20, h03, h30, h12, h21, h13, h31, h23, h32, f2, o2, f3, o3, Nat.mul_comm, Nat.mul_left_comm, Nat.mul_assoc] <;> first | omega | grind
theorem law4_FTF (F O : Nat → Nat) (E : Nat → Nat → Bool) (h01 : E 0 1 = false) (h10 : E 1 0 = false) (h02 : E 0 2 = false) (h20 : E 2 0 = false) (h03 : E 0 3 = false) (h30 : E 3 0 = false) (h12 : E 1 2 = true) (h21 : E 2 1 = true) (h13 : E 1 3 = false) (h31 : E 3 1 = false) (h23 : E 2 3 = false) (h32 : E 3 2 = false) (f2 : F 2 = F 1) (o2 : O 2 = O 1) : sumR 64 (g9 F) / (smR E 3).1 = ordN E 4 * prdN F 4 ∧ sumR 64 (g10 F E) / (smR E 3).1 = twoC F E ∧ sumR 64 (g11 F E) / (smR E 3).1 = thrC F E ∧ sumR 64 (g12 F O E) / (smR E 3).1 = mirO F O E 4 0 := by
  rw [sum9, sum10, sum11, sum12]
  refine ⟨?_, ?_, ?_, ?_⟩
  · simp [smR, ordN, rnE, rnF, prdN, h01, h10, h02, h20, h03, h30, h12, h21, h13, h31, h23, h32, f2, o2, Nat.mul_comm, Nat.mul_left_comm, Nat.mul_assoc] <;> first | omega | grind
  · simp [smR, twoC, h01, h10, h02, h20, h03, h30, h12, h21, h13, h31, h23, h32, f2, o2, Nat.mul_comm, Nat.mul_left_comm, Nat.mul_assoc] <;> first | omega | grind
  · simp [smR, thrC, h01, h10, h02, h20, h03, h30, h12, h21, h13, h31, h23, h32, f2, o2, Nat.mul_comm, Nat.mul_left_comm, Nat.mul_assoc] <;> first | omega | grind
  · simp [smR, mirO, mirI, mirT, toldC, cC, itsC, h01, h10, h02, h20, h03, h30, h12, h21, h13, h31, h23, h32, f2, o2, Nat.mul_comm, Nat.mul_left_comm, Nat.mul_assoc] <;> first | omega | grind
theorem law4_FFT (F O : Nat → Nat) (E : Nat → Nat → Bool) (h01 : E 0 1 = false) (h10 : E 1 0 = false) (h02 : E 0 2 = false) (h20 : E 2 0 = false) (h03 : E 0 3 = false) (h30 : E 3 0 = false) (h12 : E 1 2 = false) (h21 : E 2 1 = false) (h13 : E 1 3 = false) (h31 : E 3 1 = false) (h23 : E 2 3 = true) (h32 : E 3 2 = true) (f3 : F 3 = F 2) (o3 : O 3 = O 2) : sumR 64 (g9 F) / (smR E 3).1 = ordN E 4 * prdN F 4 ∧ sumR 64 (g10 F E) / (smR E 3).1 = twoC F E ∧ sumR 64 (g11 F E) / (smR E 3).1 = thrC F E ∧ sumR 64 (g12 F O E) / (smR E 3).1 = mirO F O E 4 0 := by
  rw [sum9, sum10, sum11, sum12]
  refine ⟨?_, ?_, ?_, ?_⟩
  · simp [smR, ordN, rnE, rnF, prdN, h01, h10, h02, h20, h03, h30, h12, h21, h13, h31, h23, h32, f3, o3, Nat.mul_comm, Nat.mul_left_comm, Nat.mul_assoc] <;> first | omega | grind
  · simp [smR, twoC, h01, h10, h02, h20, h03, h30, h12, h21, h13, h31, h23, h32, f3, o3, Nat.mul_comm, Nat.mul_left_comm, Nat.mul_assoc] <;> first | omega | grind
  · simp [smR, thrC, h01, h10, h02, h20, h03, h30, h12, h21, h13, h31, h23, h32, f3, o3, Nat.mul_comm, Nat.mul_left_comm, Nat.mul_assoc] <;> first | omega | grind
  · simp [smR, mirO, mirI, mirT, toldC, cC, itsC, h01, h10, h02, h20, h03, h30, h12, h21, h13, h31, h23, h32, f3, o3, Nat.mul_comm, Nat.mul_left_comm, Nat.mul_assoc] <;> first | omega | grind
theorem law4_FFF (F O : Nat → Nat) (E : Nat → Nat → Bool) (h01 : E 0 1 = false) (h10 : E 1 0 = false) (h02 : E 0 2 = false) (h20 : E 2 0 = false) (h03 : E 0 3 = false) (h30 : E 3 0 = false) (h12 : E 1 2 = false) (h21 : E 2 1 = false) (h13 : E 1 3 = false) (h31 : E 3 1 = false) (h23 : E 2 3 = false) (h32 : E 3 2 = false) : sumR 64 (g9 F) / (smR E 3).1 = ordN E 4 * prdN F 4 ∧ sumR 64 (g10 F E) / (smR E 3).1 = twoC F E ∧ sumR 64 (g11 F E) / (smR E 3).1 = thrC F E ∧ sumR 64 (g12 F O E) / (smR E 3).1 = mirO F O E 4 0 := by
  rw [sum9, sum10, sum11, sum12]
  refine ⟨?_, ?_, ?_, ?_⟩
  · have hs : (smR E 3).1 = 1 := by simp [smR, h01, h10, h02, h20, h03, h30, h12, h21, h13, h31, h23, h32]
    have ho : ordN E 4 = 24 := by simp [ordN, rnE, rnF, h01, h10, h02, h20, h03, h30, h12, h21, h13, h31, h23, h32]
    have hp : prdN F 4 = F 0 * F 1 * F 2 * F 3 := by show 1 * F 0 * F 1 * F 2 * F 3 = _; rw [Nat.one_mul]
    rw [hs, ho, hp, Nat.div_one]
    exact prod24 (F 0) (F 1) (F 2) (F 3)
  · have hs : (smR E 3).1 = 1 := by simp [smR, h01, h10, h02, h20, h03, h30, h12, h21, h13, h31, h23, h32]
    rw [hs, Nat.div_one]
    simp [twoC, h01, h10, h02, h20, h03, h30, h12, h21, h13, h31, h23, h32]
  · have hs : (smR E 3).1 = 1 := by simp [smR, h01, h10, h02, h20, h03, h30, h12, h21, h13, h31, h23, h32]
    rw [hs, Nat.div_one]
    simp [thrC, h01, h10, h02, h20, h03, h30, h12, h21, h13, h31, h23, h32]
  · have hs : (smR E 3).1 = 1 := by simp [smR, h01, h10, h02, h20, h03, h30, h12, h21, h13, h31, h23, h32]
    rw [hs, Nat.div_one]
    simp [mirO, mirI, mirT, toldC, cC, itsC, h01, h10, h02, h20, h03, h30, h12, h21, h13, h31, h23, h32]
theorem law4 (F O : Nat → Nat) (E : Nat → Nat → Bool) (hs : ∀ a b, E a b = E b a) (h02 : E 0 2 = (E 0 1 && E 1 2)) (h13 : E 1 3 = (E 1 2 && E 2 3)) (h03 : E 0 3 = (E 0 1 && E 1 2 && E 2 3)) (hF : ∀ a b, E a b = true → F a = F b ∧ O a = O b) :
    sumR 64 (g9 F) / (smR E 3).1 = ordN E 4 * prdN F 4 ∧ sumR 64 (g10 F E) / (smR E 3).1 = twoC F E ∧ sumR 64 (g11 F E) / (smR E 3).1 = thrC F E ∧ sumR 64 (g12 F O E) / (smR E 3).1 = mirO F O E 4 0 := by
  cases e01 : E 0 1 with
  | true =>
    cases e12 : E 1 2 with
    | true =>
      cases e23 : E 2 3 with
      | true =>
        have e02 : E 0 2 = true := by rw [h02, e01, e12]; rfl
        have e13 : E 1 3 = true := by rw [h13, e12, e23]; rfl
        have e03 : E 0 3 = true := by rw [h03, e01, e12, e23]; rfl
        exact law4_TTT F O E e01 ((hs 1 0).trans e01) e02 ((hs 2 0).trans e02) e03 ((hs 3 0).trans e03) e12 ((hs 2 1).trans e12) e13 ((hs 3 1).trans e13) e23 ((hs 3 2).trans e23) (hF 0 1 e01).1.symm (hF 0 1 e01).2.symm (hF 0 2 e02).1.symm (hF 0 2 e02).2.symm (hF 0 3 e03).1.symm (hF 0 3 e03).2.symm
      | false =>
        have e02 : E 0 2 = true := by rw [h02, e01, e12]; rfl
        have e13 : E 1 3 = false := by rw [h13, e12, e23]; rfl
        have e03 : E 0 3 = false := by rw [h03, e01, e12, e23]; rfl
        exact law4_TTF F O E e01 ((hs 1 0).trans e01) e02 ((hs 2 0).trans e02) e03 ((hs 3 0).trans e03) e12 ((hs 2 1).trans e12) e13 ((hs 3 1).trans e13) e23 ((hs 3 2).trans e23) (hF 0 1 e01).1.symm (hF 0 1 e01).2.symm (hF 0 2 e02).1.symm (hF 0 2 e02).2.symm
    | false =>
      cases e23 : E 2 3 with
      | true =>
        have e02 : E 0 2 = false := by rw [h02, e01, e12]; rfl
        have e13 : E 1 3 = false := by rw [h13, e12, e23]; rfl
        have e03 : E 0 3 = false := by rw [h03, e01, e12, e23]; rfl
        exact law4_TFT F O E e01 ((hs 1 0).trans e01) e02 ((hs 2 0).trans e02) e03 ((hs 3 0).trans e03) e12 ((hs 2 1).trans e12) e13 ((hs 3 1).trans e13) e23 ((hs 3 2).trans e23) (hF 0 1 e01).1.symm (hF 0 1 e01).2.symm (hF 2 3 e23).1.symm (hF 2 3 e23).2.symm
      | false =>
        have e02 : E 0 2 = false := by rw [h02, e01, e12]; rfl
        have e13 : E 1 3 = false := by rw [h13, e12, e23]; rfl
        have e03 : E 0 3 = false := by rw [h03, e01, e12, e23]; rfl
        exact law4_TFF F O E e01 ((hs 1 0).trans e01) e02 ((hs 2 0).trans e02) e03 ((hs 3 0).trans e03) e12 ((hs 2 1).trans e12) e13 ((hs 3 1).trans e13) e23 ((hs 3 2).trans e23) (hF 0 1 e01).1.symm (hF 0 1 e01).2.symm
  | false =>
    cases e12 : E 1 2 with
    | true =>
      cases e23 : E 2 3 with
      | true =>
        have e02 : E 0 2 = false := by rw [h02, e01, e12]; rfl
        have e13 : E 1 3 = true := by rw [h13, e12, e23]; rfl
        have e03 : E 0 3 = false := by rw [h03, e01, e12, e23]; rfl
        exact law4_FTT F O E e01 ((hs 1 0).trans e01) e02 ((hs 2 0).trans e02) e03 ((hs 3 0).trans e03) e12 ((hs 2 1).trans e12) e13 ((hs 3 1).trans e13) e23 ((hs 3 2).trans e23) (hF 1 2 e12).1.symm (hF 1 2 e12).2.symm (hF 1 3 e13).1.symm (hF 1 3 e13).2.symm
      | false =>
        have e02 : E 0 2 = false := by rw [h02, e01, e12]; rfl
        have e13 : E 1 3 = false := by rw [h13, e12, e23]; rfl
        have e03 : E 0 3 = false := by rw [h03, e01, e12, e23]; rfl
        exact law4_FTF F O E e01 ((hs 1 0).trans e01) e02 ((hs 2 0).trans e02) e03 ((hs 3 0).trans e03) e12 ((hs 2 1).trans e12) e13 ((hs 3 1).trans e13) e23 ((hs 3 2).trans e23) (hF 1 2 e12).1.symm (hF 1 2 e12).2.symm
    | false =>
      cases e23 : E 2 3 with
      | true =>
        have e02 : E 0 2 = false := by rw [h02, e01, e12]; rfl
        have e13 : E 1 3 = false := by rw [h13, e12, e23]; rfl
        have e03 : E 0 3 = false := by rw [h03, e01, e12, e23]; rfl
        exact law4_FFT F O E e01 ((hs 1 0).trans e01) e02 ((hs 2 0).trans e02) e03 ((hs 3 0).trans e03) e12 ((hs 2 1).trans e12) e13 ((hs 3 1).trans e13) e23 ((hs 3 2).trans e23) (hF 2 3 e23).1.symm (hF 2 3 e23).2.symm
      | false =>
        have e02 : E 0 2 = false := by rw [h02, e01, e12]; rfl
        have e13 : E 1 3 = false := by rw [h13, e12, e23]; rfl
        have e03 : E 0 3 = false := by rw [h03, e01, e12, e23]; rfl
        exact law4_FFF F O E e01 ((hs 1 0).trans e01) e02 ((hs 2 0).trans e02) e03 ((hs 3 0).trans e03) e12 ((hs 2 1).trans e12) e13 ((hs 3 1).trans e13) e23 ((hs 3 2).trans e23) 
