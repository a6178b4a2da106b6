/-! THE CARRIED WORDS (by program) -/
set_option maxRecDepth 100000
def ZZ (H0 : Heap) (dS : Nat → Option Nat) (U : State) : Prop := va_Z "java/lang/String" "COMPACT_STRINGS" "Z" (.int 1) (fun q => H0.size ≤ q) U H0 ∧ va_Z "java/lang/StringUTF16" "$assertionsDisabled" "Z" (.int 1) (fun q => H0.size ≤ q) U H0 ∧ va_Z "java/lang/StringUTF16" "HI_BYTE_SHIFT" "I" (.int 0) (fun q => H0.size ≤ q) U H0 ∧ va_Z "java/lang/StringUTF16" "LO_BYTE_SHIFT" "I" (.int 8) (fun q => H0.size ≤ q) U H0 ∧ va_Z "jdk/internal/misc/Unsafe" "ARRAY_BYTE_BASE_OFFSET" "I" (.int 16) (fun q => H0.size ≤ q) U H0 ∧ va_Z "jdk/internal/misc/UnsafeConstants" "BIG_ENDIAN" "Z" (.int 0) (fun q => H0.size ≤ q) U H0 ∧ va_Z "jdk/internal/util/ArraysSupport" "BIG_ENDIAN" "Z" (.int 0) (fun q => H0.size ≤ q) U H0 ∧ va_Z "jdk/internal/util/ArraysSupport" "LOG2_ARRAY_BYTE_INDEX_SCALE" "I" (.int 0) (fun q => H0.size ≤ q) U H0 ∧ va_Z "jdk/internal/util/ArraysSupport" "LOG2_ARRAY_INT_INDEX_SCALE" "I" (.int 2) (fun q => H0.size ≤ q) U H0 ∧ va_Z "jdk/internal/util/ArraysSupport" "LOG2_ARRAY_LONG_INDEX_SCALE" "I" (.int 3) (fun q => H0.size ≤ q) U H0 ∧ va_Z "jdk/internal/util/ArraysSupport" "LOG2_BYTE_BIT_SIZE" "I" (.int 3) (fun q => H0.size ≤ q) U H0 ∧ va_Z "java/lang/Integer" "DigitOnes" "[B" (va_rf (dS 1)) (fun q => H0.size ≤ q) U H0 ∧ va_Z "java/lang/Integer" "DigitTens" "[B" (va_rf (dS 2)) (fun q => H0.size ≤ q) U H0 ∧ va_Z "jdk/internal/util/Preconditions" "SIOOBE_FORMATTER" "Ljava/util/function/BiFunction;" (va_rf (dS 3)) (fun q => H0.size ≤ q) U H0 ∧ va_Z "java/util/ArrayList" "DEFAULTCAPACITY_EMPTY_ELEMENTDATA" "[Ljava/lang/Object;" (va_rf (dS 4)) (fun q => H0.size ≤ q) U H0 ∧ va_Z "java/lang/Throwable" "UNASSIGNED_STACK" "[Ljava/lang/StackTraceElement;" (va_rf (dS 5)) (fun q => H0.size ≤ q) U H0 ∧ va_Z "java/lang/Throwable" "SUPPRESSED_SENTINEL" "Ljava/util/List;" (va_rf (dS 6)) (fun q => H0.size ≤ q) U H0 ∧ va_Z "jdk/internal/util/ArraysSupport" "U" "Ljdk/internal/misc/Unsafe;" (va_rf (dS 7)) (fun q => H0.size ≤ q) U H0 ∧ va_Z "Skeletons$Count" "SKELETONS" "LSkeletons$Count;" (va_rf (dS 8)) (fun q => H0.size ≤ q) U H0 ∧ va_Z "Skeletons$Count" "FORMS" "LSkeletons$Count;" (va_rf (dS 9)) (fun q => H0.size ≤ q) U H0 ∧ va_Z "Skeletons$Count" "OWN" "LSkeletons$Count;" (va_rf (dS 10)) (fun q => H0.size ≤ q) U H0 ∧ va_Z "Skeletons$Such" "$VALUES" "[LSkeletons$Such;" (va_rf (dS 13)) (fun q => H0.size ≤ q) U H0
def CC (dS : Nat → Option Nat) (U : State) : Prop := (∃ a, dS 11 = some a ∧ vk_R "Skeletons$Skeleton" 130 "(" a U) ∧ (∃ a, dS 12 = some a ∧ vk_R "Skeletons$Skeleton" 136 ")" a U) ∧ (∃ a, dS 0 = some a ∧ va_Mi "[Ljava/lang/Object;" a U) ∧ va_Nw (.landsInDefault "Skeletons$One" ⟨"Skeletons$Whole", "code", "()[I"⟩ ⟨"Skeletons$Whole", "code", "()[I"⟩) U ∧ va_Nw (.landsInDefault "Skeletons$Two" ⟨"Skeletons$Whole", "code", "()[I"⟩ ⟨"Skeletons$Whole", "code", "()[I"⟩) U
def XX (H0 : Heap) (dS : Nat → Option Nat) (U : State) : Prop := (∀ w ∈ lw_tbl, xk w = true → va_Nw w U) ∧ ZZ H0 dS U ∧ CC dS U
section STARTX
variable {H0 : Heap} {dS : Nat → Option Nat}
theorem XX_n : XN (XX H0 dS) := fun w hw hx U h => h.1 w hw hx
theorem XX_z : XZ (XX H0 dS) H0 dS := fun U h => h.2.1
theorem XX_c : XC (XX H0 dS) dS := fun U h => h.2.2
theorem ao_vm {ty : FieldType} {A A' : Array Value} {u U : State} (hv : u.vm = U.vm) (h : (Cond.arrayOver ty).before A u = true) : (Cond.arrayOver ty).before A' U = true := by
  simp only [Cond.before, Cond.holds, Cond.value] at h ⊢
  rw [← hv]; exact h
theorem ld_vm {C : String} {x y : MethodName} {A A' : Array Value} {u U : State} (hv : u.vm = U.vm) (h : (Cond.landsInDefault C x y).before A u = true) : (Cond.landsInDefault C x y).before A' U = true := by
  have e : u.setVm U.vm = u := by rw [← hv]; rfl
  have e1 : U.methodFound? x.cls x.name x.desc = u.methodFound? x.cls x.name x.desc := by unfold State.methodFound?; rw [hv]
  have e2 : U.methodNamed? y = u.methodNamed? y := by unfold State.methodNamed?; rw [hv]
  simp only [Cond.before, Cond.holds, Cond.value, e1, e2] at h ⊢
  rw [← hv]; exact h
theorem xk_same {w : Cond} (hx : xk w = true) {A : Array Value} {u U : State} (hv : u.vm = U.vm) (h : w.before A u = true) : va_Nw w U := by
  cases w <;> first | exact va_tabs rfl hv h | exact ao_vm hv h | (exfalso; revert hx; simp [xk]; done)
theorem itf_ok : lw_tbl.all (fun w => match w with
  | .interfaceMethod a b n d => decide (a = b) && decide (a ≠ "java/lang/invoke/MethodHandle") && decide (a ≠ "java/lang/invoke/VarHandle") && decide (Cond.declares ⟨a, n, d⟩ ∈ lw_tbl)
  | _ => true) = true := by decide +kernel
theorem ZZ.moved {u U : State} (hv : u.vm.Alike U.vm) (h : ZZ H0 dS u) : ZZ H0 dS U := by
  obtain ⟨k0, k1, k2, k3, k4, k5, k6, k7, k8, k9, k10, k11, k12, k13, k14, k15, k16, k17, k18, k19, k20, k21⟩ := h
  exact ⟨k0.moved hv, k1.moved hv, k2.moved hv, k3.moved hv, k4.moved hv, k5.moved hv, k6.moved hv, k7.moved hv, k8.moved hv, k9.moved hv, k10.moved hv, k11.moved hv, k12.moved hv, k13.moved hv, k14.moved hv, k15.moved hv, k16.moved hv, k17.moved hv, k18.moved hv, k19.moved hv, k20.moved hv, k21.moved hv⟩
theorem XX_ok : Xok (XX H0 dS) := by
  refine ⟨fun s U hv h => ?_, fun s U hW h => ?_⟩
  · have al : s.vm.Alike U.vm := by rw [hv]; exact Vm.Alike.refl _
    obtain ⟨h1, h2, ⟨a, e1, c1⟩, ⟨b, e2, c2⟩, ⟨c, e3, c3⟩, c4, c5⟩ := h
    exact ⟨fun w hw hx => xk_same hx hv (h1 w hw hx), h2.moved al, ⟨a, e1, c1.same hv.symm⟩, ⟨b, e2, c2.same hv.symm⟩, ⟨c, e3, c3.moved al⟩, ld_vm hv c4, ld_vm hv c5⟩
  · have al : s.vm.Alike U.vm := hW.alike
    obtain ⟨h1, h2, ⟨a, e1, c1⟩, ⟨b, e2, c2⟩, ⟨c, e3, c3⟩, c4, c5⟩ := h
    have hdec : va_Nw (.declares ⟨"Skeletons$Whole", "code", "()[I"⟩) s := h1 _ q954 rfl
    obtain ⟨r, meth, hn, -⟩ := Cond.declares_spec hdec
    have hf : (s.setVm U.vm).methodFound? "Skeletons$Whole" "code" "()[I" = s.methodFound? "Skeletons$Whole" "code" "()[I" := State.methodFound?_setVm_of_named al hn (by decide)
    refine ⟨fun w hw hx => ?_, h2.moved al, ⟨a, e1, c1.warm hW⟩, ⟨b, e2, c2.warm hW⟩, ⟨c, e3, c3.moved al⟩, ld_vm (rfl : (s.setVm U.vm).vm = U.vm) (A := #[]) (by rw [Cond.landsInDefault_setVm (args := #[]) (args' := #[]) al hf]; exact c4), ld_vm (rfl : (s.setVm U.vm).vm = U.vm) (A := #[]) (by rw [Cond.landsInDefault_setVm (args := #[]) (args' := #[]) al hf]; exact c5)⟩
    have k := h1 w hw hx
    have hi := List.all_eq_true.mp itf_ok w hw
    cases w <;> first | (exfalso; revert hx; simp [xk]; done) | skip
    case fieldLinkNest => exact va_Nw.warmF hW k
    case methodLinkNest => exact va_Nw.warmM hW k
    case castable => exact va_Nw.warmC hW k
    case declares => exact va_Nw.warmD hW k
    case arrayOver ty => exact ao_vm (rfl : (s.setVm U.vm).vm = U.vm) (A := #[]) (by rw [Cond.arrayOver_setVmC al]; exact k)
    case interfaceMethod a b n d =>
      simp only [Bool.and_eq_true, decide_eq_true_eq] at hi
      obtain ⟨⟨⟨rfl, i2⟩, i3⟩, i4⟩ := hi
      obtain ⟨r, meth, hn, -⟩ := Cond.declares_spec (h1 _ i4 rfl)
      exact va_tabs rfl (rfl : (s.setVm U.vm).vm = U.vm) (by rw [Cond.interfaceMethod_setVm al hn ⟨i2, i3⟩]; exact k)
    case publicMethod => exact va_tabs rfl (rfl : (s.setVm U.vm).vm = U.vm) (by rw [Cond.publicMethod_setVm al]; exact k)
    case unhidden => exact va_tabs rfl (rfl : (s.setVm U.vm).vm = U.vm) (by rw [Cond.unhidden_setVm al]; exact k)
    case privateMethod => exact va_tabs rfl (rfl : (s.setVm U.vm).vm = U.vm) (by rw [Cond.privateMethod_setVm al]; exact k)
end STARTX
/-! CLASSES -/
theorem fm {c : Cond} (k : Nat) (h : (flatC (Jvm.Cond.and given_1 narrow_1))[k]? = some c) : c ∈ flatC (Jvm.Cond.and given_1 narrow_1) := List.mem_of_getElem? h
section STARTC
variable {A : Array Value} {s : State}
theorem nn_X0 : ∀ a, a < 14 → ∀ b, b < 14 → a ≠ b → (TX0 a).2.1 ≠ (TX0 b).2.1 ∨ ((TX0 a).2.2.2 = true ∧ (TX0 b).2.2.2 = true ∧ (TX0 a).1 ≠ (TX0 b).1) := by decide +kernel
theorem nn_X1 : ∀ a, a < 3 → ∀ b, b < 3 → a ≠ b → (TX1 a).2.1 ≠ (TX1 b).2.1 ∨ ((TX1 a).2.2.2 = true ∧ (TX1 b).2.2.2 = true ∧ (TX1 a).1 ≠ (TX1 b).1) := by decide +kernel
theorem nn_X3 : ∀ a, a < 60 → ∀ b, b < 60 → a ≠ b → (TX3 a).2.1 ≠ (TX3 b).2.1 ∨ ((TX3 a).2.2.2 = true ∧ (TX3 b).2.2.2 = true ∧ (TX3 a).1 ≠ (TX3 b).1) := by decide +kernel
theorem nn_X5 : ∀ a, a < 4 → ∀ b, b < 4 → a ≠ b → (TX5 a).2.1 ≠ (TX5 b).2.1 ∨ ((TX5 a).2.2.2 = true ∧ (TX5 b).2.2.2 = true ∧ (TX5 a).1 ≠ (TX5 b).1) := by decide +kernel
theorem nn_X6 : ∀ a, a < 4 → ∀ b, b < 4 → a ≠ b → (TX6 a).2.1 ≠ (TX6 b).2.1 ∨ ((TX6 a).2.2.2 = true ∧ (TX6 b).2.2.2 = true ∧ (TX6 a).1 ≠ (TX6 b).1) := by decide +kernel
theorem nn_X7 : ∀ a, a < 7 → ∀ b, b < 7 → a ≠ b → (TX7 a).2.1 ≠ (TX7 b).2.1 ∨ ((TX7 a).2.2.2 = true ∧ (TX7 b).2.2.2 = true ∧ (TX7 a).1 ≠ (TX7 b).1) := by decide +kernel
theorem nn_X8 : ∀ a, a < 6 → ∀ b, b < 6 → a ≠ b → (TX8 a).2.1 ≠ (TX8 b).2.1 ∨ ((TX8 a).2.2.2 = true ∧ (TX8 b).2.2.2 = true ∧ (TX8 a).1 ≠ (TX8 b).1) := by decide +kernel
theorem nn_X9 : ∀ a, a < 1 → ∀ b, b < 1 → a ≠ b → (TX9 a).2.1 ≠ (TX9 b).2.1 ∨ ((TX9 a).2.2.2 = true ∧ (TX9 b).2.2.2 = true ∧ (TX9 a).1 ≠ (TX9 b).1) := by decide +kernel
theorem nn_X10 : ∀ a, a < 2 → ∀ b, b < 2 → a ≠ b → (TX10 a).2.1 ≠ (TX10 b).2.1 ∨ ((TX10 a).2.2.2 = true ∧ (TX10 b).2.2.2 = true ∧ (TX10 a).1 ≠ (TX10 b).1) := by decide +kernel
theorem nn_J2 : ∀ a, a < 3 → ∀ b, b < 3 → a ≠ b → (TJ2 a).2.1 ≠ (TJ2 b).2.1 ∨ ((TJ2 a).2.2.2 = true ∧ (TJ2 b).2.2.2 = true ∧ (TJ2 a).1 ≠ (TJ2 b).1) := by decide +kernel
theorem nn_J12 : ∀ a, a < 4 → ∀ b, b < 4 → a ≠ b → (TJ12 a).2.1 ≠ (TJ12 b).2.1 ∨ ((TJ12 a).2.2.2 = true ∧ (TJ12 b).2.2.2 = true ∧ (TJ12 a).1 ≠ (TJ12 b).1) := by decide +kernel
theorem nn_J14 : ∀ a, a < 9 → ∀ b, b < 9 → a ≠ b → (TJ14 a).2.1 ≠ (TJ14 b).2.1 ∨ ((TJ14 a).2.2.2 = true ∧ (TJ14 b).2.2.2 = true ∧ (TJ14 a).1 ≠ (TJ14 b).1) := by decide +kernel
theorem nn_J17 : ∀ a, a < 4 → ∀ b, b < 4 → a ≠ b → (TJ17 a).2.1 ≠ (TJ17 b).2.1 ∨ ((TJ17 a).2.2.2 = true ∧ (TJ17 b).2.2.2 = true ∧ (TJ17 a).1 ≠ (TJ17 b).1) := by decide +kernel
theorem nn_J18 : ∀ a, a < 4 → ∀ b, b < 4 → a ≠ b → (TJ18 a).2.1 ≠ (TJ18 b).2.1 ∨ ((TJ18 a).2.2.2 = true ∧ (TJ18 b).2.2.2 = true ∧ (TJ18 a).1 ≠ (TJ18 b).1) := by decide +kernel
theorem nn_J23 : ∀ a, a < 6 → ∀ b, b < 6 → a ≠ b → (TJ23 a).2.1 ≠ (TJ23 b).2.1 ∨ ((TJ23 a).2.2.2 = true ∧ (TJ23 b).2.2.2 = true ∧ (TJ23 a).1 ≠ (TJ23 b).1) := by decide +kernel
theorem nn_J24 : ∀ a, a < 1 → ∀ b, b < 1 → a ≠ b → (TJ24 a).2.1 ≠ (TJ24 b).2.1 ∨ ((TJ24 a).2.2.2 = true ∧ (TJ24 b).2.2.2 = true ∧ (TJ24 a).1 ≠ (TJ24 b).1) := by decide +kernel
theorem nn_J26 : ∀ a, a < 4 → ∀ b, b < 4 → a ≠ b → (TJ26 a).2.1 ≠ (TJ26 b).2.1 ∨ ((TJ26 a).2.2.2 = true ∧ (TJ26 b).2.2.2 = true ∧ (TJ26 a).1 ≠ (TJ26 b).1) := by decide +kernel
theorem st_cls (hts : ∀ w ∈ lw_all, w.before A s = true) (hN : ∀ c, c ∈ flatC (Jvm.Cond.and given_1 narrow_1) → c.before A s = true) : ∃ (dC : Nat → ClassId) (dJ : Nat → Nat → Nat), ∀ t q, ccof t = some q → Rk s q (dC t) (dJ t) := by
  have h : ∀ t, ∃ (c : ClassId) (iS : Nat → Nat), ∀ q, ccof t = some q → Rk s q c iS := by
    intro t
    cases hq : ccof t with
    | none => exact ⟨0, fun _ => 0, fun q h => nomatch h⟩
    | some q0 =>
      suffices k : ∃ (c : ClassId) (iS : Nat → Nat), Rk s q0 c iS by
        obtain ⟨c, iS, k⟩ := k
        exact ⟨c, iS, fun q e => by cases e; exact k⟩
      unfold ccof at hq
      rcases co2 rfl hq with ⟨-, hq⟩ | hq
      · cases hq; exact kn_of hts in_X0 tyX0 tyX0_ok q185 nn_X0
      rcases co2 rfl hq with ⟨-, hq⟩ | hq
      · cases hq; exact kn_of hts in_X1 tyX1 tyX1_ok q298 nn_X1
      rcases co2 rfl hq with ⟨-, hq⟩ | hq
      · cases hq; exact kn_of hts in_X3 tyX3 tyX3_ok q2058 nn_X3
      rcases co2 rfl hq with ⟨-, hq⟩ | hq
      · cases hq; exact kn_of hts in_X5 tyX5 tyX5_ok q439 nn_X5
      rcases co2 rfl hq with ⟨-, hq⟩ | hq
      · cases hq; exact kn_of hts in_X6 tyX6 tyX6_ok q472 nn_X6
      rcases co2 rfl hq with ⟨-, hq⟩ | hq
      · cases hq; exact kn_of hts in_X7 tyX7 tyX7_ok q515 nn_X7
      rcases co2 rfl hq with ⟨-, hq⟩ | hq
      · cases hq; exact kn_of hts in_X8 tyX8 tyX8_ok q751 nn_X8
      rcases co2 rfl hq with ⟨-, hq⟩ | hq
      · cases hq; exact kn_of hts in_X9 tyX9 tyX9_ok q936 nn_X9
      rcases co2 rfl hq with ⟨-, hq⟩ | hq
      · cases hq; exact kn_of hts in_X10 tyX10 tyX10_ok q1483 nn_X10
      rcases co2 rfl hq with ⟨-, hq⟩ | hq
      · cases hq; exact kn_of hts in_J2 tyJ2 tyJ2_ok q266 nn_J2
      rcases co2 rfl hq with ⟨-, hq⟩ | hq
      · cases hq; exact kn_of hts in_J12 tyJ12 tyJ12_ok q838 nn_J12
      rcases co2 rfl hq with ⟨-, hq⟩ | hq
      · cases hq; exact kn_of hts in_J14 tyJ14 tyJ14_ok q901 nn_J14
      rcases co2 rfl hq with ⟨-, hq⟩ | hq
      · cases hq; exact kn_of hts in_J17 tyJ17 tyJ17_ok q985 nn_J17
      rcases co2 rfl hq with ⟨-, hq⟩ | hq
      · cases hq; exact kn_of hts in_J18 tyJ18 tyJ18_ok q1096 nn_J18
      rcases co2 rfl hq with ⟨-, hq⟩ | hq
      · cases hq; exact kn_of hts in_J23 tyJ23 tyJ23_ok q1419 nn_J23
      rcases co2 rfl hq with ⟨-, hq⟩ | hq
      · cases hq; exact kn_of hts in_J24 tyJ24 tyJ24_ok q1505 nn_J24
      rcases co2 rfl hq with ⟨-, hq⟩ | hq
      · cases hq; exact kn_of hts in_J26 tyJ26 tyJ26_ok q1529 nn_J26
      rcases co2 rfl hq with ⟨-, hq⟩ | hq
      · cases hq; exact kn_ex (hN (.exactly (.static "Skeletons$Count" "SKELETONS" "LSkeletons$Count;") "Skeletons$Count$1") (fm 4 (by decide +kernel)))
      rcases co2 rfl hq with ⟨-, hq⟩ | hq
      · cases hq; exact kn_ex (hN (.exactly (.static "Skeletons$Count" "FORMS" "LSkeletons$Count;") "Skeletons$Count$2") (fm 6 (by decide +kernel)))
      rcases co2 rfl hq with ⟨-, hq⟩ | hq
      · cases hq; exact kn_ex (hN (.exactly (.static "Skeletons$Count" "OWN" "LSkeletons$Count;") "Skeletons$Count$3") (fm 9 (by decide +kernel)))
      rcases co2 rfl hq with ⟨-, hq⟩ | hq
      · cases hq; exact kn_ex (hN (.exactly (.static "Skeletons$Such" "LONG" "LSkeletons$Such;") "Skeletons$Such$1") (fm 247 (by decide +kernel)))
      rcases co2 rfl hq with ⟨-, hq⟩ | hq
      · cases hq; exact kn_ex (hN (.exactly (.static "Skeletons$Such" "ENDS" "LSkeletons$Such;") "Skeletons$Such$2") (fm 252 (by decide +kernel)))
      rcases co2 rfl hq with ⟨-, hq⟩ | hq
      · cases hq; exact kn_ex (hN (.exactly (.static "Skeletons$Such" "ASYMMETRIC" "LSkeletons$Such;") "Skeletons$Such$3") (fm 258 (by decide +kernel)))
      rcases co2 rfl hq with ⟨-, hq⟩ | hq
      · cases hq; exact kn_ex (hN (.exactly (.static "Skeletons$Such" "UNLIKE" "LSkeletons$Such;") "Skeletons$Such$4") (fm 265 (by decide +kernel)))
      rcases co2 rfl hq with ⟨-, hq⟩ | hq
      · cases hq; exact kn_ex (hN (.exactly (.static "jdk/internal/util/ArraysSupport" "U" "Ljdk/internal/misc/Unsafe;") "jdk/internal/misc/Unsafe") (fm 36 (by decide +kernel)))
      cases hq
  exact ⟨fun t => Classical.choose (h t), fun t => Classical.choose (Classical.choose_spec (h t)), fun t => Classical.choose_spec (Classical.choose_spec (h t))⟩
theorem st_arr (hts : ∀ w ∈ lw_all, w.before A s = true) : ∃ dA : Nat → ClassId, ∀ t ty, iof t = some ty → ArrOfT s (dA t) ty ∧ s.vm.findClass ("[" ++ ty.toString) = some (dA t) := by
  obtain ⟨c1, h1⟩ := arr_of q257 hts
  obtain ⟨c2, h2⟩ := arr_of q320 hts
  obtain ⟨c3, h3⟩ := arr_of q391 hts
  obtain ⟨c4, h4⟩ := arr_of q2244 hts
  refine ⟨fun t => if t = 1 then c1 else if t = 2 then c2 else if t = 3 then c3 else c4, fun t ty h => ?_⟩
  unfold iof at h
  by_cases e1 : t = 1
  · subst e1; cases h; exact h1
  · rw [if_neg e1] at h
    by_cases e2 : t = 2
    · subst e2; cases h; exact h2
    · rw [if_neg e2] at h
      by_cases e3 : t = 3
      · subst e3; cases h; exact h3
      · rw [if_neg e3] at h
        by_cases e4 : t = 4
        · subst e4; cases h; exact h4
        · rw [if_neg e4] at h; cases h
def crn (t : Nat) : String := if t = 1 then "Skeletons$Branch" else if t = 2 then "[I" else if t = 3 then "[[I" else if t = 4 then "Skeletons$Skeleton" else if t = 5 then "java/lang/String" else if t = 6 then "java/lang/Object" else if t = 7 then "[J" else "Skeletons$Such"
theorem st_ref (hts : ∀ w ∈ lw_tbl, w.before A s = true) : ∃ dB : Nat → ClassId, ∀ t ty, crof t = some ty → Ra s ty (crn t) (dB t) := by
  have h : ∀ t, ∃ c : ClassId, ∀ ty, crof t = some ty → Ra s ty (crn t) c := by
    intro t
    cases hq : crof t with
    | none => exact ⟨0, fun q h => nomatch h⟩
    | some q0 =>
      suffices k : ∃ c : ClassId, Ra s q0 (crn t) c by
        obtain ⟨c, k⟩ := k
        exact ⟨c, fun q e => by cases e; exact k⟩
      unfold crof at hq
      rcases co2 rfl hq with ⟨rfl, hq⟩ | hq
      · cases hq; exact ra_obj (hts _ q745)
      rcases co2 rfl hq with ⟨rfl, hq⟩ | hq
      · cases hq; exact ra_arr (hts _ q296)
      rcases co2 rfl hq with ⟨rfl, hq⟩ | hq
      · cases hq; exact ra_arr (hts _ q295)
      rcases co2 rfl hq with ⟨rfl, hq⟩ | hq
      · cases hq; exact ra_obj (hts _ q325)
      rcases co2 rfl hq with ⟨rfl, hq⟩ | hq
      · cases hq; exact ra_obj (hts _ q1936)
      rcases co2 rfl hq with ⟨rfl, hq⟩ | hq
      · cases hq; exact ra_obj (hts _ q725)
      rcases co2 rfl hq with ⟨rfl, hq⟩ | hq
      · cases hq; exact ra_arr (hts _ q188)
      rcases co2 rfl hq with ⟨rfl, hq⟩ | hq
      · cases hq; exact ra_obj (hts _ q337)
      cases hq
  exact ⟨fun t => Classical.choose (h t), fun t => Classical.choose_spec (h t)⟩
theorem fc_eq {vm : Vm} {n : String} {a b : ClassId} (h1 : vm.findClass n = some a) (h2 : vm.findClass n = some b) : a = b := Option.some.inj (h1.symm.trans h2)
theorem st_KB {dC : Nat → ClassId} {dJ : Nat → Nat → Nat} {dA dB : Nat → ClassId} {H0 : Heap} {dS : Nat → Option Nat} (hts : ∀ w ∈ lw_tbl, w.before A s = true) (hC : ∀ t q, ccof t = some q → Rk s q (dC t) (dJ t)) (hA : ∀ t ty, iof t = some ty → ArrOfT s (dA t) ty ∧ s.vm.findClass ("[" ++ ty.toString) = some (dA t)) (hB : ∀ t ty, crof t = some ty → Ra s ty (crn t) (dB t)) : KB (DD dC dJ dA dB H0 dS) s := by
  refine ⟨fun t q e => (hC t q e).1, hA, fun t ty e => ?_⟩
  obtain ⟨r1, r2, kA, comp, kc, r3, r4, r5, r6⟩ := hB t ty e
  refine ⟨r1, r2, kA, comp, kc, r3, r4, r5, fun k hk hk0 => ?_⟩
  have self : ∀ {n : String} {c : ClassId}, s.vm.findClass n = some c → n = crn t → kid (DD dC dJ dA dB H0 dS) k = c → s.vm.assignable (kid (DD dC dJ dA dB H0 dS) k) comp = true ∧ ∃ kv : Class, s.vm.classes[kid (DD dC dJ dA dB H0 dS) k]? = some kv := by
    intro n c h1 h2 h3
    subst h2
    have := fc_eq h1 r6
    subst this
    rw [h3]
    exact ⟨Vm.assignable_self _ _, kc, r5⟩
  have hk : (eok t).elem k = true := hk
  have e : crof t = some ty := e
  unfold crof at e
  rcases co2 rfl e with ⟨rfl, e⟩ | e
  · have hk : k ∈ ([(0, 7)] : List (Nat × Nat)) := List.mem_of_elem_eq_true hk
    rw [List.mem_singleton] at hk
    subst hk
    exact self (hC 7 _ rfl).1.1.1 rfl rfl
  rcases co2 rfl e with ⟨rfl, e⟩ | e
  · have hk : k ∈ ([(1, 1)] : List (Nat × Nat)) := List.mem_of_elem_eq_true hk
    rw [List.mem_singleton] at hk
    subst hk
    exact self (hA 1 _ rfl).2 rfl rfl
  rcases co2 rfl e with ⟨rfl, e⟩ | e
  · have hk : k ∈ ([(2, 2)] : List (Nat × Nat)) := List.mem_of_elem_eq_true hk
    rw [List.mem_singleton] at hk
    subst hk
    exact self (hB 2 _ rfl).2.1 rfl rfl
  rcases co2 rfl e with ⟨rfl, e⟩ | e
  · have hk : k ∈ ([(0, 2)] : List (Nat × Nat)) := List.mem_of_elem_eq_true hk
    rw [List.mem_singleton] at hk
    subst hk
    exact self (hC 2 _ rfl).1.1.1 rfl rfl
  rcases co2 rfl e with ⟨rfl, e⟩ | e
  · have hk : k ∈ ([(0, 14)] : List (Nat × Nat)) := List.mem_of_elem_eq_true hk
    rw [List.mem_singleton] at hk
    subst hk
    exact self (hC 14 _ rfl).1.1.1 rfl rfl
  rcases co2 rfl e with ⟨rfl, e⟩ | e
  · have hk : k ∈ ([(0, 2), (0, 7), (0, 10)] : List (Nat × Nat)) := List.mem_of_elem_eq_true hk
    simp only [List.mem_cons, List.not_mem_nil, or_false] at hk
    rcases hk with rfl | rfl | rfl
    · obtain ⟨c1, c2, f1, f2, f3⟩ := Cond.castable_spec (hts _ q2773)
      have g1 := (hC 2 _ rfl).1.1
      have i1 := fc_eq f1 g1.1
      have i2 := fc_eq f2 r6
      subst i1; subst i2
      exact ⟨f3, g1.2⟩
    · obtain ⟨c1, c2, f1, f2, f3⟩ := Cond.castable_spec (hts _ q2775)
      have g1 := (hC 7 _ rfl).1.1
      have i1 := fc_eq f1 g1.1
      have i2 := fc_eq f2 r6
      subst i1; subst i2
      exact ⟨f3, g1.2⟩
    · obtain ⟨c1, c2, f1, f2, f3⟩ := Cond.castable_spec (hts _ q2778)
      have g1 := (hC 10 _ rfl).1.1
      have i1 := fc_eq f1 g1.1
      have i2 := fc_eq f2 r6
      subst i1; subst i2
      exact ⟨f3, g1.2⟩
  rcases co2 rfl e with ⟨rfl, e⟩ | e
  · have hk : k ∈ ([(1, 2)] : List (Nat × Nat)) := List.mem_of_elem_eq_true hk
    rw [List.mem_singleton] at hk
    subst hk
    exact self (hA 2 _ rfl).2 rfl rfl
  rcases co2 rfl e with ⟨rfl, e⟩ | e
  · exact absurd hk (by show ¬ (List.elem k []) = true; simp)
  cases e
end STARTC
