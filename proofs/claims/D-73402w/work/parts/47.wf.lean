/-! what a step does to the heap's order, whatever the machine -/
def Wfo (h : AH) (o : Out) : Prop := match o with
  | .inl t => WF t.2.2.2 ∧ h.sz ≤ t.2.2.2.sz ∧ h.sl ≤ t.2.2.2.sl
  | .inr (.inl (_, h')) => h' = h
  | .inr (.inr (_, _, h', k)) => h' = h ∧ ((∃ q L r, k = kt q L r) ∨ ∃ hd q L r, k = kx hd q L r)
def Wfp (f : Sem) : Prop := ∀ L st h o, WF h → f L st h (fun o' => o' = o) → Wfo h o
theorem wf_cond {b : Bool} {f g : Sem} (hf : Wfp f) (hg : Wfp g) : Wfp (cond b f g) := by
  cases b
  · exact hg
  · exact hf
theorem WF.newIs {t k : Nat} : ∀ (n : Nat) {h : AH}, WF h → WF (newIs t k n h) ∧ h.sz ≤ (newIs t k n h).sz ∧ h.sl ≤ (newIs t k n h).sl
  | 0, _, w => ⟨w, Nat.le_refl _, Nat.le_refl _⟩
  | n + 1, h, w => by
    obtain ⟨a, b, c⟩ := WF.newIs n (w.newI (t := t) (xs := List.replicate k 0))
    have b : h.sz + 1 ≤ _ := b
    have c : h.sl + _ ≤ _ := c
    exact ⟨a, Nat.le_trans (Nat.le_succ _) b, Nat.le_trans (Nat.le_add_right _ _) c⟩
theorem WF.newRs {t k : Nat} : ∀ (n : Nat) {h : AH}, WF h → WF (newRs t k n h) ∧ h.sz ≤ (newRs t k n h).sz ∧ h.sl ≤ (newRs t k n h).sl
  | 0, _, w => ⟨w, Nat.le_refl _, Nat.le_refl _⟩
  | n + 1, h, w => by
    obtain ⟨a, b, c⟩ := WF.newRs n (w.newR (t := t) (xs := List.replicate k none))
    have b : h.sz + 1 ≤ _ := b
    have c : h.sl + _ ≤ _ := c
    exact ⟨a, Nat.le_trans (Nat.le_succ _) b, Nat.le_trans (Nat.le_add_right _ _) c⟩
theorem wf_same {h h' : AH} {q : Nat} {L : Ls} {st : List AV} {o : Out} (w : WF h') (h1 : h.sz ≤ h'.sz) (h2 : h.sl ≤ h'.sl) (e : nx q L st h' = o) : Wfo h o := by
  subst e
  exact ⟨w, h1, h2⟩
theorem wf_kI {n : Int} {q : Nat} : Wfp (kI n q) := by
  intro L st h o w k
  unfold kI at k
  exact wf_same w (Nat.le_refl _) (Nat.le_refl _) k
theorem wf_kL {n : Int} {q : Nat} : Wfp (kL n q) := by
  intro L st h o w k
  unfold kL at k
  exact wf_same w (Nat.le_refl _) (Nat.le_refl _) k
theorem wf_kN {q : Nat} : Wfp (kN q) := by
  intro L st h o w k
  unfold kN at k
  exact wf_same w (Nat.le_refl _) (Nat.le_refl _) k
theorem wf_gst {k q : Nat} : Wfp (gst k q) := by
  intro L st h o w k
  unfold gst at k
  exact wf_same w (Nat.le_refl _) (Nat.le_refl _) k
theorem wf_goto {t : Nat} : Wfp (goto t) := by
  intro L st h o w k
  unfold goto at k
  exact wf_same w (Nat.le_refl _) (Nat.le_refl _) k
theorem wf_lodI {i q : Nat} : Wfp (lodI i q) := by
  intro L st h o w k
  unfold lodI at k
  split at k
  · exact wf_same w (Nat.le_refl _) (Nat.le_refl _) k
  · exact k.elim
theorem wf_lodL {i q : Nat} : Wfp (lodL i q) := by
  intro L st h o w k
  unfold lodL at k
  split at k
  · exact wf_same w (Nat.le_refl _) (Nat.le_refl _) k
  · exact k.elim
theorem wf_lodR {i q : Nat} : Wfp (lodR i q) := by
  intro L st h o w k
  unfold lodR at k
  split at k
  · exact wf_same w (Nat.le_refl _) (Nat.le_refl _) k
  · exact k.elim
theorem wf_stoI {i q : Nat} : Wfp (stoI i q) := by
  intro L st h o w k
  unfold stoI at k
  split at k
  · exact wf_same w (Nat.le_refl _) (Nat.le_refl _) k
  · exact k.elim
theorem wf_stoL {i q : Nat} : Wfp (stoL i q) := by
  intro L st h o w k
  unfold stoL at k
  split at k
  · exact wf_same w (Nat.le_refl _) (Nat.le_refl _) k
  · exact k.elim
theorem wf_stoR {i q : Nat} : Wfp (stoR i q) := by
  intro L st h o w k
  unfold stoR at k
  split at k
  · exact wf_same w (Nat.le_refl _) (Nat.le_refl _) k
  · exact k.elim
theorem wf_inc {i : Nat} {n : Int} {q : Nat} : Wfp (inc i n q) := by
  intro L st h o w k
  unfold inc at k
  split at k
  · exact wf_same w (Nat.le_refl _) (Nat.le_refl _) k
  · exact k.elim
theorem wf_opI {f : Int → Int → Int} {q : Nat} : Wfp (opI f q) := by
  intro L st h o w k
  unfold opI at k
  split at k
  · exact wf_same w (Nat.le_refl _) (Nat.le_refl _) k
  · exact k.elim
theorem wf_opD {f : Int → Int → Int} {q : Nat} : Wfp (opD f q) := by
  intro L st h o w k
  unfold opD at k
  split at k
  · exact wf_same w (Nat.le_refl _) (Nat.le_refl _) k.2
  · exact k.elim
theorem wf_unI {f : Int → Int} {q : Nat} : Wfp (unI f q) := by
  intro L st h o w k
  unfold unI at k
  split at k
  · exact wf_same w (Nat.le_refl _) (Nat.le_refl _) k
  · exact k.elim
theorem wf_opL {f : Int → Int → Int} {q : Nat} : Wfp (opL f q) := by
  intro L st h o w k
  unfold opL at k
  split at k
  · exact wf_same w (Nat.le_refl _) (Nat.le_refl _) k
  · exact k.elim
theorem wf_opLD {f : Int → Int → Int} {q : Nat} : Wfp (opLD f q) := by
  intro L st h o w k
  unfold opLD at k
  split at k
  · exact wf_same w (Nat.le_refl _) (Nat.le_refl _) k.2
  · exact k.elim
theorem wf_cmpl {q : Nat} : Wfp (cmpl q) := by
  intro L st h o w k
  unfold cmpl at k
  split at k
  · exact wf_same w (Nat.le_refl _) (Nat.le_refl _) k
  · exact k.elim
theorem wf_xi2l {q : Nat} : Wfp (xi2l q) := by
  intro L st h o w k
  unfold xi2l at k
  split at k
  · exact wf_same w (Nat.le_refl _) (Nat.le_refl _) k
  · exact k.elim
theorem wf_xl2i {q : Nat} : Wfp (xl2i q) := by
  intro L st h o w k
  unfold xl2i at k
  split at k
  · exact wf_same w (Nat.le_refl _) (Nat.le_refl _) k
  · exact k.elim
theorem wf_dup {q : Nat} : Wfp (dup q) := by
  intro L st h o w k
  unfold dup at k
  split at k
  · cases e : Nat.beq (cat _) 1 with
    | true => rw [e] at k; exact wf_same w (Nat.le_refl _) (Nat.le_refl _) k
    | false => rw [e] at k; exact k.elim
  · exact k.elim
theorem wf_dupx1 {q : Nat} : Wfp (dupx1 q) := by
  intro L st h o w k
  unfold dupx1 at k
  split at k
  · cases e : Nat.beq (cat _) 1 && Nat.beq (cat _) 1 with
    | true => rw [e] at k; exact wf_same w (Nat.le_refl _) (Nat.le_refl _) k
    | false => rw [e] at k; exact k.elim
  · exact k.elim
theorem wf_dup2 {q : Nat} : Wfp (dup2 q) := by
  intro L st h o w k
  unfold dup2 at k
  split at k
  · cases e : Nat.beq (cat _) 2 with
    | true => rw [e] at k; exact wf_same w (Nat.le_refl _) (Nat.le_refl _) k
    | false =>
      rw [e] at k
      simp only [cond_false] at k
      split at k
      · cases e : Nat.beq (cat _) 1 && Nat.beq (cat _) 1 with
        | true => rw [e] at k; exact wf_same w (Nat.le_refl _) (Nat.le_refl _) k
        | false => rw [e] at k; exact k.elim
      · exact k.elim
  · exact k.elim
theorem wf_pop {q : Nat} : Wfp (pop q) := by
  intro L st h o w k
  unfold pop at k
  split at k
  · cases e : Nat.beq (cat _) 1 with
    | true => rw [e] at k; exact wf_same w (Nat.le_refl _) (Nat.le_refl _) k
    | false => rw [e] at k; exact k.elim
  · exact k.elim
theorem wf_ifeq {t q : Nat} : Wfp (ifeq t q) := by
  intro L st h o w k
  unfold ifeq at k
  split at k
  · rename_i xx rr
    by_cases c : xx = 0
    · exact wf_same w (Nat.le_refl _) (Nat.le_refl _) (k.1 c)
    · exact wf_same w (Nat.le_refl _) (Nat.le_refl _) (k.2 (by first | exact c | omega | exact Classical.not_not.mp c))
  · exact k.elim
theorem wf_iceq {t q : Nat} : Wfp (iceq t q) := by
  intro L st h o w k
  unfold iceq at k
  split at k
  · rename_i yy xx rr
    by_cases c : xx = yy
    · exact wf_same w (Nat.le_refl _) (Nat.le_refl _) (k.1 c)
    · exact wf_same w (Nat.le_refl _) (Nat.le_refl _) (k.2 (by first | exact c | omega | exact Classical.not_not.mp c))
  · exact k.elim
theorem wf_ifne {t q : Nat} : Wfp (ifne t q) := by
  intro L st h o w k
  unfold ifne at k
  split at k
  · rename_i xx rr
    by_cases c : xx ≠ 0
    · exact wf_same w (Nat.le_refl _) (Nat.le_refl _) (k.1 c)
    · exact wf_same w (Nat.le_refl _) (Nat.le_refl _) (k.2 (by first | exact c | omega | exact Classical.not_not.mp c))
  · exact k.elim
theorem wf_icne {t q : Nat} : Wfp (icne t q) := by
  intro L st h o w k
  unfold icne at k
  split at k
  · rename_i yy xx rr
    by_cases c : xx ≠ yy
    · exact wf_same w (Nat.le_refl _) (Nat.le_refl _) (k.1 c)
    · exact wf_same w (Nat.le_refl _) (Nat.le_refl _) (k.2 (by first | exact c | omega | exact Classical.not_not.mp c))
  · exact k.elim
theorem wf_iflt {t q : Nat} : Wfp (iflt t q) := by
  intro L st h o w k
  unfold iflt at k
  split at k
  · rename_i xx rr
    by_cases c : xx < 0
    · exact wf_same w (Nat.le_refl _) (Nat.le_refl _) (k.1 c)
    · exact wf_same w (Nat.le_refl _) (Nat.le_refl _) (k.2 (by first | exact c | omega | exact Classical.not_not.mp c))
  · exact k.elim
theorem wf_iclt {t q : Nat} : Wfp (iclt t q) := by
  intro L st h o w k
  unfold iclt at k
  split at k
  · rename_i yy xx rr
    by_cases c : xx < yy
    · exact wf_same w (Nat.le_refl _) (Nat.le_refl _) (k.1 c)
    · exact wf_same w (Nat.le_refl _) (Nat.le_refl _) (k.2 (by first | exact c | omega | exact Classical.not_not.mp c))
  · exact k.elim
theorem wf_ifge {t q : Nat} : Wfp (ifge t q) := by
  intro L st h o w k
  unfold ifge at k
  split at k
  · rename_i xx rr
    by_cases c : 0 ≤ xx
    · exact wf_same w (Nat.le_refl _) (Nat.le_refl _) (k.1 c)
    · exact wf_same w (Nat.le_refl _) (Nat.le_refl _) (k.2 (by first | exact c | omega | exact Classical.not_not.mp c))
  · exact k.elim
theorem wf_icge {t q : Nat} : Wfp (icge t q) := by
  intro L st h o w k
  unfold icge at k
  split at k
  · rename_i yy xx rr
    by_cases c : yy ≤ xx
    · exact wf_same w (Nat.le_refl _) (Nat.le_refl _) (k.1 c)
    · exact wf_same w (Nat.le_refl _) (Nat.le_refl _) (k.2 (by first | exact c | omega | exact Classical.not_not.mp c))
  · exact k.elim
theorem wf_ifgt {t q : Nat} : Wfp (ifgt t q) := by
  intro L st h o w k
  unfold ifgt at k
  split at k
  · rename_i xx rr
    by_cases c : 0 < xx
    · exact wf_same w (Nat.le_refl _) (Nat.le_refl _) (k.1 c)
    · exact wf_same w (Nat.le_refl _) (Nat.le_refl _) (k.2 (by first | exact c | omega | exact Classical.not_not.mp c))
  · exact k.elim
theorem wf_icgt {t q : Nat} : Wfp (icgt t q) := by
  intro L st h o w k
  unfold icgt at k
  split at k
  · rename_i yy xx rr
    by_cases c : yy < xx
    · exact wf_same w (Nat.le_refl _) (Nat.le_refl _) (k.1 c)
    · exact wf_same w (Nat.le_refl _) (Nat.le_refl _) (k.2 (by first | exact c | omega | exact Classical.not_not.mp c))
  · exact k.elim
theorem wf_ifle {t q : Nat} : Wfp (ifle t q) := by
  intro L st h o w k
  unfold ifle at k
  split at k
  · rename_i xx rr
    by_cases c : xx ≤ 0
    · exact wf_same w (Nat.le_refl _) (Nat.le_refl _) (k.1 c)
    · exact wf_same w (Nat.le_refl _) (Nat.le_refl _) (k.2 (by first | exact c | omega | exact Classical.not_not.mp c))
  · exact k.elim
theorem wf_icle {t q : Nat} : Wfp (icle t q) := by
  intro L st h o w k
  unfold icle at k
  split at k
  · rename_i yy xx rr
    by_cases c : xx ≤ yy
    · exact wf_same w (Nat.le_refl _) (Nat.le_refl _) (k.1 c)
    · exact wf_same w (Nat.le_refl _) (Nat.le_refl _) (k.2 (by first | exact c | omega | exact Classical.not_not.mp c))
  · exact k.elim
theorem wf_ifnull {t q : Nat} : Wfp (ifnull t q) := by
  intro L st h o w k
  unfold ifnull at k
  split at k
  · exact wf_same w (Nat.le_refl _) (Nat.le_refl _) k
  · exact wf_same w (Nat.le_refl _) (Nat.le_refl _) k
  · exact k.elim
theorem wf_ifnonnull {t q : Nat} : Wfp (ifnonnull t q) := by
  intro L st h o w k
  unfold ifnonnull at k
  split at k
  · exact wf_same w (Nat.le_refl _) (Nat.le_refl _) k
  · exact wf_same w (Nat.le_refl _) (Nat.le_refl _) k
  · exact k.elim
theorem wf_aceq {t q : Nat} : Wfp (aceq t q) := by
  intro L st h o w k
  unfold aceq at k
  split at k
  · rename_i yy xx rr
    by_cases c : xx = yy
    · exact wf_same w (Nat.le_refl _) (Nat.le_refl _) (k.1 c)
    · exact wf_same w (Nat.le_refl _) (Nat.le_refl _) (k.2 (by first | exact c | omega | exact Classical.not_not.mp c))
  · exact k.elim
theorem wf_acne {t q : Nat} : Wfp (acne t q) := by
  intro L st h o w k
  unfold acne at k
  split at k
  · rename_i yy xx rr
    by_cases c : xx ≠ yy
    · exact wf_same w (Nat.le_refl _) (Nat.le_refl _) (k.1 c)
    · exact wf_same w (Nat.le_refl _) (Nat.le_refl _) (k.2 (by first | exact c | omega | exact Classical.not_not.mp c))
  · exact k.elim
theorem wf_ald {ts : List Nat} {q : Nat} : Wfp (ald ts q) := by
  intro L st h o w k
  unfold ald at k
  split at k
  · obtain ⟨_, _, _, _, _, _, _, k⟩ := k
    exact wf_same w (Nat.le_refl _) (Nat.le_refl _) k
  · exact k.elim
theorem wf_aldL {q : Nat} : Wfp (aldL q) := by
  intro L st h o w k
  unfold aldL at k
  split at k
  · obtain ⟨_, _, _, _, _, _, _, k⟩ := k
    exact wf_same w (Nat.le_refl _) (Nat.le_refl _) k
  · exact k.elim
theorem wf_aldR {q : Nat} : Wfp (aldR q) := by
  intro L st h o w k
  unfold aldR at k
  split at k
  · obtain ⟨_, _, _, _, _, _, _, k⟩ := k
    exact wf_same w (Nat.le_refl _) (Nat.le_refl _) k
  · exact k.elim
theorem wf_ast {q : Nat} : Wfp (ast q) := by
  intro L st h o w k
  unfold ast at k
  split at k
  · obtain ⟨_, _, _, _, k⟩ := k
    exact wf_same w.setI (Nat.le_refl _) (Nat.le_refl _) k
  · exact k.elim
theorem wf_astB {q : Nat} : Wfp (astB q) := by
  intro L st h o w k
  unfold astB at k
  split at k
  · obtain ⟨_, _, _, _, _, ⟨_, k⟩ | ⟨_, k⟩⟩ := k
    · exact wf_same w.setI (Nat.le_refl _) (Nat.le_refl _) k
    · exact wf_same w.setI (Nat.le_refl _) (Nat.le_refl _) k
  · exact k.elim
theorem wf_astL {q : Nat} : Wfp (astL q) := by
  intro L st h o w k
  unfold astL at k
  split at k
  · obtain ⟨_, _, _, _, k⟩ := k
    exact wf_same w.setI (Nat.le_refl _) (Nat.le_refl _) k
  · exact k.elim
theorem wf_astR {ek : Nat → List (Nat × Nat)} {q : Nat} : Wfp (astR ek q) := by
  intro L st h o w k
  unfold astR at k
  split at k
  · obtain ⟨_, _, _, _, _, _, _, _, _, k⟩ := k
    exact wf_same w.setR (Nat.le_refl _) (Nat.le_refl _) k
  · exact k.elim
theorem wf_alen {q : Nat} : Wfp (alen q) := by
  intro L st h o w k
  unfold alen at k
  split at k
  · obtain ⟨_, _, k⟩ := k
    exact wf_same w (Nat.le_refl _) (Nat.le_refl _) k
  · exact k.elim
theorem wf_nwI {t q : Nat} : Wfp (nwI t q) := by
  intro L st h o w k
  unfold nwI at k
  split at k
  · exact wf_same w.newI (Nat.le_succ _) (Nat.le_add_right _ _) k.2.2
  · exact k.elim
theorem wf_nwR {t q : Nat} : Wfp (nwR t q) := by
  intro L st h o w k
  unfold nwR at k
  split at k
  · exact wf_same w.newR (Nat.le_succ _) (Nat.le_add_right _ _) k.2.2
  · exact k.elim
theorem wf_nwO {c : Nat} {fs : List AV} {q : Nat} : Wfp (nwO c fs q) := by
  intro L st h o w k
  unfold nwO at k
  exact wf_same w.newF (Nat.le_succ _) (Nat.le_add_right _ _) k
theorem wf_getf {kk : List (Nat × Nat)} {q : Nat} : Wfp (getf kk q) := by
  intro L st h o w k
  unfold getf at k
  split at k
  · obtain ⟨_, _, _, _, _, _, _, k⟩ := k
    exact wf_same w (Nat.le_refl _) (Nat.le_refl _) k
  · exact k.elim
theorem wf_putI {kk : List (Nat × Nat)} {q : Nat} : Wfp (putI kk q) := by
  intro L st h o w k
  unfold putI at k
  split at k
  · obtain ⟨_, _, _, _, _, _, k⟩ := k
    exact wf_same w.setF (Nat.le_refl _) (Nat.le_refl _) k
  · exact k.elim
theorem wf_putB {kk : List (Nat × Nat)} {q : Nat} : Wfp (putB kk q) := by
  intro L st h o w k
  unfold putB at k
  split at k
  · obtain ⟨_, _, _, _, _, _, _, _, k⟩ := k
    exact wf_same w.setF (Nat.le_refl _) (Nat.le_refl _) k
  · exact k.elim
theorem wf_putZ {kk : List (Nat × Nat)} {q : Nat} : Wfp (putZ kk q) := by
  intro L st h o w k
  unfold putZ at k
  split at k
  · obtain ⟨_, _, _, _, _, _, _, k⟩ := k
    exact wf_same w.setF (Nat.le_refl _) (Nat.le_refl _) k
  · exact k.elim
theorem wf_putL {kk : List (Nat × Nat)} {q : Nat} : Wfp (putL kk q) := by
  intro L st h o w k
  unfold putL at k
  split at k
  · obtain ⟨_, _, _, _, _, _, k⟩ := k
    exact wf_same w.setF (Nat.le_refl _) (Nat.le_refl _) k
  · exact k.elim
theorem wf_putR {kk : List (Nat × Nat)} {q : Nat} : Wfp (putR kk q) := by
  intro L st h o w k
  unfold putR at k
  split at k
  · obtain ⟨_, _, _, _, _, _, k⟩ := k
    exact wf_same w.setF (Nat.le_refl _) (Nat.le_refl _) k
  · exact k.elim
theorem wf_chk {ks : List (Nat × Nat)} {q : Nat} : Wfp (chk ks q) := by
  intro L st h o w k
  unfold chk at k
  split at k
  · exact wf_same w (Nat.le_refl _) (Nat.le_refl _) k.2
  · exact k.elim
theorem wf_oini {q : Nat} : Wfp (oini q) := by
  intro L st h o w k
  unfold oini at k
  split at k
  · cases e : Nat.ble (cats _) 30 with
    | true => rw [e] at k; exact wf_same w (Nat.le_refl _) (Nat.le_refl _) k
    | false => rw [e] at k; exact k.elim
  · exact k.elim
theorem wf_ivS {z n q : Nat} : Wfp (ivS z n q) := by
  intro L st h o w k
  unfold ivS at k
  split at k
  · cases e : Nat.ble (cats _) 8 with
    | true =>
      rw [e] at k
      have k : cl _ _ _ _ = o := k
      subst k
      exact ⟨rfl, Or.inl ⟨_, _, _, rfl⟩⟩
    | false => rw [e] at k; exact k.elim
  · exact k.elim
theorem wf_ivI {z n q : Nat} : Wfp (ivI z n q) := by
  intro L st h o w k
  unfold ivI at k
  split at k
  · cases e : Nat.ble (cats _) 8 with
    | true =>
      rw [e] at k
      have k : cl _ _ _ _ = o := k
      subst k
      exact ⟨rfl, Or.inl ⟨_, _, _, rfl⟩⟩
    | false => rw [e] at k; exact k.elim
  · exact k.elim
theorem wf_ivV {zz : List (Nat × Nat)} {n q : Nat} : Wfp (ivV zz n q) := by
  intro L st h o w k
  unfold ivV at k
  split at k
  · cases e : Nat.ble (cats _) 8 with
    | true =>
      rw [e] at k
      obtain ⟨_, _, _, _, _, k⟩ := k
      have k : cl _ _ _ _ = o := k
      subst k
      exact ⟨rfl, Or.inl ⟨_, _, _, rfl⟩⟩
    | false => rw [e] at k; exact k.elim
  · exact k.elim
theorem wf_retI  : Wfp (retI) := by
  intro L st h o w k
  unfold retI at k
  split at k
  · subst k; rfl
  · exact k.elim
theorem wf_retZ  : Wfp (retZ) := by
  intro L st h o w k
  unfold retZ at k
  split at k
  · obtain ⟨_, k⟩ := k; subst k; rfl
  · exact k.elim
theorem wf_retC  : Wfp (retC) := by
  intro L st h o w k
  unfold retC at k
  split at k
  · obtain ⟨_, _, k⟩ := k; subst k; rfl
  · exact k.elim
theorem wf_retB  : Wfp (retB) := by
  intro L st h o w k
  unfold retB at k
  split at k
  · obtain ⟨_, _, k⟩ := k; subst k; rfl
  · exact k.elim
theorem wf_retL  : Wfp (retL) := by
  intro L st h o w k
  unfold retL at k
  split at k
  · subst k; rfl
  · exact k.elim
theorem wf_retR  : Wfp (retR) := by
  intro L st h o w k
  unfold retR at k
  split at k
  · subst k; rfl
  · exact k.elim
theorem wf_retV  : Wfp (retV) := by
  intro L st h o w k
  unfold retV at k
  split at k
  · subst k; rfl
  · exact k.elim
theorem wf_thr  : Wfp (thr) := by
  intro L st h o w k
  unfold thr at k
  split at k
  · subst k; rfl
  · exact k.elim
theorem wf_bad  : Wfp (bad) := by
  intro L st h o w k
  unfold bad at k
  exact k.elim
theorem swK_some {x : Int} {K : Nat → Prop} {df : Nat} : ∀ ts : List (Int × Nat), swK x K df ts → ∃ t, K t
  | [], k => ⟨_, k⟩
  | (a, t) :: r, k => by
    by_cases c : x = a
    · exact ⟨_, k.1 c⟩
    · exact swK_some r (k.2 c)
theorem wf_sw {ts : List (Int × Nat)} {df : Nat} : Wfp (sw ts df) := by
  intro L st h o w k
  unfold sw at k
  split at k
  · obtain ⟨t, ht⟩ := swK_some _ k
    exact wf_same w (Nat.le_refl _) (Nat.le_refl _) ht
  · exact k.elim
theorem wf_opS {f : Int → Int → Int} {q : Nat} : Wfp (opS f q) := by
  intro L st h o w k
  unfold opS at k
  split at k
  · exact wf_same w (Nat.le_refl _) (Nat.le_refl _) k
  · exact k.elim
theorem wf_acopy {ek : Nat → List (Nat × Nat)} {q : Nat} : Wfp (acopy ek q) := by
  intro L st h o w k
  unfold acopy at k
  split at k
  · obtain ⟨_, _, _, _, ⟨_, _, _, _, _, _, _, _, _, _, k⟩ | ⟨_, _, _, _, _, _, _, _, _, _, _, k⟩⟩ := k
    · exact wf_same w.setI (Nat.le_refl _) (Nat.le_refl _) k
    · exact wf_same w.setR (Nat.le_refl _) (Nat.le_refl _) k
  · exact k.elim
theorem wf_aclone {ti tr q : Nat} : Wfp (aclone ti tr q) := by
  intro L st h o w k
  unfold aclone at k
  split at k
  · obtain ⟨_, ⟨_, _, _, k⟩ | ⟨_, _, _, _, _, k⟩⟩ := k
    · exact wf_same w.newI (Nat.le_succ _) (Nat.le_add_right _ _) k
    · exact wf_same w.newR (Nat.le_succ _) (Nat.le_add_right _ _) k
  · exact k.elim
theorem wf_mulI {t u q : Nat} : Wfp (mulI t u q) := by
  intro L st h o w k
  unfold mulI at k
  split at k
  · obtain ⟨_, _, _, _, k⟩ := k
    rename_i kk nn rr _ _ _ _
    obtain ⟨a, b, c⟩ := WF.newIs (t := u) (k := kk.toNat) nn.toNat (w.newR (t := t) (xs := (List.range nn.toNat).map fun i => some (h.sz + 1 + i)))
    exact wf_same a (Nat.le_trans (Nat.le_succ _) b) (Nat.le_trans (Nat.le_add_right _ _) c) k
  · exact k.elim
theorem wf_mulR {t u q : Nat} : Wfp (mulR t u q) := by
  intro L st h o w k
  unfold mulR at k
  split at k
  · obtain ⟨_, _, _, _, k⟩ := k
    rename_i kk nn rr _ _ _ _
    obtain ⟨a, b, c⟩ := WF.newRs (t := u) (k := kk.toNat) nn.toNat (w.newR (t := t) (xs := (List.range nn.toNat).map fun i => some (h.sz + 1 + i)))
    exact wf_same a (Nat.le_trans (Nat.le_succ _) b) (Nat.le_trans (Nat.le_add_right _ _) c) k
  · exact k.elim
theorem wf_getc {c q : Nat} : Wfp (getc c q) := by
  intro L st h o w k
  unfold getc at k
  split at k
  · obtain ⟨_, _, _, _, _, k⟩ := k
    exact wf_same w (Nat.le_refl _) (Nat.le_refl _) k
  · exact k.elim
theorem wf_unsL {q : Nat} : Wfp (unsL q) := by
  intro L st h o w k
  unfold unsL at k
  split at k
  · obtain ⟨_, _, _, _, _, _, _, _, _, _, _, k⟩ := k
    exact wf_same w (Nat.le_refl _) (Nat.le_refl _) k
  · exact k.elim
theorem wf_unsI {q : Nat} : Wfp (unsI q) := by
  intro L st h o w k
  unfold unsI at k
  split at k
  · obtain ⟨_, _, _, _, _, _, _, _, _, _, _, k⟩ := k
    exact wf_same w (Nat.le_refl _) (Nat.le_refl _) k
  · exact k.elim
theorem wf_ivVx {hd : Option Nat} {zz : List (Nat × Nat)} {n q : Nat} : Wfp (ivVx hd zz n q) := by
  intro L st h o w k
  unfold ivVx at k
  split at k
  · cases e : Nat.ble (cats _) 8 with
    | true =>
      rw [e] at k
      obtain ⟨_, _, _, _, _, k⟩ := k
      have k : cl _ _ _ _ = o := k
      subst k
      exact ⟨rfl, Or.inr ⟨_, _, _, _, rfl⟩⟩
    | false => rw [e] at k; exact k.elim
  · exact k.elim
