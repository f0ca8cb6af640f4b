/-! the law's cases: the calls that throw nothing, and may change something -/
set_option maxRecDepth 100000
set_option linter.unusedVariables false
section LWF
variable {D : gx_D} {o p0 L N i : Nat} {xs : Nat → Int32} {Y : YT} {h : HX} {s : MS} {A : AT} {k : (HX × MS) → Option Nat → Option Nat → Option Nat → Int32 → Option ((Bool) × HX)}
theorem case_40 (C : LC D o p0 L xs Y N h s A) : goL D o p0 L xs Y N i h (lc_40 D o k (h, s) p0 (some Y.1) (some Y.2.2.2.2.2.2.2.2) (nI i)) k := by
  obtain ⟨fs, fnd, dl, X, e12, e13, K⟩ := C.sr
  obtain ⟨h1, e1, P⟩ := c_reach X e12 e13
  obtain ⟨E, B⟩ := K _ _ _ _ _ (by decide) (by decide) P
  obtain ⟨s1, e2, q⟩ := m_reach (D := D) (b := h1) (o := o) C.M
  refine ⟨h1, s1, A, ?_, C.go (le_X1_reachableCount e1) E (mq_of C.2.1 q).2 C.ok C.up, B.up (by decide) (by decide)⟩
  unfold lc_40
  rw [Option.bind_some]
  show gx_b2 (f_X1_reachableCount D h Y.1) _ = _
  rw [e1, pl_b2_s]
  show gx_b2 (f_X9_reachableCount D h1 o s) _ = _
  rw [e2, pl_b2_s, if_pos rfl]
  rfl
theorem case_45 (C : LC D o p0 L xs Y N h s A) : goL D o p0 L xs Y N i h (lc_45 D o k (h, s) p0 (some Y.1) (some Y.2.2.2.2.2.2.2.2) (nI i)) k := by
  obtain ⟨fs, fnd, dl, X, e12, e13, K⟩ := C.sr
  obtain ⟨h1, e1, _, P⟩ := c_deadlockCount X e12 e13
  obtain ⟨E, B⟩ := K _ _ _ _ _ (by decide) (by decide) P
  obtain ⟨s1, e2, q⟩ := m_deadlockCount (D := D) (b := h1) (o := o) C.M
  refine ⟨h1, s1, A, ?_, C.go (le_X1_deadlockCount e1) E (mq_of C.2.1 q).2 C.ok C.up, B.up (by decide) (by decide)⟩
  unfold lc_45
  rw [Option.bind_some]
  show gx_b2 (f_X1_deadlockCount D h Y.1) _ = _
  rw [e1, pl_b2_s]
  show gx_b2 (f_X9_deadlockCount D h1 o s) _ = _
  rw [e2, pl_b2_s, if_pos rfl]
  rfl
theorem case_46 (C : LC D o p0 L xs Y N h s A) : goL D o p0 L xs Y N i h (lc_46 D o k (h, s) p0 (some Y.1) (some Y.2.2.2.2.2.2.2.2) (nI i)) k := by
  obtain ⟨fs, fnd, dl, X, e12, e13, K⟩ := C.sr
  obtain ⟨h1, e1, _, P⟩ := c_stepsToDeadlock X e12 e13
  obtain ⟨E, B⟩ := K _ _ _ _ _ (by decide) (by decide) P
  obtain ⟨s1, e2, q⟩ := m_stepsToDeadlock (D := D) (b := h1) (o := o) C.M
  refine ⟨h1, s1, A, ?_, C.go (le_X1_stepsToDeadlock e1) E (mq_of C.2.1 q).2 C.ok C.up, B.up (by decide) (by decide)⟩
  unfold lc_46
  rw [Option.bind_some]
  show gx_b2 (f_X1_stepsToDeadlock D h Y.1) _ = _
  rw [e1, pl_b2_s]
  show gx_b2 (f_X9_stepsToDeadlock D h1 o s) _ = _
  rw [e2, pl_b2_s, if_pos rfl]
  rfl
theorem case_47 (C : LC D o p0 L xs Y N h s A) : goL D o p0 L xs Y N i h (lc_47 D o k (h, s) p0 (some Y.1) (some Y.2.2.2.2.2.2.2.2) (nI i)) k := by
  obtain ⟨fs, fnd, dl, X, e12, e13, K⟩ := C.sr
  obtain ⟨h1, e1, P⟩ := c_isConsistent X e12 e13 C.rn.2.2.2.2.2.2.1
  obtain ⟨E, B⟩ := K _ _ _ _ _ (by decide) (by decide) P
  obtain ⟨s1, e2, q⟩ := m_isConsistent (D := D) (b := h1) (o := o) C.M
  refine ⟨h1, s1, A, ?_, C.go (le_X1_isConsistent e1) E (mq_of C.2.1 q).2 C.ok C.up, B.up (by decide) (by decide)⟩
  unfold lc_47
  rw [Option.bind_some]
  show gx_b2 (f_X1_isConsistent D h Y.1) _ = _
  rw [e1, pl_b2_s]
  show gx_b2 (f_X9_isConsistent D h1 o s) _ = _
  rw [e2, pl_b2_s, if_pos rfl]
  rfl
theorem case_51 (C : LC D o p0 L xs Y N h s A) : goL D o p0 L xs Y N i h (lc_51 D o k (h, s) p0 (some Y.1) (some Y.2.2.2.2.2.2.2.2) (nI i)) k := by
  obtain ⟨h1, e1, E, B⟩ := c_reset C.1
  obtain ⟨s1, e2, M⟩ := mc_reset (D := D) (b := h1) (o := o) C.2.1 C.ok
  refine ⟨h1, s1, _, ?_, C.go (le_X1_reset e1) E M (C.ok.ch (rnRst_ok C.df C.rn)) (C.2.2.2.2.2.ch (C.2.2.2.2.2.1.up (Nat.le_add_right _ _))), B.up (by decide) (by decide)⟩
  unfold lc_51
  rw [Option.bind_some]
  show gx_b2 (f_X1_reset D h Y.1) _ = _
  rw [e1, pl_b2_s]
  show gx_b2 (f_X9_reset D h1 o s) _ = _
  rw [e2, pl_b2_s, if_pos rfl]
  rfl
theorem case_52 (C : LC D o p0 L xs Y N h s A) : goL D o p0 L xs Y N i h (lc_52 D o k (h, s) p0 (some Y.1) (some Y.2.2.2.2.2.2.2.2) (nI i)) k := by
  obtain ⟨h1, e1, E, B⟩ := c_clearCoverage C.1
  obtain ⟨s1, e2, M⟩ := mc_clear (D := D) (b := h1) (o := o) C.2.1 C.ok
  refine ⟨h1, s1, _, ?_, C.go (le_X1_clearCoverage e1) E M (C.ok.ch (rnClr_ok C.rn)) (C.2.2.2.2.2.ch ⟨0, Nat.zero_le _, rfl⟩), B.up (by decide) (by decide)⟩
  unfold lc_52
  rw [Option.bind_some]
  show gx_b2 (f_X1_clearCoverage D h Y.1) _ = _
  rw [e1, pl_b2_s]
  show gx_b2 (f_X9_clearCoverage D h1 o s) _ = _
  rw [e2, pl_b2_s, if_pos rfl]
  rfl
theorem case_57 (C : LC D o p0 L xs Y N h s A) : goL D o p0 L xs Y N i h (lc_57 D o k (h, s) p0 (some Y.1) (some Y.2.2.2.2.2.2.2.2) (nI i)) k := by
  obtain ⟨h1, e1, E, B⟩ := c_saveState C.1
  obtain ⟨s1, e2, M⟩ := mc_saveState (D := D) (b := h1) (o := o) C.2.1 C.ok
  refine ⟨h1, s1, _, ?_, C.go (le_X1_saveState e1) E M ((by obtain ⟨a1, a2, a3, a4⟩ := C.ok; exact ⟨a1, a2, fun R hR => (by cases hR; exact a2), a4⟩)) (⟨C.up.1, fun R hR => (by cases hR; exact C.up.1), C.up.2.2⟩), B.up (by decide) (by decide)⟩
  unfold lc_57
  rw [Option.bind_some]
  show gx_b2 (f_X1_saveState D h Y.1) _ = _
  rw [e1, pl_b2_s]
  show gx_b2 (f_X9_saveState D h1 o s) _ = _
  rw [e2, pl_b2_s, if_pos rfl]
  rfl
theorem case_55 (C : LC D o p0 L xs Y N h s A) : goL D o p0 L xs Y N i h (lc_55 D o k (h, s) p0 (some Y.1) (some Y.2.2.2.2.2.2.2.2) (nI i)) k := by
  obtain ⟨h1, e1, E, B⟩ := c_writeConfiguration C.1 C.2.2.1
  obtain ⟨s1, e2, M⟩ := mc_writeConfiguration (D := D) (bh := h1) (o := o) C.2.1 C.ok
  have wl := wcT_len (R := A.2.1) C.df A.1.vn.length
  have v3 := C.df.2.2.1.2
  refine ⟨h1, s1, _, ?_, C.go (le_X1_writeConfiguration e1) E M (by obtain ⟨a1, a2, a3, a4, a5, a6, a7⟩ := C.ok; exact ⟨a1, a2, a3, a4, a5, a6, Nat.le_trans wl (by omega)⟩) C.up, B.up (by decide) (by decide)⟩
  unfold lc_55
  rw [Option.bind_some]
  show gx_b2 (f_X1_writeConfiguration D h Y.1) _ = _
  rw [e1, pl_b2_s]
  show gx_b2 (f_X9_writeConfiguration D h1 o s) _ = _
  rw [e2, pl_b2_s, if_pos rfl]
  rfl
theorem case_2 (C : LC D o p0 L xs Y N h s A) : goL D o p0 L xs Y N i h (lc_2 D o k (h, s) p0 (some Y.1) (some Y.2.2.2.2.2.2.2.2) (nI i)) k := by
  obtain ⟨r, h1, A1, e1, E, B, H1⟩ := c_loadMachine C.1 C.2.2.1
  obtain ⟨r2, s1, A2, e2, M, H2⟩ := mc_loadMachine (D := D) (b := h1) (o := o) (KM.le C (le_X1_loadMachine e1)) C.2.1 C.ok C.ib
  obtain ⟨hr, hA, ok, ac⟩ : r = r2 ∧ A1 = A2 ∧ a_ok A1 ∧ acA (N + 31) A1 := by
    cases c : pSetup A.2.2.2.2.1 with
    | inl e =>
      rw [c] at H1 H2
      obtain ⟨rfl, rfl⟩ := H1
      obtain ⟨rfl, rfl⟩ := H2
      obtain ⟨a1, a2, a3, a4, a5, a6, a7⟩ := C.ok
      exact ⟨rfl, rfl, ⟨a1, a2, a3, a4, a5, Nat.zero_le _, a7⟩, C.up⟩
    | inr S =>
      rw [c] at H1 H2
      obtain ⟨rfl, sp, rfl⟩ := H1
      obtain ⟨rfl, rfl⟩ := H2
      obtain ⟨p, _, c2, _⟩ := pSetup_ok c
      have dS := sp_df sp c2
      exact ⟨rfl, rfl, ⟨dS, rnNew_ok sp dS, fun R hR => (by cases hR), fun R hR => (by cases hR), Nat.zero_le _, Nat.zero_le _, C.ok.2.2.2.2.2.2⟩, ⟨0, Nat.zero_le _, rfl⟩, fun R hR => (by cases hR), fun R hR => (by cases hR)⟩
  subst hr hA
  refine ⟨h1, s1, A1, ?_, C.go (le_X1_loadMachine e1) E M ok ac, B⟩
  unfold lc_2
  rw [Option.bind_some]
  show gx_b2 (f_X1_loadMachine D h Y.1) _ = _
  rw [e1, pl_b2_s]
  show gx_b2 (f_X9_loadMachine D h1 o s) _ = _
  rw [e2, pl_b2_s, if_pos rfl]
  rfl
theorem case_3 (C : LC D o p0 L xs Y N h s A) (hN : N < 9000) : goL D o p0 L xs Y N i h (lc_3 D o k (h, s) p0 (some Y.1) (some Y.2.2.2.2.2.2.2.2) (nI i)) k := by
  obtain ⟨r, h1, A1, e1, E, B, H1⟩ := c_runScript C.1 C.2.2.1
  obtain ⟨r2, s1, A2, e2, M, H2⟩ := mc_runScript (D := D) (b := h1) (o := o) (KM.le C (le_X1_runScript e1)) C.2.1 C.ok C.ib C.nc C.2.2.2.2.2.1 hN
  obtain ⟨hr, hA, ok, ac⟩ : r = r2 ∧ A1 = A2 ∧ a_ok A1 ∧ acA (N + 31) A1 := by
    cases c : pScript A.2.2.2.2.1 A.1 with
    | inl e =>
      rw [c] at H1 H2
      obtain ⟨rfl, rfl⟩ := H1
      obtain ⟨rfl, rfl⟩ := H2
      obtain ⟨a1, a2, a3, a4, a5, a6, a7⟩ := C.ok
      exact ⟨rfl, rfl, ⟨a1, a2, a3, a4, a5, Nat.zero_le _, a7⟩, C.up⟩
    | inr cs =>
      rw [c] at H1 H2
      obtain ⟨rfl, cok, rfl⟩ := H1
      obtain ⟨rfl, rfl⟩ := H2
      obtain ⟨a1, a2, a3, a4, a5, a6, a7⟩ := C.ok.ch (runC_ok C.df cs A.2.1 C.rn cok.2)
      exact ⟨rfl, rfl, ⟨a1, a2, a3, a4, a5, Nat.zero_le _, a7⟩, C.2.2.2.2.2.ch ((acB_run cs N A.2.1 cok.2 C.2.2.2.2.2.1).up (by have := cok.1; omega))⟩
  subst hr hA
  refine ⟨h1, s1, A1, ?_, C.go (le_X1_runScript e1) E M ok ac, B⟩
  unfold lc_3
  rw [Option.bind_some]
  show gx_b2 (f_X1_runScript D h Y.1) _ = _
  rw [e1, pl_b2_s]
  show gx_b2 (f_X9_runScript D h1 o s) _ = _
  rw [e2, pl_b2_s, if_pos rfl]
  rfl
theorem case_0 (C : LC D o p0 L xs Y N h s A) (hL : L ≤ 144) (hi : i + 6 ≤ L) : goL D o p0 L xs Y N i h (lc_0 D o k (h, s) p0 (some Y.1) (some Y.2.2.2.2.2.2.2.2) (nI i)) k := by
  obtain ⟨_, a1, a2, a3, a4, a5⟩ := scr_at C.2.2.2.2.1 hL hi
  obtain ⟨r, h1, s1, A1, e1, E, B, e2, M, ok, ac⟩ : ∃ r h1 s1 A1, f_X1_appendInput D h Y.1 (xs (i + 1)) (xs (i + 2)) (xs (i + 3)) (xs (i + 4)) (xs (i + 5)) = some (r, h1) ∧ cE D h1 Y A1 ∧ bnd h h1 0 0 ∧ f_X9_appendInput D h1 o s (xs (i + 1)) (xs (i + 2)) (xs (i + 3)) (xs (i + 4)) (xs (i + 5)) = some (r, s1) ∧ mI s1 A1 ∧ a_ok A1 ∧ acA (N + 31) A1 := by
    rcases c_appendInput C.1 (xs (i + 1)) (xs (i + 2)) (xs (i + 3)) (xs (i + 4)) (xs (i + 5)) with ⟨g1, e1⟩ | ⟨g1, h1, e1, E, B⟩
    · rcases mc_appendInput (D := D) (bh := h) (o := o) C.2.1 C.ok (xs (i + 1)) (xs (i + 2)) (xs (i + 3)) (xs (i + 4)) (xs (i + 5)) with ⟨_, e2⟩ | ⟨g2, _⟩
      · exact ⟨_, h, _, A, e1, C.1.E, bnd.rf, e2, C.2.1.p6, C.ok, C.up⟩
      · omega
    · rcases mc_appendInput (D := D) (bh := h1) (o := o) C.2.1 C.ok (xs (i + 1)) (xs (i + 2)) (xs (i + 3)) (xs (i + 4)) (xs (i + 5)) with ⟨g2, _⟩ | ⟨_, s1, e2, M⟩
      · omega
      · exact ⟨_, h1, s1, _, e1, E, B, e2, M, (by obtain ⟨a1, a2, a3, a4, a5, a6, a7⟩ := C.ok; exact ⟨a1, a2, a3, a4, a5, (by show (A.2.2.2.2.1 ++ byA (xs (i + 1)) (xs (i + 2)) (xs (i + 3)) (xs (i + 4)) (xs (i + 5))).length ≤ 700; rw [List.length_append]; exact g1), a7⟩), C.up⟩
  have l : gx_le h h1 := le_X1_appendInput e1
  obtain ⟨_, b1, b2, b3, b4, b5⟩ := scr_at (C.sc l) hL hi
  refine ⟨h1, s1, A1, ?_, C.go l E M ok ac, B.up (by decide) (by decide)⟩
  unfold lc_0
  show (hx_ai h p0 0 (nI i + 1)).bind _ = _
  rw [a1, Option.bind_some]
  show (hx_ai h p0 0 (nI i + 2)).bind _ = _
  rw [a2, Option.bind_some]
  show (hx_ai h p0 0 (nI i + 3)).bind _ = _
  rw [a3, Option.bind_some]
  show (hx_ai h p0 0 (nI i + 4)).bind _ = _
  rw [a4, Option.bind_some]
  show (hx_ai h p0 0 (nI i + 5)).bind _ = _
  rw [a5, Option.bind_some]
  rw [Option.bind_some]
  show gx_b2 (f_X1_appendInput D h Y.1 (xs (i + 1)) (xs (i + 2)) (xs (i + 3)) (xs (i + 4)) (xs (i + 5))) _ = _
  rw [e1, pl_b2_s]
  show (hx_ai h1 p0 0 (nI i + 1)).bind _ = _
  rw [b1, Option.bind_some]
  show (hx_ai h1 p0 0 (nI i + 2)).bind _ = _
  rw [b2, Option.bind_some]
  show (hx_ai h1 p0 0 (nI i + 3)).bind _ = _
  rw [b3, Option.bind_some]
  show (hx_ai h1 p0 0 (nI i + 4)).bind _ = _
  rw [b4, Option.bind_some]
  show (hx_ai h1 p0 0 (nI i + 5)).bind _ = _
  rw [b5, Option.bind_some]
  show gx_b2 (f_X9_appendInput D h1 o s (xs (i + 1)) (xs (i + 2)) (xs (i + 3)) (xs (i + 4)) (xs (i + 5))) _ = _
  rw [e2, pl_b2_s, if_pos rfl]
  rfl
theorem case_1 (C : LC D o p0 L xs Y N h s A) (hL : L ≤ 144) (hi : i + 6 ≤ L) : goL D o p0 L xs Y N i h (lc_1 D o k (h, s) p0 (some Y.1) (some Y.2.2.2.2.2.2.2.2) (nI i)) k := by
  obtain ⟨_, a1, _⟩ := scr_at C.2.2.2.2.1 hL hi
  obtain ⟨h1, e1, E, B⟩ := c_truncateInput C.1 (xs (i + 1))
  obtain ⟨s1, e2, M⟩ := mc_truncateInput (D := D) (bh := h1) (o := o) C.2.1 C.ok (xs (i + 1))
  have l : gx_le h h1 := le_X1_truncateInput e1
  obtain ⟨_, b1, _⟩ := scr_at (C.sc l) hL hi
  refine ⟨h1, s1, _, ?_, C.go l E M ?_ C.up, B.up (by decide) (by decide)⟩
  · unfold lc_1
    show (hx_ai h p0 0 (nI i + 1)).bind _ = _
    rw [a1, Option.bind_some]
    rw [Option.bind_some]
    show gx_b2 (f_X1_truncateInput D h Y.1 (xs (i + 1))) _ = _
    rw [e1, pl_b2_s]
    show (hx_ai h1 p0 0 (nI i + 1)).bind _ = _
    rw [b1, Option.bind_some]
    show gx_b2 (f_X9_truncateInput D h1 o s (xs (i + 1))) _ = _
    rw [e2, pl_b2_s, if_pos rfl]
    rfl
  · obtain ⟨a1, a2, a3, a4, a5, a6, a7⟩ := C.ok
    refine ⟨a1, a2, a3, a4, a5, ?_, a7⟩
    show (if _ then _ else _ : List Nat).length ≤ 700
    split
    · rw [List.length_take]; exact Nat.le_trans (Nat.min_le_right _ _) a6
    · exact a6
end LWF
