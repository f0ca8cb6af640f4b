/-! the law's cases: the calls that change nothing and throw nothing -/
set_option maxRecDepth 100000
set_option linter.unusedVariables false
section LWC
variable {D : gx_D} {o p0 L N i : Nat} {xs : Nat → Int32} {Y : YT} {h : HX} {s : MS} {A : AT} {k : (HX × MS) → Option Nat → Option Nat → Option Nat → Int32 → Option ((Bool) × HX)}
theorem LC.go0 (C : LC D o p0 L xs Y N h s A) {s' : MS} (M : mI s' A) : LI D o p0 L xs Y (N + 31) h s' A := C.go gx_le.rf C.1.E M C.ok (C.2.2.2.2.2.up (Nat.le_add_right _ _))
theorem LC.cf (C : LC D o p0 L xs Y N h s A) : cf_ok A.2.1.cf := C.M.cf
theorem LC.ap (C : LC D o p0 L xs Y N h s A) : gx_apt D ∧ gx_apt2 D := C.1.A.2.2
theorem LC.df (C : LC D o p0 L xs Y N h s A) : df_ok A.1 := C.ok.1
theorem LC.rn (C : LC D o p0 L xs Y N h s A) : rn_ok A.1 A.2.1 := C.ok.2.1
theorem case_4 (C : LC D o p0 L xs Y N h s A) : goL D o p0 L xs Y N i h (lc_4 D o k (h, s) p0 (some Y.1) (some Y.2.2.2.2.2.2.2.2) (nI i)) k := by
  refine ⟨h, ms_p s 6 0, A, ?_, C.go0 C.2.1.p6, bnd.rf⟩
  unfold lc_4
  show (f_X1_errorCode D h Y.1).bind _ = _
  rw [(g_error C.1).1, Option.bind_some]
  show gx_b2 (f_X9_errorCode D h o s) _ = _
  rw [(h_error (D := D) (b := h) (o := o) C.2.1).1, pl_b2_s, if_pos rfl]
  rfl
theorem case_5 (C : LC D o p0 L xs Y N h s A) : goL D o p0 L xs Y N i h (lc_5 D o k (h, s) p0 (some Y.1) (some Y.2.2.2.2.2.2.2.2) (nI i)) k := by
  refine ⟨h, ms_p s 6 0, A, ?_, C.go0 C.2.1.p6, bnd.rf⟩
  unfold lc_5
  show (f_X1_errorOffset D h Y.1).bind _ = _
  rw [(g_error C.1).2, Option.bind_some]
  show gx_b2 (f_X9_errorOffset D h o s) _ = _
  rw [(h_error (D := D) (b := h) (o := o) C.2.1).2, pl_b2_s, if_pos rfl]
  rfl
theorem case_6 (C : LC D o p0 L xs Y N h s A) : goL D o p0 L xs Y N i h (lc_6 D o k (h, s) p0 (some Y.1) (some Y.2.2.2.2.2.2.2.2) (nI i)) k := by
  refine ⟨h, ms_p s 6 0, A, ?_, C.go0 C.2.1.p6, bnd.rf⟩
  unfold lc_6
  show (f_X1_stateCount D h Y.1).bind _ = _
  rw [(g_counts C.vm C.cf).1, Option.bind_some]
  show gx_b2 (f_X9_stateCount D h o s) _ = _
  rw [(h_counts (D := D) (b := h) (o := o) C.M).1, pl_b2_s, if_pos rfl]
  rfl
theorem case_7 (C : LC D o p0 L xs Y N h s A) : goL D o p0 L xs Y N i h (lc_7 D o k (h, s) p0 (some Y.1) (some Y.2.2.2.2.2.2.2.2) (nI i)) k := by
  refine ⟨h, ms_p s 6 0, A, ?_, C.go0 C.2.1.p6, bnd.rf⟩
  unfold lc_7
  show (f_X1_eventCount D h Y.1).bind _ = _
  rw [(g_counts C.vm C.cf).2.1, Option.bind_some]
  show gx_b2 (f_X9_eventCount D h o s) _ = _
  rw [(h_counts (D := D) (b := h) (o := o) C.M).2.1, pl_b2_s, if_pos rfl]
  rfl
theorem case_8 (C : LC D o p0 L xs Y N h s A) : goL D o p0 L xs Y N i h (lc_8 D o k (h, s) p0 (some Y.1) (some Y.2.2.2.2.2.2.2.2) (nI i)) k := by
  refine ⟨h, ms_p s 6 0, A, ?_, C.go0 C.2.1.p6, bnd.rf⟩
  unfold lc_8
  show (f_X1_variableCount D h Y.1).bind _ = _
  rw [(g_counts C.vm C.cf).2.2.1, Option.bind_some]
  show gx_b2 (f_X9_variableCount D h o s) _ = _
  rw [(h_counts (D := D) (b := h) (o := o) C.M).2.2.1, pl_b2_s, if_pos rfl]
  rfl
theorem case_9 (C : LC D o p0 L xs Y N h s A) : goL D o p0 L xs Y N i h (lc_9 D o k (h, s) p0 (some Y.1) (some Y.2.2.2.2.2.2.2.2) (nI i)) k := by
  refine ⟨h, ms_p s 6 0, A, ?_, C.go0 C.2.1.p6, bnd.rf⟩
  unfold lc_9
  show (f_X1_transitionCount D h Y.1).bind _ = _
  rw [(g_counts C.vm C.cf).2.2.2.1, Option.bind_some]
  show gx_b2 (f_X9_transitionCount D h o s) _ = _
  rw [(h_counts (D := D) (b := h) (o := o) C.M).2.2.2.1, pl_b2_s, if_pos rfl]
  rfl
theorem case_10 (C : LC D o p0 L xs Y N h s A) : goL D o p0 L xs Y N i h (lc_10 D o k (h, s) p0 (some Y.1) (some Y.2.2.2.2.2.2.2.2) (nI i)) k := by
  refine ⟨h, ms_p s 6 0, A, ?_, C.go0 C.2.1.p6, bnd.rf⟩
  unfold lc_10
  show (f_X1_invariantCount D h Y.1).bind _ = _
  rw [(g_counts C.vm C.cf).2.2.2.2.1, Option.bind_some]
  show gx_b2 (f_X9_invariantCount D h o s) _ = _
  rw [(h_counts (D := D) (b := h) (o := o) C.M).2.2.2.2.1, pl_b2_s, if_pos rfl]
  rfl
theorem case_14 (C : LC D o p0 L xs Y N h s A) : goL D o p0 L xs Y N i h (lc_14 D o k (h, s) p0 (some Y.1) (some Y.2.2.2.2.2.2.2.2) (nI i)) k := by
  refine ⟨h, ms_p s 6 0, A, ?_, C.go0 C.2.1.p6, bnd.rf⟩
  unfold lc_14
  show (f_X1_currentState D h Y.1).bind _ = _
  rw [(g_counts C.vm C.cf).2.2.2.2.2.1, Option.bind_some]
  show gx_b2 (f_X9_currentState D h o s) _ = _
  rw [(h_counts (D := D) (b := h) (o := o) C.M).2.2.2.2.2.1, pl_b2_s, if_pos rfl]
  rfl
theorem case_30 (C : LC D o p0 L xs Y N h s A) : goL D o p0 L xs Y N i h (lc_30 D o k (h, s) p0 (some Y.1) (some Y.2.2.2.2.2.2.2.2) (nI i)) k := by
  refine ⟨h, ms_p s 6 0, A, ?_, C.go0 C.2.1.p6, bnd.rf⟩
  unfold lc_30
  show (f_X1_acceptedCount D h Y.1).bind _ = _
  rw [(g_counts C.vm C.cf).2.2.2.2.2.2.1, Option.bind_some]
  show gx_b2 (f_X9_acceptedCount D h o s) _ = _
  rw [(h_counts (D := D) (b := h) (o := o) C.M).2.2.2.2.2.2.1, pl_b2_s, if_pos rfl]
  rfl
theorem case_31 (C : LC D o p0 L xs Y N h s A) : goL D o p0 L xs Y N i h (lc_31 D o k (h, s) p0 (some Y.1) (some Y.2.2.2.2.2.2.2.2) (nI i)) k := by
  refine ⟨h, ms_p s 6 0, A, ?_, C.go0 C.2.1.p6, bnd.rf⟩
  unfold lc_31
  show (f_X1_rejectedCount D h Y.1).bind _ = _
  rw [(g_rejected C.vm C.rn.2.2.2.2.2.2.1), Option.bind_some]
  show gx_b2 (f_X9_rejectedCount D h o s) _ = _
  rw [(h_counts (D := D) (b := h) (o := o) C.M).2.2.2.2.2.2.2.2, pl_b2_s, if_pos rfl]
  rfl
theorem case_35 (C : LC D o p0 L xs Y N h s A) : goL D o p0 L xs Y N i h (lc_35 D o k (h, s) p0 (some Y.1) (some Y.2.2.2.2.2.2.2.2) (nI i)) k := by
  refine ⟨h, ms_p s 6 0, A, ?_, C.go0 C.2.1.p6, bnd.rf⟩
  unfold lc_35
  show (f_X1_firstUncovered D h Y.1).bind _ = _
  rw [(g_firstUncovered C.vm), Option.bind_some]
  show gx_b2 (f_X9_firstUncovered D h o s) _ = _
  rw [(h_firstUncovered (D := D) (b := h) (o := o) C.M), pl_b2_s, if_pos rfl]
  rfl
theorem case_36 (C : LC D o p0 L xs Y N h s A) : goL D o p0 L xs Y N i h (lc_36 D o k (h, s) p0 (some Y.1) (some Y.2.2.2.2.2.2.2.2) (nI i)) k := by
  refine ⟨h, ms_p s 6 0, A, ?_, C.go0 C.2.1.p6, bnd.rf⟩
  unfold lc_36
  show (f_X1_mostVisitedState D h Y.1).bind _ = _
  rw [(g_mostVisited C.vm C.df.1.1), Option.bind_some]
  show gx_b2 (f_X9_mostVisitedState D h o s) _ = _
  rw [(h_mostVisited (D := D) (b := h) (o := o) C.M), pl_b2_s, if_pos rfl]
  rfl
theorem case_37 (C : LC D o p0 L xs Y N h s A) : goL D o p0 L xs Y N i h (lc_37 D o k (h, s) p0 (some Y.1) (some Y.2.2.2.2.2.2.2.2) (nI i)) k := by
  refine ⟨h, ms_p s 6 0, A, ?_, C.go0 C.2.1.p6, bnd.rf⟩
  unfold lc_37
  show (f_X1_traceLength D h Y.1).bind _ = _
  rw [(g_counts C.vm C.cf).2.2.2.2.2.2.2, Option.bind_some]
  show gx_b2 (f_X9_traceLength D h o s) _ = _
  rw [(h_counts (D := D) (b := h) (o := o) C.M).2.2.2.2.2.2.2.1, pl_b2_s, if_pos rfl]
  rfl
theorem case_27 (C : LC D o p0 L xs Y N h s A) : goL D o p0 L xs Y N i h (lc_27 D o k (h, s) p0 (some Y.1) (some Y.2.2.2.2.2.2.2.2) (nI i)) k := by
  obtain ⟨s1, e2, q⟩ := h_deadlocked (D := D) (b := h) (o := o) C.M
  refine ⟨h, s1, A, ?_, C.go0 (C.2.1.p6.q q), bnd.rf⟩
  unfold lc_27
  show (f_X1_isDeadlocked D h Y.1).bind _ = _
  rw [g_deadlocked C.ap.1 C.ap.2 C.vm C.df.trs C.cf, Option.bind_some]
  show gx_b2 (f_X9_isDeadlocked D h o s) _ = _
  rw [e2, pl_b2_s, if_pos rfl]
  rfl
theorem case_38 (C : LC D o p0 L xs Y N h s A) (hL : L ≤ 144) (hi : i + 6 ≤ L) : goL D o p0 L xs Y N i h (lc_38 D o k (h, s) p0 (some Y.1) (some Y.2.2.2.2.2.2.2.2) (nI i)) k := by
  obtain ⟨_, a1, _⟩ := scr_at C.2.2.2.2.1 hL hi
  refine ⟨h, ms_p s 6 0, A, ?_, C.go0 C.2.1.p6, bnd.rf⟩
  unfold lc_38
  show (hx_ai h p0 0 (nI i + 1)).bind _ = _
  rw [a1, Option.bind_some]
  show (f_X1_traceEvent D h Y.1 (xs (i + 1))).bind _ = _
  rw [(g_trace C.vm C.rn.2.2.2.2.2.2.2 (xs (i + 1))).1, Option.bind_some, Option.bind_some]
  show gx_b2 (f_X9_traceEvent D h o s (xs (i + 1))) _ = _
  rw [(h_trace (D := D) (b := h) (o := o) C.M (xs (i + 1))).1, pl_b2_s, if_pos rfl]
  rfl
theorem case_39 (C : LC D o p0 L xs Y N h s A) (hL : L ≤ 144) (hi : i + 6 ≤ L) : goL D o p0 L xs Y N i h (lc_39 D o k (h, s) p0 (some Y.1) (some Y.2.2.2.2.2.2.2.2) (nI i)) k := by
  obtain ⟨_, a1, _⟩ := scr_at C.2.2.2.2.1 hL hi
  refine ⟨h, ms_p s 6 0, A, ?_, C.go0 C.2.1.p6, bnd.rf⟩
  unfold lc_39
  show (hx_ai h p0 0 (nI i + 1)).bind _ = _
  rw [a1, Option.bind_some]
  show (f_X1_traceTransition D h Y.1 (xs (i + 1))).bind _ = _
  rw [(g_trace C.vm C.rn.2.2.2.2.2.2.2 (xs (i + 1))).2, Option.bind_some, Option.bind_some]
  show gx_b2 (f_X9_traceTransition D h o s (xs (i + 1))) _ = _
  rw [(h_trace (D := D) (b := h) (o := o) C.M (xs (i + 1))).2, pl_b2_s, if_pos rfl]
  rfl
theorem case_56 (C : LC D o p0 L xs Y N h s A) (hL : L ≤ 144) (hi : i + 6 ≤ L) : goL D o p0 L xs Y N i h (lc_56 D o k (h, s) p0 (some Y.1) (some Y.2.2.2.2.2.2.2.2) (nI i)) k := by
  obtain ⟨_, a1, _⟩ := scr_at C.2.2.2.2.1 hL hi
  refine ⟨h, ms_p s 6 0, A, ?_, C.go0 C.2.1.p6, bnd.rf⟩
  unfold lc_56
  show (hx_ai h p0 0 (nI i + 1)).bind _ = _
  rw [a1, Option.bind_some]
  show (f_X1_outputByte D h Y.1 (xs (i + 1))).bind _ = _
  rw [g_outputByte C.1 (xs (i + 1)), Option.bind_some, Option.bind_some]
  show gx_b2 (f_X9_outputByte D h o s (xs (i + 1))) _ = _
  rw [h_outputByte (D := D) (b := h) (o := o) C.2.1 C.ok (xs (i + 1)), pl_b2_s, if_pos rfl]
  rfl
theorem case_33 (C : LC D o p0 L xs Y N h s A) : goL D o p0 L xs Y N i h (lc_33 D o k (h, s) p0 (some Y.1) (some Y.2.2.2.2.2.2.2.2) (nI i)) k := by
  have fi := (fq_ok (cnP_le (g := A.2.1.vi) A.1.sn.length) C.df.1.1 (by have := C.df.1.2; omega)).2
  refine ⟨h, ms_p s 6 0, A, ?_, C.go0 C.2.1.p6, bnd.rf⟩
  unfold lc_33
  show (f_X1_stateCoverage D h Y.1).bind _ = _
  rw [g_stateCoverage C.vm C.df C.rn, Option.bind_some, if_pos fi.1]
  show gx_b2 (f_X9_stateCoverage D h o s) _ = _
  rw [(h_coverage (D := D) (b := h) (o := o) C.M).1, pl_b2_s, if_pos fi.1, if_pos fi.2]
  rfl
theorem case_34 (C : LC D o p0 L xs Y N h s A) : goL D o p0 L xs Y N i h (lc_34 D o k (h, s) p0 (some Y.1) (some Y.2.2.2.2.2.2.2.2) (nI i)) k := by
  have fi : f_fine (if A.1.ts.length = 0 then FP.fconst1 else fq (cnP A.2.1.tk A.1.ts.length) A.1.ts.length) := by
    by_cases c : A.1.ts.length = 0
    · rw [if_pos c]; exact f1_ok
    · rw [if_neg c]; exact (fq_ok (cnP_le _) (by omega) C.df.2.2.2.1).2
  refine ⟨h, ms_p s 6 0, A, ?_, C.go0 C.2.1.p6, bnd.rf⟩
  unfold lc_34
  show (f_X1_transitionCoverage D h Y.1).bind _ = _
  rw [g_transitionCoverage C.vm C.df C.rn, Option.bind_some, if_pos fi.1]
  show gx_b2 (f_X9_transitionCoverage D h o s) _ = _
  rw [(h_coverage (D := D) (b := h) (o := o) C.M).2.1, pl_b2_s, if_pos fi.1, if_pos fi.2]
  rfl
theorem case_48 (C : LC D o p0 L xs Y N h s A) : goL D o p0 L xs Y N i h (lc_48 D o k (h, s) p0 (some Y.1) (some Y.2.2.2.2.2.2.2.2) (nI i)) k := by
  have fi := (dq_ok (c := smN A.2.1.cf A.1.vn.length) (by have := smN_le C.cf A.1.vn.length; have := C.df.2.2.1.2; omega) C.df.2.2.1.1 C.df.2.2.1.2).2
  refine ⟨h, ms_p s 6 0, A, ?_, C.go0 C.2.1.p6, bnd.rf⟩
  unfold lc_48
  show (f_X1_meanValue D h Y.1).bind _ = _
  rw [g_meanValue C.vm C.df C.rn, Option.bind_some]
  show gx_b2 (f_X9_meanValue D h o s) _ = _
  rw [(h_coverage (D := D) (b := h) (o := o) C.M).2.2, pl_b2_s, if_pos fi.2]
  rfl
theorem case_x (C : LC D o p0 L xs Y N h s A) : goL D o p0 L xs Y N i h (f_L_law_b2499 D o k (h, s) (some p0) (some Y.1) (some Y.2.2.2.2.2.2.2.2) (nI i)) k := ⟨h, s, A, rfl, C.go0 C.2.1, bnd.rf⟩
end LWC
