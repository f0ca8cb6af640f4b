/-! the component's calls that change the run, goes on -/
set_option maxRecDepth 100000
set_option linter.unusedSimpArgs false
theorem c_undo {D : gx_D} {h : HX} {Y : YT} {A : AT} (H : cI D h Y A) : (A.2.2.2.1 = [] ∧ f_X1_undo D h Y.1 = some (.inr (cNSE, h.1), hx_skip h 1 6)) ∨ ∃ hs R h1, A.2.2.2.1 = hs ++ [R] ∧ f_X1_undo D h Y.1 = some (.inl (nI hs.length), h1) ∧ cE D h1 Y (A.1, R, A.2.2.1, hs, A.2.2.2.2) ∧ bnd h h1 20 200 := by
  obtain ⟨hA, his, hap, hne⟩ := H.A
  obtain ⟨ov, op, d, r, p, fnd, dl, as, hx, w, hq, hh, hdf, hr, hsv, _, _, _, hW, HG, _⟩ := H.opn
  have emp := dq_empty (D := D) hq
  have g8 := (hx_ob.mk hx).gr (show 9 ∈ [9] by decide) (k := 8) (r := some Y.2.2.1) rfl
  have und : ∀ b, f_J17_isEmpty D h Y.2.2.1 = some b → f_X1_undo D h Y.1 = f_X1_undo_b15 D h Y.1 (!b) := fun b hb => by
    unfold f_X1_undo
    rw [his, Option.bind_some, g8, Option.bind_some, Option.bind_some, hb, Option.bind_some]
    cases b <;> rfl
  rcases List.eq_nil_or_concat A.2.2.2.1 with e | ⟨hs, R, e⟩
  · refine Or.inl ⟨e, ?_⟩
    have : as.length = 0 := by rw [hh.1, e]; rfl
    rw [und _ emp, decide_eq_true this]
    rfl
  · rw [List.concat_eq_append] at e
    have al : as.length = hs.length + 1 := by rw [hh.1, e, List.length_append, List.length_singleton]
    rcases List.eq_nil_or_concat as with e2 | ⟨as', a, e2⟩
    · rw [e2] at al; cases al
    · rw [List.concat_eq_append] at e2
      have al' : as'.length = hs.length := by rw [e2, List.length_append, List.length_singleton] at al; omega
      rw [e2] at hq hh
      obtain ⟨h15, b1, b2, b3⟩ := dq_last (D := D) hq
      have hRa : hx_rn D (hzf h) a R := hh.2 as'.length a R (by rw [List.getElem?_append_right (Nat.le_refl _), Nat.sub_self]; rfl) (by rw [e, al', List.getElem?_append_right (Nat.le_refl _), Nat.sub_self]; rfl)
      obtain ⟨ne, hd0, g0, k4, k4', _⟩ := id hq
      have n1 : Y.1 ≠ Y.2.2.1 := fun e => by rw [e, k4] at hx; cases hx
      have n2 : Y.1 ≠ Y.2.2.2.1 := fun e => by rw [e, k4'] at hx; cases hx
      have hx15 : h15.2.2 Y.1 = _ := (b3.2.2 Y.1 (by simp [n1, n2])).trans hx
      obtain ⟨h17, e17, c17⟩ := hx_pv_e (cis := [9]) (k := 6) (v := va_rf (some a)) hx15 (by decide) (by simp [x_fs])
      have w17 : hx_wf h17 := fun z hz => by
        rw [c17.1, b3.1] at hz
        have := w.lt hx
        have := w.lt k4
        have := w.lt k4'
        rw [c17.2.2.2 z (by omega), b3.2.2 z (by simp; omega), w z hz]
      have q17 : dq h17 Y.2.2.1 Y.2.2.2.1 as' := by
        obtain ⟨m1, hd, g, m2, m3, m4⟩ := b2
        exact ⟨m1, hd, g, by rw [c17.2.2.2 _ (fun e => n1 e.symm)]; exact m2, by rw [c17.2.2.2 _ (fun e => n2 e.symm)]; exact m3, m4⟩
      refine Or.inr ⟨hs, R, h17, e, ?_, ?_, ?_⟩
      · have a15 : hx_cast h15 (some a) [11] = some () := by
          obtain ⟨i, a1, a2, a3, a4, a5, ge, gt, z1, _⟩ := hRa
          obtain ⟨b, z1⟩ := z1
          obtain ⟨y1, y2, y3⟩ := hzf_eq z1
          simp only at y2
          subst y2
          have na : a ∉ [Y.2.2.1, Y.2.2.2.1] := by
            simp only [List.mem_cons, List.not_mem_nil, or_false, not_or]
            exact ⟨fun e => (by rw [e, k4] at y3; cases y3), fun e => (by rw [e, k4'] at y3; cases y3)⟩
          exact (hx_ob.mk ((b3.2.2 a na).trans y3)).is (by decide)
        have en : decide ((as' ++ [a]).length = 0) = false := decide_eq_false (by rw [List.length_append, List.length_singleton]; omega)
        rw [← e2] at en
        rw [e2] at emp
        rw [und _ emp, ← e2, en]
        have s17 := dq_size (D := D) q17
        rw [al'] at s17
        unfold f_X1_undo_b15 f_X1_requireElement gx_bx gx_b2
        simp only [Bool.not_false, if_true, Option.bind_some, g8, b1, a15, hx_pr, e17, (hx_ob.mk (b := true) c17.2.2.1).gr (show 9 ∈ [9] by decide) (k := 8) (r := some Y.2.2.1) rfl, s17]
      · obtain ⟨F, R0, sv, hs0, ib, ec, eo, ob⟩ := A
        refine cI.end (r' := a) (as := as') HG w hx (by rw [c17.1, b3.1]; exact Nat.le_refl _) w17 (fun z z0 z1 z2 z3 => by rw [c17.2.2.2 z z1, b3.2.2 z (by simp [z2, z3])]) (by rw [c17.2.2.1]; rfl) q17 (fun sub => ⟨al', fun k b R' k1 k2 => ?_⟩) (fun sub => hRa.sub sub) (fun sub => hsv.sub sub)
        refine (hh.2 k b R' ?_ ?_).sub sub
        · rw [List.getElem?_append_left (List.getElem?_eq_some_iff.1 k1).1]; exact k1
        · rw [show hs0 = hs ++ [R] from e, List.getElem?_append_left (List.getElem?_eq_some_iff.1 k2).1]; exact k2
      · exact ⟨by rw [c17.1, b3.1]; exact Nat.le_refl _, by rw [c17.1, b3.1]; omega, by rw [c17.2.1, b3.2.1]; exact Nat.le_refl _, by rw [c17.2.1, b3.2.1]; omega⟩
theorem c_saveState {D : gx_D} {h : HX} {Y : YT} {A : AT} (H : cI D h Y A) : ∃ h1, f_X1_saveState D h Y.1 = some (nI A.2.1.cf.1, h1) ∧ cE D h1 Y (A.1, A.2.1, some A.2.1, A.2.2.2) ∧ bnd h h1 20 200 := by
  obtain ⟨hA, his, hap, hne⟩ := H.A
  obtain ⟨ov, op, d, r, p, fnd, dl, as, hx, w, hq, hh, hdf, hr, hsv, _, _, _, hW, HG, _⟩ := H.opn
  have xl := w.lt hx
  obtain ⟨mc, fe, f1, f2, f3, f4, f5, it, t1, C⟩ := c_twin (D := D) w hzf_sub hr hA.2.1.2.2.2.2.2.2.2
  obtain ⟨hb, e6, c6⟩ := hx_pv_e (cis := [9]) (k := 7) (v := va_rf (some h.1)) hx (by decide) (by simp [x_fs])
  have lt : ∀ z, z ∈ W_ Y ov → z < h.1 := fun z hz => by
    obtain ⟨e, he⟩ := hW z hz
    exact w.lt he
  have at' : ∀ B s z, z < h.1 → (hx_ap h.1 hb B s).2.2 z = hb.2.2 z := fun B s z hz => ap_old hz
  have x6 : hb.2.2 Y.1 = some (true, .inr (9, x_fs op Y.2.1 d r Y.2.2.1 Y.2.2.2.2.1 Y.2.2.2.2.2.1 Y.2.2.2.2.2.2.1 Y.2.2.2.2.2.2.2.1 (some h.1) (nI A.2.2.2.2.1.length) A.2.2.2.2.2.1 A.2.2.2.2.2.2.1 fnd dl)) := c6.2.2.1
  refine ⟨hx_ap h.1 hb (rnB h.1 mc A.2.1.iv.length fe f1 f2 f3 f4 f5 (nI (cf_c A.2.1.cf)) A.2.1.ac (nI A.2.1.tr.length) ++ [it]) 107, ?_, ?_, ?_⟩
  · have g6 := (hx_ob.mk hx).gr (show 9 ∈ [9] by decide) (k := 6) (r := some r) rfl
    have g7 : ∀ B s, hx_gr (hx_ap h.1 hb B s) Y.1 [9] 7 = some (some h.1) := fun B s => by
      rw [hx_gr_r, ap_gvo xl, (hx_ob.mk x6).gv (show 9 ∈ [9] by decide)]; rfl
    have e6' : ∀ B s, hx_pv (hx_ap h.1 h B s) Y.1 [9] 7 (va_rf (some h.1)) = some (hx_ap h.1 hb B s) := fun B s => by
      rw [ap_pvo xl, e6]; rfl
    unfold f_X1_saveState f_X4_state
    simp only [his, Option.bind_some, g6, t1, gx_b2, hx_pr, e6', g7, rb_cf.1, rb_cf.2.2.1, c_state hA.2.1.2.2.1]
  · obtain ⟨F, R0, sv, hs0, ib, ec, eo, ob⟩ := A
    obtain ⟨ne, hd, g, k4, k4', k4''⟩ := id hq
    have n1 : Y.1 ≠ Y.2.2.1 := fun e => by rw [e, k4] at hx; cases hx
    have n2 : Y.1 ≠ Y.2.2.2.1 := fun e => by rw [e, k4'] at hx; cases hx
    refine cI.end (r' := r) (as := as) (p' := some h.1) HG w hx (by show h.1 ≤ h.1 + _; omega) ap_wf (fun z z0 z1 z2 z3 => by rw [at' _ _ z z0, c6.2.2.2 z z1]) (by rw [at' _ _ _ xl]; exact x6) ⟨ne, hd, g, by rw [at' _ _ _ (lt _ (by simp [W_])), c6.2.2.2 _ (fun e => n1 e.symm)]; exact k4, by rw [at' _ _ _ (lt _ (by simp [W_])), c6.2.2.2 _ (fun e => n2 e.symm)]; exact k4', k4''⟩ (fun sub => hh.sub sub) (fun sub => hr.sub sub) (fun sub => ⟨h.1, rfl, rnB_rn C (fun z hz => Or.inl (lt z hz)) sub⟩)
  · exact ⟨by show h.1 ≤ h.1 + _; omega, by show h.1 + (rnB _ _ _ _ _ _ _ _ _ _ _ _ ++ [it]).length ≤ _; simp [rnB], by show h.2.1 ≤ hb.2.1 + 107; rw [c6.2.1]; omega, by show hb.2.1 + 107 ≤ _; rw [c6.2.1]; omega⟩
theorem c_restoreState {D : gx_D} {h : HX} {Y : YT} {A : AT} (H : cI D h Y A) : (A.2.2.1 = none ∧ f_X1_restoreState D h Y.1 = some (.inr (cNSE, h.1), hx_skip h 1 6)) ∨ ∃ R h1, A.2.2.1 = some R ∧ f_X1_restoreState D h Y.1 = some (.inl (nI R.cf.1), h1) ∧ cE D h1 Y (A.1, R, A.2.2.1, [], A.2.2.2.2) ∧ bnd h h1 20 200 := by
  obtain ⟨hA, his, hap, hne⟩ := H.A
  obtain ⟨ov, op, d, r, p, fnd, dl, as, hx, w, hq, hh, hdf, hr, hsv, _, _, _, hW, HG, _⟩ := H.opn
  have xl := w.lt hx
  have g7 := (hx_ob.mk hx).gr (show 9 ∈ [9] by decide) (k := 7) (r := p) rfl
  cases esv : A.2.2.1 with
  | none =>
    rw [esv] at hsv
    refine Or.inl ⟨rfl, ?_⟩
    unfold f_X1_restoreState
    rw [his, Option.bind_some, g7, Option.bind_some, show p = none from hsv]
    rfl
  | some R =>
    rw [esv] at hsv
    obtain ⟨r1, rfl, hr1⟩ := hsv
    have oR := hA.2.2.1 R esv
    obtain ⟨mc, fe, f1, f2, f3, f4, f5, it, t1, C⟩ := c_twin (D := D) w hzf_sub hr1 oR.2.2.2.2.2.2.2
    obtain ⟨hb, e6, c6⟩ := hx_pv_e (cis := [9]) (k := 6) (v := va_rf (some h.1)) hx (by decide) (by simp [x_fs])
    have lt : ∀ z, z ∈ W_ Y ov → z < h.1 := fun z hz => by
      obtain ⟨e, he⟩ := hW z hz
      exact w.lt he
    have x6 : hb.2.2 Y.1 = some (true, .inr (9, x_fs op Y.2.1 d h.1 Y.2.2.1 Y.2.2.2.2.1 Y.2.2.2.2.2.1 Y.2.2.2.2.2.2.1 Y.2.2.2.2.2.2.2.1 (some r1) (nI A.2.2.2.2.1.length) A.2.2.2.2.2.1 A.2.2.2.2.2.2.1 fnd dl)) := c6.2.2.1
    obtain ⟨ne, hd, g, k4, k4', k4''⟩ := id hq
    have n1 : Y.1 ≠ Y.2.2.1 := fun e => by rw [e, k4] at hx; cases hx
    have n2 : Y.1 ≠ Y.2.2.2.1 := fun e => by rw [e, k4'] at hx; cases hx
    have K : ∃ K, K = hx_ap h.1 hb (rnB h.1 mc R.iv.length fe f1 f2 f3 f4 f5 (nI (cf_c R.cf)) R.ac (nI R.tr.length) ++ [it]) 107 := ⟨_, rfl⟩
    obtain ⟨K, hK⟩ := K
    have at' : ∀ z, z < h.1 → K.2.2 z = hb.2.2 z := fun z hz => by rw [hK]; exact ap_old hz
    have qK : dq K Y.2.2.1 Y.2.2.2.1 as := ⟨ne, hd, g, by rw [at' _ (lt _ (by simp [W_])), c6.2.2.2 _ (fun e => n1 e.symm)]; exact k4, by rw [at' _ (lt _ (by simp [W_])), c6.2.2.2 _ (fun e => n2 e.symm)]; exact k4', k4''⟩
    obtain ⟨h17, b1, b2, b3⟩ := dq_clear (D := D) qK
    have xK : K.2.2 Y.1 = _ := (at' _ xl).trans x6
    have x17 : h17.2.2 Y.1 = _ := (b3.2.2 Y.1 (by simp [n1, n2])).trans xK
    have l1 := lt Y.2.2.1 (by simp [W_])
    have l2 := lt Y.2.2.2.1 (by simp [W_])
    -- the deque's writes lie below the block
    have eq17 : ∃ hb', h17 = hx_ap h.1 hb' (rnB h.1 mc R.iv.length fe f1 f2 f3 f4 f5 (nI (cf_c R.cf)) R.ac (nI R.tr.length) ++ [it]) 107 ∧ hb'.2.1 = hb.2.1 ∧ ∀ z, z < h.1 → hb'.2.2 z = h17.2.2 z := by
      refine ⟨(hb.1, hb.2.1, h17.2.2), ?_, rfl, fun z _ => rfl⟩
      refine Prod.ext (by rw [b3.1, hK]; rfl) (Prod.ext (by rw [b3.2.1, hK]; rfl) ?_)
      funext z
      by_cases c : z < h.1
      · exact (if_pos c).symm
      · rw [b3.2.2 z (by simp; omega), hK]
        show (if z < h.1 then _ else _) = (if z < h.1 then _ else _)
        rw [if_neg c, if_neg c]
    obtain ⟨hb', q1, q2, q3⟩ := eq17
    refine Or.inr ⟨R, h17, rfl, ?_, ?_, ?_⟩
    · have g8 : hx_gr K Y.1 [9] 8 = some (some Y.2.2.1) := (hx_ob.mk xK).gr (by decide) rfl
      have g6 : hx_gr h17 Y.1 [9] 6 = some (some h.1) := (hx_ob.mk x17).gr (by decide) rfl
      have e6' : hx_pv (hx_ap h.1 h (rnB h.1 mc R.iv.length fe f1 f2 f3 f4 f5 (nI (cf_c R.cf)) R.ac (nI R.tr.length) ++ [it]) 107) Y.1 [9] 6 (va_rf (some h.1)) = some K := by
        rw [ap_pvo xl, e6, hK]; rfl
      have st : f_X4_state D h17 h.1 = some (nI R.cf.1) := by
        unfold f_X4_state
        rw [q1, rb_cf.2.2.1, Option.bind_some, rb_cf.1, Option.bind_some, c_state oR.2.2.1]
      unfold f_X1_restoreState f_X1_restoreState_b12 f_X1_requireElement gx_bx gx_b2 gx_on
      simp only [his, Option.bind_some, g7, if_true, t1, hx_pr, e6', g8, b1, g6, st]
    · obtain ⟨F, R0, sv, hs0, ib, ec, eo, ob⟩ := A
      refine cI.end (r' := h.1) (as := []) (p' := some r1) (sv' := some R) (hs' := []) HG w hx (by rw [q1]; show h.1 ≤ h.1 + _; omega) (by rw [q1]; exact ap_wf) (fun z z0 z1 z2 z3 => by rw [b3.2.2 z (by simp [z2, z3]), at' z z0, c6.2.2.2 z z1]) x17 b2 (fun sub => ⟨rfl, fun k a R hk => by simp at hk⟩) (fun sub => ?_) (fun sub => ?_)
      · rw [q1] at sub ⊢
        exact rnB_rn C (fun z hz => Or.inl (lt z hz)) sub
      · exact ⟨r1, rfl, hr1.sub sub⟩
    · rw [q1]
      exact ⟨by show h.1 ≤ h.1 + _; omega, by show h.1 + (rnB _ _ _ _ _ _ _ _ _ _ _ _ ++ [it]).length ≤ _; simp [rnB], by show h.2.1 ≤ hb'.2.1 + 107; rw [q2, c6.2.1]; omega, by show hb'.2.1 + 107 ≤ _; rw [q2, c6.2.1]; omega⟩
