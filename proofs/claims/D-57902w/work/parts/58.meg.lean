/-! the model's getters -/
set_option maxRecDepth 100000
set_option linter.unusedSimpArgs false
def ansM {α : Type} (c : Option (α × MS)) (s : MS) (ok : Bool) (r : α) : Prop := ∃ r' s', c = some (r', s') ∧ ms_q (ms_p s 6 (if ok = true then 0 else 1)) s' ∧ (ok = true → r' = r)
theorem m_gate {D : gx_D} {b : HX} {o m n : Nat} {s : MS} {α : Type} {i x : Int32} {K : MS → Option (α × MS)} {z r : α} (hx : x = nI m) (hm : m < 504) (hw : s.2 0 m = nI n) (hK : ixB i n = true → ∃ s', K (ms_p s 6 0) = some (r, s') ∧ ms_q (ms_p s 6 0) s') : ansM (gx_b2 (f_X9_no D b o (ms_p s 6 0) i x) fun b3 h4 => if b3 = true then some (z, h4) else K h4) s (ixB i n) r := by
  rw [m_no hx hm (show (ms_p s 6 0).2 0 m = nI n from hw), pl_b2_s]
  cases c : ixB i n with
  | false =>
    refine ⟨z, ms_p s 6 1, ?_, ms_q.rf, fun h => by cases h⟩
    rw [Bool.not_false, if_pos rfl, if_neg Bool.false_ne_true, ms_pp]
  | true =>
    obtain ⟨s', k1, k2⟩ := hK c
    refine ⟨r, s', ?_, k2, fun _ => rfl⟩
    rw [Bool.not_true, if_neg Bool.false_ne_true, if_pos rfl, k1]
theorem h_counts {D : gx_D} {b : HX} {o : Nat} {s : MS} {F : DF} {R : RN} (H : mM s F R) : f_X9_stateCount D b o s = some (nI F.sn.length, ms_p s 6 0) ∧ f_X9_eventCount D b o s = some (nI F.en.length, ms_p s 6 0) ∧ f_X9_variableCount D b o s = some (nI F.vn.length, ms_p s 6 0) ∧ f_X9_transitionCount D b o s = some (nI F.ts.length, ms_p s 6 0) ∧ f_X9_invariantCount D b o s = some (nI R.iv.length, ms_p s 6 0) ∧ f_X9_currentState D b o s = some (nI R.cf.1, ms_p s 6 0) ∧ f_X9_acceptedCount D b o s = some (R.ac, ms_p s 6 0) ∧ f_X9_traceLength D b o s = some (nI R.tr.length, ms_p s 6 0) ∧ f_X9_rejectedCount D b o s = some (R.rj 1 + R.rj 2 + R.rj 3 + R.rj 4, ms_p s 6 0) := by
  obtain ⟨⟨d0, d1, d2, ⟨d3, _⟩, _⟩, ⟨⟨q1, _⟩, q2, q3, q4, q5, q6, q7, _⟩, _⟩ := H
  have rd : ∀ x k, x = nI k → k < 504 → ms_ai (ms_p s 6 0) 0 x = some (s.2 0 k) := fun x k hx hk => ms_w hx hk
  unfold f_X9_stateCount f_X9_eventCount f_X9_variableCount f_X9_transitionCount f_X9_invariantCount f_X9_currentState f_X9_acceptedCount f_X9_traceLength f_X9_rejectedCount ms_pf
  rw [Option.bind_some, Option.bind_some, Option.bind_some, Option.bind_some, Option.bind_some, Option.bind_some, Option.bind_some, Option.bind_some, Option.bind_some, rd 0 0 rfl (by decide), rd 1 1 rfl (by decide), rd 2 2 rfl (by decide), rd 3 3 rfl (by decide), rd 4 4 rfl (by decide), rd 5 5 rfl (by decide), rd 12 12 rfl (by decide), rd 18 18 rfl (by decide), rd 17 17 rfl (by decide), d0, d1, d2, d3, q1, q2, q4, q6, q7]
  exact ⟨rfl, rfl, rfl, rfl, rfl, rfl, rfl, rfl, rfl⟩
theorem h_trans {D : gx_D} {b : HX} {o : Nat} {s : MS} {F : DF} {R : RN} (H : mM s F R) (i : Int32) : ansM (f_X9_sourceOf D b o s i) s (ixB i F.ts.length) (nI (tsA F i).1) ∧ ansM (f_X9_eventOf D b o s i) s (ixB i F.ts.length) (nI (tsA F i).2.1) ∧ ansM (f_X9_targetOf D b o s i) s (ixB i F.ts.length) (nI (tsA F i).2.2.1) ∧ ansM (f_X9_hasGuard D b o s i) s (ixB i F.ts.length) (tsA F i).2.2.2.1.isSome ∧ ansM (f_X9_guardHolds D b o s i) s (ixB i F.ts.length) (trOpen (tsA F i) R.cf) ∧ ansM (f_X9_timesTaken D b o s i) s (ixB i F.ts.length) (R.tk i.toNatClampNeg) := by
  obtain ⟨hdf, hrn, hF, hR⟩ := id H
  have d3 := hdf.2.2.2.1.1
  have cap := hF.2.2.2.1
  have tr : ixB i F.ts.length = true → ∃ k, k < F.ts.length ∧ i = nI k ∧ tr_ok (tsA F (nI k)) ∧ m_tr ((ms_p s 6 0).2 0) (93 + 9 * k) (tsA F (nI k)) := fun c => by
    obtain ⟨k, hk, rfl⟩ := ixB_t (by omega) c
    exact ⟨k, hk, rfl, by rw [tsA_n hk cap]; exact hF.trs _ (List.getElem_mem hk), by rw [tsA_n hk cap]; exact hdf.2.2.2.1.2 k _ (List.getElem?_eq_getElem hk)⟩
  unfold f_X9_sourceOf f_X9_eventOf f_X9_targetOf f_X9_hasGuard f_X9_guardHolds f_X9_timesTaken ms_pf
  rw [Option.bind_some, Option.bind_some, Option.bind_some, Option.bind_some, Option.bind_some, Option.bind_some]
  refine ⟨m_gate (m := 3) rfl (by decide) d3 fun c => ?_, m_gate (m := 3) rfl (by decide) d3 fun c => ?_, m_gate (m := 3) rfl (by decide) d3 fun c => ?_, m_gate (m := 3) rfl (by decide) d3 fun c => ?_, m_gate (m := 3) rfl (by decide) d3 fun c => ?_, m_gate (m := 3) rfl (by decide) d3 fun c => ?_⟩
  · obtain ⟨k, hk, rfl, ok, t1, _⟩ := tr c
    exact ⟨_, by rw [m_of (x := 0) (c := 0) rfl (by omega), Nat.add_zero, t1]; rfl, ms_q.rf⟩
  · obtain ⟨k, hk, rfl, ok, t1, t2, _⟩ := tr c
    exact ⟨_, by rw [m_of (x := 1) (c := 1) rfl (by omega), t2]; rfl, ms_q.rf⟩
  · obtain ⟨k, hk, rfl, ok, t1, t2, t3, _⟩ := tr c
    exact ⟨_, by rw [m_of (x := 2) (c := 2) rfl (by omega), t3]; rfl, ms_q.rf⟩
  · obtain ⟨k, hk, rfl, ok, t1, t2, t3, t4, _⟩ := tr c
    refine ⟨ms_p s 6 0, ?_, ms_q.rf⟩
    rw [m_of (x := 3) (c := 3) rfl (by omega), Option.bind_some]
    revert t4
    have o4 := ok.2.2.2.1
    revert o4
    cases (tsA F (nI k)).2.2.2.1 with
    | none => intro _ t4; rw [if_pos t4]; rfl
    | some p => intro o4 t4; rw [t4.1, if_neg (oI_ne (by have := (o4 p rfl).1; omega))]; rfl
  · obtain ⟨k, hk, rfl, ok, t⟩ := tr c
    refine ⟨ms_p s 6 0, ?_, ms_q.rf⟩
    rw [m_here (s := ms_p s 6 0) hrn, Option.bind_some, m_guard (s := ms_p s 6 0) t ok (by omega) H.cf, Option.bind_some]
    cases trOpen (tsA F (nI k)) R.cf <;> rfl
  · obtain ⟨k, hk, rfl, ok, t⟩ := tr c
    refine ⟨ms_p s 6 0, ?_, ms_q.rf⟩
    rw [show (69 : Int32) + nI k = nI (69 + k) by rw [show (69 : Int32) = nI 69 from rfl, nI_add], ms_w (k := 69 + k) rfl (by omega), show (ms_p s 6 0).2 0 (69 + k) = R.tk k from hrn.2.2.2.2.2.2.2.2.2 k (by omega), Option.bind_some, nI_clamp (by omega)]
theorem h_inv {D : gx_D} {b : HX} {o : Nat} {s : MS} {F : DF} {R : RN} (H : mM s F R) (i : Int32) : ansM (f_X9_stateOfInvariant D b o s i) s (ixB i R.iv.length) (oI (ivA R i).1) ∧ ansM (f_X9_comparisonHolds D b o s i) s (ixB i R.iv.length) (cpH (ivA R i).2 R.cf) := by
  obtain ⟨hdf, hrn, hF, hR⟩ := id H
  have d4 := hrn.1.1
  have cap := hR.1
  have iv : ixB i R.iv.length = true → ∃ k, k < R.iv.length ∧ i = nI k ∧ iv_ok (ivA R (nI k)) ∧ m_iv ((ms_p s 6 0).2 0) (309 + 4 * k) (ivA R (nI k)) := fun c => by
    obtain ⟨k, hk, rfl⟩ := ixB_t (by omega) c
    exact ⟨k, hk, rfl, by rw [ivA_n hk cap]; exact hR.2.1 _ (List.getElem_mem hk), by rw [ivA_n hk cap]; exact hrn.1.2 k _ (List.getElem?_eq_getElem hk)⟩
  unfold f_X9_stateOfInvariant f_X9_comparisonHolds ms_pf
  rw [Option.bind_some, Option.bind_some]
  refine ⟨m_gate (m := 4) rfl (by decide) d4 fun c => ?_, m_gate (m := 4) rfl (by decide) d4 fun c => ?_⟩
  · obtain ⟨k, hk, rfl, ok, t1, _⟩ := iv c
    exact ⟨_, by rw [m_ofI (x := 0) (c := 0) rfl (by omega), Nat.add_zero, t1]; rfl, ms_q.rf⟩
  · obtain ⟨k, hk, rfl, ok, t⟩ := iv c
    refine ⟨ms_p s 6 0, ?_, ms_q.rf⟩
    rw [m_here (s := ms_p s 6 0) hrn, Option.bind_some, m_compares (s := ms_p s 6 0) t ok (by omega) H.cf, Option.bind_some]
    cases cpH (ivA R (nI k)).2 R.cf <;> rfl
theorem h_vars {D : gx_D} {b : HX} {o : Nat} {s : MS} {F : DF} {R : RN} (H : mM s F R) (i : Int32) : ansM (f_X9_valueOf D b o s i) s (ixB i F.vn.length) (nI (cf_val R.cf i.toNatClampNeg)) ∧ ansM (f_X9_initialValueOf D b o s i) s (ixB i F.vn.length) (nI (cf_val F.ini i.toNatClampNeg)) ∧ ansM (f_X9_visitsOf D b o s i) s (ixB i F.sn.length) (R.vi i.toNatClampNeg) := by
  obtain ⟨hdf, hrn, hF, hR⟩ := id H
  have c3 := hF.2.2.1.2
  have c1 := hF.1.2
  unfold f_X9_valueOf f_X9_initialValueOf f_X9_visitsOf ms_pf
  rw [Option.bind_some, Option.bind_some, Option.bind_some]
  refine ⟨m_gate (m := 2) rfl (by decide) hdf.2.2.1 fun c => ?_, m_gate (m := 2) rfl (by decide) hdf.2.2.1 fun c => ?_, m_gate (m := 0) rfl (by decide) hdf.1 fun c => ?_⟩
  · obtain ⟨k, hk, rfl⟩ := ixB_t (by omega) c
    refine ⟨ms_p s 6 0, ?_, ms_q.rf⟩
    rw [show (6 : Int32) + nI k = nI (6 + k) by rw [show (6 : Int32) = nI 6 from rfl, nI_add], ms_w (k := 6 + k) rfl (by omega), show (ms_p s 6 0).2 0 (6 + k) = _ from hrn.2.2.1 k (by omega), Option.bind_some, nI_clamp (by omega)]
  · obtain ⟨k, hk, rfl⟩ := ixB_t (by omega) c
    refine ⟨ms_p s 6 0, ?_, ms_q.rf⟩
    rw [show (9 : Int32) + nI k = nI (9 + k) by rw [show (9 : Int32) = nI 9 from rfl, nI_add], ms_w (k := 9 + k) rfl (by omega), show (ms_p s 6 0).2 0 (9 + k) = _ from hdf.2.2.2.2.2.2.2 k (by omega), Option.bind_some, nI_clamp (by omega)]
  · obtain ⟨k, hk, rfl⟩ := ixB_t (by omega) c
    refine ⟨ms_p s 6 0, ?_, ms_q.rf⟩
    rw [show (59 : Int32) + nI k = nI (59 + k) by rw [show (59 : Int32) = nI 59 from rfl, nI_add], ms_w (k := 59 + k) rfl (by omega), show (ms_p s 6 0).2 0 (59 + k) = R.vi k from hrn.2.2.2.2.2.2.2.2.1 k (by omega), Option.bind_some, nI_clamp (by omega)]
theorem h_events {D : gx_D} {b : HX} {o : Nat} {s : MS} {F : DF} {R : RN} (H : mM s F R) (i : Int32) : ansM (f_X9_verdictOf D b o s i) s (ixB i F.en.length) (nI (vdN F.ts R.iv R.cf i.toNatClampNeg)) ∧ ansM (f_X9_chosenTransition D b o s i) s (ixB i F.en.length) (oI (chN F.ts R.cf i.toNatClampNeg)) ∧ ansM (f_X9_brokenInvariant D b o s i) s (ixB i F.en.length) (if vdN F.ts R.iv R.cf i.toNatClampNeg = 4 then oI (brk R.iv (toN F.ts R.cf i.toNatClampNeg)) else -1) := by
  obtain ⟨hdf, hrn, hF, hR⟩ := id H
  have c2 := hF.2.1.2
  unfold f_X9_verdictOf f_X9_chosenTransition f_X9_brokenInvariant ms_pf
  rw [Option.bind_some, Option.bind_some, Option.bind_some]
  refine ⟨m_gate (m := 1) rfl (by decide) hdf.2.1 fun c => ?_, m_gate (m := 1) rfl (by decide) hdf.2.1 fun c => ?_, m_gate (m := 1) rfl (by decide) hdf.2.1 fun c => ?_⟩
  · obtain ⟨k, hk, rfl⟩ := ixB_t (by omega) c
    have V := (show mM (ms_p s 6 0) F R from H).V.vd (D := D) (b := b) (o := o) (e := k) H.cf (by omega)
    exact ⟨_, by rw [m_here (s := ms_p s 6 0) hrn, Option.bind_some, V, pl_b2_s, nI_clamp (by omega)], ms_q.rf.vd⟩
  · obtain ⟨k, hk, rfl⟩ := ixB_t (by omega) c
    have V := (show mM (ms_p s 6 0) F R from H).V.vd (D := D) (b := b) (o := o) (e := k) H.cf (by omega)
    exact ⟨_, by rw [m_here (s := ms_p s 6 0) hrn, Option.bind_some, V, pl_b2_s, nI_clamp (by omega), show (vdS F.ts R.cf k (ms_p s 6 0)).1 7 = oI (chN F.ts R.cf k) from ms_p1], ms_q.rf.vd⟩
  · obtain ⟨k, hk, rfl⟩ := ixB_t (by omega) c
    have V := (show mM (ms_p s 6 0) F R from H).V.vd (D := D) (b := b) (o := o) (e := k) H.cf (by omega)
    have v5 := vdN_lt (ts := F.ts) (is := R.iv) (q := R.cf) (e := k)
    refine ⟨vdS F.ts R.cf k (ms_p s 6 0), ?_, ms_q.rf.vd⟩
    rw [m_here (s := ms_p s 6 0) hrn, Option.bind_some, V, pl_b2_s, nI_clamp (by omega)]
    by_cases e4 : vdN F.ts R.iv R.cf k = 4
    · have key : cf_ok (toN F.ts R.cf k) := by
        unfold toN
        split
        · exact H.cf
        · split
          · exact H.cf
          · rename_i t ht
            split
            · exact H.cf
            · rename_i p hp
              exact trNext_ok (hF.trs _ (List.mem_of_getElem? ht)) H.cf hp
      have h8 : (vdS F.ts R.cf k (ms_p s 6 0)).1 8 = nI (cf_m (toN F.ts R.cf k)) := by
        unfold vdS
        rw [ms_p1n (by decide), ms_p1]
      rw [if_pos e4, if_pos (show nI (vdN F.ts R.iv R.cf k) = 4 by rw [e4]; rfl), h8, m_broken (s := vdS F.ts R.cf k (ms_p s 6 0)) hrn.1 hR.1 hR.2.1 key, Option.bind_some]
    · rw [if_neg e4, if_neg (show ¬ nI (vdN F.ts R.iv R.cf k) = 4 from nI_ne (b := 4) (by omega) (by decide) e4)]
theorem h_deadlocked {D : gx_D} {b : HX} {o : Nat} {s : MS} {F : DF} {R : RN} (H : mM s F R) : ∃ s', f_X9_isDeadlocked D b o s = some (stuckN F R R.cf, s') ∧ ms_q (ms_p s 6 0) s' := by
  obtain ⟨x, y, e⟩ := m_stuck' (D := D) (b := b) (o := o) (show mM (ms_p s 6 0) F R from H).V H.cf
  unfold f_X9_isDeadlocked ms_pf
  rw [Option.bind_some, m_here (s := ms_p s 6 0) H.2.1, Option.bind_some, e, pl_b2_s]
  exact ⟨_, rfl, ms_q.rf.p8.p7⟩
theorem h_rejectedWith {D : gx_D} {b : HX} {o : Nat} {s : MS} {F : DF} {R : RN} (H : mM s F R) (i : Int32) : ansM (f_X9_rejectedWith D b o s i) s (decide (1 ≤ i) && decide (i ≤ 4)) (R.rj i.toNatClampNeg) := by
  unfold f_X9_rejectedWith ms_pf
  rw [Option.bind_some, m_inRange, Option.bind_some]
  cases c : decide (1 ≤ i) && decide (i ≤ 4) with
  | false =>
    refine ⟨0, ms_p s 6 1, ?_, ms_q.rf, fun h => by cases h⟩
    rw [if_neg Bool.false_ne_true]
    unfold f_X9_rejectedWith_b20
    rw [m_fails, pl_b2_s, if_pos rfl, if_pos rfl, ms_pp]
  | true =>
    rw [Bool.and_eq_true, decide_eq_true_eq, decide_eq_true_eq] at c
    obtain ⟨k, hk, rfl⟩ : ∃ k, k < 5 ∧ i = nI k := by
      have h3 : ¬ i < 0 := fun e => by
        have c1 := c.1
        rw [Int32.lt_iff_toInt_lt] at e
        rw [Int32.le_iff_toInt_le] at c1
        have : (1 : Int32).toInt = 1 := by decide
        have : (0 : Int32).toInt = 0 := by decide
        omega
      obtain ⟨j, h1, h2⟩ := nI_of2 (n := 4) (M := 4) (by decide) h3 c.2
      exact ⟨j, by omega, h2⟩
    have k1 : 1 ≤ k := (nI_leI (a := 1) (by decide) (by omega)).1 c.1
    refine ⟨R.rj k, ms_p s 6 0, ?_, ms_q.rf, fun _ => by rw [nI_clamp (by omega)]⟩
    rw [if_pos rfl]
    unfold f_X9_rejectedWith_b20
    rw [m_fails, pl_b2_s, if_neg Bool.false_ne_true, if_neg Bool.false_ne_true, show (12 : Int32) + nI k = nI (12 + k) by rw [show (12 : Int32) = nI 12 from rfl, nI_add], ms_w (k := 12 + k) rfl (by omega), show (ms_p s 6 0).2 0 (12 + k) = _ from H.2.1.2.2.2.2.1 k k1 hk, Option.bind_some]
theorem h_trace {D : gx_D} {b : HX} {o : Nat} {s : MS} {F : DF} {R : RN} (H : mM s F R) (i : Int32) : f_X9_traceEvent D b o s i = some (if ixB i R.tr.length = true then tr_e R.tr i.toNatClampNeg else -1, ms_p s 6 0) ∧ f_X9_traceTransition D b o s i = some (if ixB i R.tr.length = true then tr_t R.tr i.toNatClampNeg else -1, ms_p s 6 0) := by
  obtain ⟨hdf, hrn, hF, hR⟩ := id H
  have t20 := hR.2.2.2.2.2.2.2
  have q7 := hrn.2.2.2.2.2.2.1
  have q8 := hrn.2.2.2.2.2.2.2.1
  unfold f_X9_traceEvent f_X9_traceTransition ms_pf
  rw [Option.bind_some, Option.bind_some, ms_w (x := 18) (k := 18) rfl (by decide), show (ms_p s 6 0).2 0 18 = _ from q7, Option.bind_some, Option.bind_some, m_inRange, Option.bind_some, Option.bind_some]
  show (if ixB i R.tr.length = true then _ else _) = _ ∧ (if ixB i R.tr.length = true then _ else _) = _
  cases c : ixB i R.tr.length with
  | false => exact ⟨rfl, rfl⟩
  | true =>
    obtain ⟨k, hk, rfl⟩ := ixB_t (by omega) c
    have i1 : (19 : Int32) + 2 * nI k = nI (19 + 2 * k) := by rw [show (2 : Int32) = nI 2 from rfl, show (19 : Int32) = nI 19 from rfl, pk_mul, nI_add]
    rw [if_pos rfl, if_pos rfl, if_pos rfl, if_pos rfl, i1, nI_1, ms_w (k := 19 + 2 * k) rfl (by omega), ms_w (k := 19 + 2 * k + 1) rfl (by omega), Option.bind_some, Option.bind_some, nI_clamp (by omega)]
    have := q8 k hk
    rw [show 19 + 2 * k + 1 = 20 + 2 * k by omega]
    exact ⟨by rw [show (ms_p s 6 0).2 0 (19 + 2 * k) = _ from this.1], by rw [show (ms_p s 6 0).2 0 (20 + 2 * k) = _ from this.2]⟩
theorem h_letter {D : gx_D} {b : HX} {o c k : Nat} {s : MS} {xs : List (List Nat)} (H : m_nm (s.2 0) c xs) (hk : k < xs.length) (hl : xs[k].length ≤ 6) (hb : c + 7 * k + 7 ≤ 504) (j : Int32) : f_X9_letter D b o s (nI (c + 7 * k)) j = some (if ixB j xs[k].length = true then nI (xs[k].getD j.toNatClampNeg 0) else -1) := by
  obtain ⟨h1, h2⟩ := H k _ (List.getElem?_eq_getElem hk)
  unfold f_X9_letter
  rw [ms_w (k := c + 7 * k) rfl (by omega), h1, Option.bind_some, m_inRange, Option.bind_some]
  show (if ixB j xs[k].length = true then _ else _) = _
  cases e : ixB j xs[k].length with
  | false => rfl
  | true =>
    obtain ⟨i, hi, rfl⟩ := ixB_t (by omega) e
    have := h2 i _ (List.getElem?_eq_getElem hi)
    rw [if_pos rfl, if_pos rfl, nI_1, nI_add, ms_w (k := c + 7 * k + 1 + i) rfl (by omega), this, Option.bind_some, nI_clamp (by omega), List.getD_eq_getElem?_getD, List.getElem?_eq_getElem hi]
    rfl
def nmA (xs : List (List Nat)) (i j : Int32) : Int32 := match xs[i.toNatClampNeg]? with
  | none => -1
  | some x => if ixB j x.length = true then nI (x.getD j.toNatClampNeg 0) else -1
theorem h_names {D : gx_D} {b : HX} {o : Nat} {s : MS} {F : DF} {R : RN} (H : mM s F R) (i j : Int32) : ansM (f_X9_stateNameByte D b o s i j) s (ixB i F.sn.length) (nmA F.sn i j) ∧ ansM (f_X9_eventNameByte D b o s i j) s (ixB i F.en.length) (nmA F.en i j) ∧ ansM (f_X9_variableNameByte D b o s i j) s (ixB i F.vn.length) (nmA F.vn i j) := by
  obtain ⟨hdf, hrn, hF, hR⟩ := id H
  obtain ⟨d0, d1, d2, d3, n1, n2, n3, _⟩ := hdf
  obtain ⟨⟨_, f1⟩, ⟨_, f2⟩, ⟨_, f3⟩, f4, m1, m2, m3, _⟩ := hF
  have gen : ∀ (c m : Nat) (xs : List (List Nat)) (x7 : Int32), m_nm ((ms_p s 6 0).2 0) c xs → nm_ok xs → xs.length ≤ m → c + 7 * m ≤ 504 → m ≤ 10 → x7 = nI c → ixB i xs.length = true → ∃ s', (f_X9_letter D b o (ms_p s 6 0) (x7 + (7 * i)) j).bind (fun x7 => some (x7, ms_p s 6 0)) = some (nmA xs i j, s') ∧ ms_q (ms_p s 6 0) s' := by
    intro c m xs x7 hn ho hl hc hm hx ci
    obtain ⟨k, hk, rfl⟩ := ixB_t (by omega) ci
    have l6 := (ho _ (List.getElem_mem hk)).2
    refine ⟨ms_p s 6 0, ?_, ms_q.rf⟩
    rw [hx, show (7 : Int32) = nI 7 from rfl, pk_mul, nI_add, h_letter hn hk l6 (by omega), Option.bind_some]
    unfold nmA
    rw [nI_clamp (by omega), List.getElem?_eq_getElem hk]
  unfold f_X9_stateNameByte f_X9_eventNameByte f_X9_variableNameByte ms_pf
  rw [Option.bind_some, Option.bind_some, Option.bind_some]
  exact ⟨m_gate (m := 0) rfl (by decide) d0 (gen 357 10 _ _ n1 m1 f1 (by decide) (by decide) rfl), m_gate (m := 1) rfl (by decide) d1 (gen 427 8 _ _ n2 m2 f2 (by decide) (by decide) rfl), m_gate (m := 2) rfl (by decide) d2 (gen 483 3 _ _ n3 m3 f3 (by decide) (by decide) rfl)⟩
