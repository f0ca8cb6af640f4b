/-! the component's calls that search -/
set_option maxRecDepth 100000
def ixB (i : Int32) (n : Nat) : Bool := decide (0 ≤ i) && decide (i ≤ nI n - 1)
theorem ixB_t {i : Int32} {n : Nat} (hn : n < 2 ^ 30) (h : ixB i n = true) : ∃ k, k < n ∧ i = nI k := by
  unfold ixB at h
  simp only [Bool.and_eq_true, decide_eq_true_eq] at h
  obtain ⟨h1, h2⟩ := h
  have h3 : ¬ i < 0 := fun e => by
    rw [Int32.lt_iff_toInt_lt] at e
    rw [Int32.le_iff_toInt_le] at h1
    omega
  obtain ⟨j, hj, rfl⟩ := nI_of h3
  refine ⟨j, ?_, rfl⟩
  rw [Int32.le_iff_toInt_le, show nI n - 1 = nI n - nI 1 from rfl, pk_sub_toInt hn (by decide), nI_toInt hj] at h2
  omega
theorem ixB_n {n k : Nat} (hn : n < 2 ^ 30) (hk : k < n) : ixB (nI k) n = true := by
  unfold ixB
  rw [decide_eq_true (nI_pos' (show k < 2 ^ 31 by omega)), Bool.true_and]
  refine decide_eq_true ?_
  rw [Int32.le_iff_toInt_le, show nI n - 1 = nI n - nI 1 from rfl, pk_sub_toInt hn (by decide), nI_toInt (by omega)]
  omega
def cIOOBE : String := "java/lang/IndexOutOfBoundsException"
theorem f_checkIndex {D : gx_D} {h : HX} {i : Int32} {n : Nat} : f_X1_checkIndex D h i (nI n) = if ixB i n = true then some (.inl (), h) else some (.inr (cIOOBE, h.1), hx_skip h 1 6) := by
  have e := f_within (D := D) (h := h) i 0 (nI n - 1)
  rw [show Int32.toInt64 0 = 0 by decide] at e
  unfold f_X1_checkIndex f_X1_requireIndex gx_bx
  rw [e, Option.bind_some]
  show _ = if ixB i n = true then _ else _
  unfold ixB
  cases decide (0 ≤ i) && decide (i ≤ nI n - 1) <;> rfl
theorem m_no {D : gx_D} {b : HX} {o m n : Nat} {s : MS} {i : Int32} {x : Int32} (hx : x = nI m) (hm : m < 504) (hw : s.2 0 m = nI n) : f_X9_no D b o s i x = some (!ixB i n, if ixB i n = true then s else ms_p s 6 1) := by
  unfold f_X9_no
  rw [ms_w hx hm, hw, Option.bind_some, m_inRange, Option.bind_some]
  unfold ixB
  cases decide (0 ≤ i) && decide (i ≤ nI n - 1) <;> rfl
def bfG (L : List EN) (P : CF → Bool) : Option EN := match bfF L P with
  | none => none
  | some k => L[k]?
theorem c_finder {D : gx_D} {hs : HX} {x a de fi qu v : Nat} {fs : List Value} {F : DF} {R : RN} {dl : Int32} {P : CF → Bool} (V : cs_vm D hs x a de fi qu fs F R) (hq0 : cf_ok R.cf) (O : cs_ok hs hs x a de fi qu fs [] [] 0 (-1) dl) (Fn : fn_at D hs x a de fi qu v fs P) :
    ∃ n h1 S M b, f_X21_inBreadth D hs a (some v) = some (nI n, h1) ∧ hx_gi h1 x [9] 12 = some (oC ((bfG (bfA (nxN F.ts R.iv) F.en.length R.cf) P).map (·.1))) ∧ cs_ok hs h1 x a de fi qu fs S M b (oC ((bfG (bfA (nxN F.ts R.iv) F.en.length R.cf) P).map (·.1))) dl ∧ ∀ y, bfG (bfA (nxN F.ts R.iv) F.en.length R.cf) P = some y → cf_ok y.1 ∧ hx_gr h1 x [9] 9 = some (some de) ∧ hx_gr h1 x [9] 10 = some (some fi) ∧ hx_ai h1 de 0 (nI (cf_c y.1)) = some (nI y.2.1) ∧ hx_ai h1 fi 0 (nI (cf_c y.1)) = some (labI y) := by
  obtain ⟨n, h1, S, M, b, r1, r2⟩ := c_find V hq0 O Fn
  have X := V.1
  refine ⟨n, h1, S, M, b, r1, ?_⟩
  rcases r2 with ⟨e1, O1⟩ | ⟨k, y, e1, e2, e3, O1⟩
  · have e : bfG (bfA (nxN F.ts R.iv) F.en.length R.cf) P = none := by unfold bfG; rw [e1]
    rw [e]
    exact ⟨(hx_ob.mk O1.2.1).gi (by decide) (cs_x_12 X.1), O1, fun y hy => by cases hy⟩
  · have e : bfG (bfA (nxN F.ts R.iv) F.en.length R.cf) P = some y := by unfold bfG; rw [e1]; exact e2
    rw [e]
    refine ⟨(hx_ob.mk O1.2.1).gi (by decide) (cs_x_12 X.1), O1, fun z hz => ?_⟩
    cases hz
    have O2 := O1
    obtain ⟨_, hx, ha, ⟨p1, p2, p3⟩, fd, ff, fq, hde, hfi, hqu, k1, k2, k3⟩ := O1
    have hy := (p3 y e3).1
    have cl := cf_c_lt hy
    obtain ⟨k4, k5⟩ := k2 y e3
    exact ⟨hy, (hx_ob.mk hx).gr (by decide) (by rw [cs_x_at (by decide) (by decide)]; exact X.2.1), (hx_ob.mk hx).gr (by decide) (by rw [cs_x_at (by decide) (by decide)]; exact X.2.2.1), by rw [(hx_oi.mk hde).ai cl (by decide), k4], by rw [(hx_oi.mk hfi).ai cl (by decide), k5]⟩
/-- what a finder's call leaves -/
def cs_fnd (h h1 : HX) (x de fi qu : Nat) (fs : List Value) (G : Option EN) (dl : Int32) : Prop := cs_post h h1 x de fi qu fs (oC (G.map (·.1))) dl 2 7 ∧ hx_gi h1 x [9] 12 = some (oC (G.map (·.1))) ∧ ∀ y, G = some y → cf_ok y.1 ∧ hx_gr h1 x [9] 9 = some (some de) ∧ hx_gr h1 x [9] 10 = some (some fi) ∧ hx_ai h1 de 0 (nI (cf_c y.1)) = some (nI y.2.1) ∧ hx_ai h1 fi 0 (nI (cf_c y.1)) = some (labI y)
/-- a finder of class ci, once made, searches: h6 is right behind its making, vs its fields, y0 what lies in field 0 -/
theorem c_run {D : gx_D} {h h4 h8 : HX} {x de fi qu ci n : Nat} {fs vs : List Value} {F : DF} {R : RN} {fnd dl : Int32} {P : CF → Bool} (H : cs_mx D h x de fi qu fs F R) (e12 : fs[12]? = some (.int fnd)) (e13 : fs[13]? = some (.int dl))
    (a1 : h4.1 = h.1 + 1) (a2 : h4.2.1 = h.2.1 + 3) (a3 : h4.2.2 h.1 = some (true, .inr (25, [.int 0, .int 0, va_rf (some x)]))) (a4 : ∃ f, h4.2.2 de = some (true, .inl (0, 10000, .inl f)) ∧ ∀ k, k < 10000 → f k = -1) (a5 : ∀ z, z ≠ h.1 → z ≠ de → h4.2.2 z = h.2.2 z)
    (b1 : h8.1 = h4.1 + 1) (b2 : h8.2.1 = h4.2.1 + n) (hn : n ≤ 4) (b3 : h8.2.2 h4.1 = some (true, .inr (ci, vs))) (b4 : h8.2.2 x = some (true, .inr (9, cs_x fs (-1) dl))) (b5 : ∀ z, z ≠ h4.1 → z ≠ x → h8.2.2 z = h4.2.2 z) (hci : ci = 27 ∨ ci = 28 ∨ ci = 30) (hv0 : vs[0]? = some (va_rf (some x)))
    (sg : ∀ h' S M b fnd dl q, cs_ok h8 h' x h.1 de fi qu fs S M b fnd dl → cs_vm D h8 x h.1 de fi qu fs F R → hx_ob h' h4.1 ci vs → cf_ok q → (ci = 27 → f_X24_isSought D h' h4.1 (nI (cf_c q)) = some (P q)) ∧ (ci = 28 → f_X25_isSought D h' h4.1 (nI (cf_c q)) = some (P q)) ∧ (ci = 30 → f_X27_isSought D h' h4.1 (nI (cf_c q)) = some (P q))) :
    ∃ m h1, f_X21_inBreadth D h8 h.1 (some h4.1) = some (nI m, h1) ∧ cs_fnd h h1 x de fi qu fs (bfG (bfA (nxN F.ts R.iv) F.en.length R.cf) P) dl := by
  obtain ⟨hx, hl, _, _, _, ⟨l1, l2, l3, l4, d1, d2, d3⟩, hF, hap, hne, hcf⟩ := id H
  obtain ⟨n1, n2, n3⟩ := H.ne
  have hz : ∀ z, z < h.1 → z ≠ x → z ≠ de → h8.2.2 z = h.2.2 z := fun z z0 z1 z2 => by rw [b5 z (by omega) z1, a5 z (by omega) z2]
  obtain ⟨f, a4a, a4b⟩ := a4
  obtain ⟨V, O⟩ := c_begin (h4 := h8) (fnd := -1) (dl := dl) H (by rw [b1, a1]; omega) b4 (by rw [b5 _ (by omega) (by omega), a3]) ⟨f, by rw [b5 de (by omega) (fun e => n1 e.symm), a4a], a4b⟩ hz
  obtain ⟨m, h1, S, M, b, r1, r2, r3, r4⟩ := c_finder (v := h4.1) (P := P) V hcf O ⟨by omega, by omega, by omega, by omega, by omega, ci, vs, b3, hci, hv0, fun h' S M b fnd dl q O' hq => sg h' S M b fnd dl q O' V (hx_ob.mk (b := true) (by rw [O'.1.2.2 h4.1 (by omega) (by omega) (by omega) (by omega) (by omega)]; exact b3)) hq⟩
  exact ⟨m, h1, r1, c_end H ⟨by rw [b1, a1]; omega, by rw [b1, a1]; omega, by rw [b2, a2]; omega, by rw [b2, a2]; omega⟩ hz ⟨by rw [b1, a1]; omega, fun z z1 => by rw [b1, a1] at z1; rw [b5 z (by omega) (by omega), a5 z (by omega) (by omega)]⟩ r3, r2, r4⟩
theorem cs_x_found {fs : List Value} {fnd fnd' dl : Int32} (h1 : fs[13]? = some (.int dl)) : fs.set 12 (.int fnd') = cs_x fs fnd' dl := by
  unfold cs_x
  apply List.ext_getElem?
  intro k
  by_cases c : k = 13
  · subst c
    have := (List.getElem?_eq_some_iff.1 h1).1
    rw [List.getElem?_set_self (by rw [List.length_set]; omega), List.getElem?_set_ne (by decide), h1]
  · rw [List.getElem?_set_ne (fun e => c e.symm)]
/-- findState -/
theorem c_findState {D : gx_D} {h : HX} {x de fi qu st : Nat} {fs : List Value} {F : DF} {R : RN} {fnd dl : Int32} (H : cs_mx D h x de fi qu fs F R) (e12 : fs[12]? = some (.int fnd)) (e13 : fs[13]? = some (.int dl)) (hst : st < F.sn.length) :
    ∃ h1, f_X1_findState D h x (nI st) = some (.inl (oC ((bfG (bfA (nxN F.ts R.iv) F.en.length R.cf) fun q => decide (q.1 = st)).map (·.1))), h1) ∧ cs_fnd h h1 x de fi qu fs (bfG (bfA (nxN F.ts R.iv) F.en.length R.cf) fun q => decide (q.1 = st)) dl := by
  obtain ⟨hx, hl, _, ⟨d, r, f5, f6, hdf, hrn⟩, _, ⟨l1, l2, l3, l4, d1, d2, d3⟩, hF, hap, hne, hcf⟩ := id H
  obtain ⟨ss, ee, vv, tt, k1, k2, k3, k4, k5⟩ := hdf.sub hzf_sub
  obtain ⟨n1, n2, n3⟩ := H.ne
  obtain ⟨h2, h4, e2, e4, a1, a2, a3, a4, a5⟩ := c_new H
  have st10 : st < 10 := by have := hF.1.2; omega
  have chk : f_X1_checkState D h x (nI st) = some (.inl (), h) := by
    unfold f_X1_checkState gx_bx
    simp only [(hx_ob.mk hx).is (show 9 ∈ [9] by decide), (hx_ob.mk hx).gr (show 9 ∈ [9] by decide) f5, k1.gr (show 10 ∈ [10] by decide) (k := 0) rfl, Option.bind_some, k2.len, f_checkIndex, if_pos (ixB_n (show F.sn.length < 2 ^ 30 by have := hF.1.2; omega) hst)]
  obtain ⟨h6, e6, c6⟩ := hx_new_e (h := h4) (n := 3) (ci := 27) (fs := gx_df27)
  obtain ⟨h7, e7, c7⟩ := hx_pv_e (cis := [27]) (k := 2) (v := va_rf (some x)) c6.2.2.1 (by decide) (by decide)
  obtain ⟨h8, e8, c8⟩ := hx_pv_e (cis := [27]) (k := 1) (v := .int (nI st)) c7.2.2.1 (by decide) (by simp [gx_df27])
  obtain ⟨h9, e9, c9⟩ := hx_pv_e (cis := [27, 28, 30]) (k := 0) (v := va_rf (some x)) c8.2.2.1 (by decide) (by simp [gx_df27])
  have x9 : h9.2.2 x = some (true, .inr (9, fs)) := by rw [c9.2.2.2 x (by omega), c8.2.2.2 x (by omega), c7.2.2.2 x (by omega), c6.2.2.2 x (by omega), a5 x (by omega) n1, hx]
  obtain ⟨h10, e10, c10⟩ := hx_pv_e (cis := [9]) (k := 12) (v := .int (-1)) x9 (by decide) (by omega)
  obtain ⟨m, h1, r1, r2⟩ := c_run (n := 3) (P := fun q => decide (q.1 = st)) (h8 := h10) H e12 e13 a1 a2 a3 a4 a5 (by rw [c10.1, c9.1, c8.1, c7.1, c6.1]) (by rw [c10.2.1, c9.2.1, c8.2.1, c7.2.1, c6.2.1]) (by decide) (by rw [c10.2.2.2 h4.1 (by omega), c9.2.2.1]) (by rw [c10.2.2.1, cs_x_found (fnd := fnd) e13]) (fun z z1 z2 => by rw [c10.2.2.2 z z2, c9.2.2.2 z z1, c8.2.2.2 z z1, c7.2.2.2 z z1, c6.2.2.2 z z1]) (Or.inl rfl) rfl (fun h' S M b fnd dl q O V' o hq => ⟨fun _ => by
      unfold f_X24_isSought
      rw [o.is (by decide), Option.bind_some, o.gi (show 27 ∈ [27] by decide) (k := 1) rfl, Option.bind_some, c_state hq]
      have hq1 := hq.1
      simp only [nI_eq (show q.1 < 2 ^ 31 by omega) (show st < 2 ^ 31 by omega)]
      exact ifb, fun e => absurd e (by decide), fun e => absurd e (by decide)⟩)
  refine ⟨h1, ?_, r2⟩
  unfold f_X1_findState gx_bx gx_b2 f_X24_init f_X23_init hx_pr hx_pi
  simp only [(hx_ob.mk hx).is (show 9 ∈ [9] by decide), Option.bind_some, chk, e2, e4, e6, e7, e8, e9, e10, r1, r2.2.1]
/-- the first configuration of a state: isReachable, stepsTo, firstEventTo -/
def bfSt (F : DF) (R : RN) (st : Nat) : Option EN := bfG (bfA (nxN F.ts R.iv) F.en.length R.cf) fun q => decide (q.1 = st)
theorem c_isReachable {D : gx_D} {h : HX} {x de fi qu st : Nat} {fs : List Value} {F : DF} {R : RN} {fnd dl : Int32} (H : cs_mx D h x de fi qu fs F R) (e12 : fs[12]? = some (.int fnd)) (e13 : fs[13]? = some (.int dl)) (hst : st < F.sn.length) :
    ∃ h1, f_X1_isReachable D h x (nI st) = some (.inl (bfSt F R st).isSome, h1) ∧ ∃ fnd', cs_post h h1 x de fi qu fs fnd' dl 2 7 := by
  obtain ⟨h1, r1, r2, r3, r4⟩ := c_findState H e12 e13 hst
  refine ⟨h1, ?_, _, r2⟩
  unfold f_X1_isReachable gx_bx
  rw [(hx_ob.mk H.1).is (by decide), Option.bind_some, r1, Option.bind_some]
  simp only
  unfold bfSt
  cases e : bfG (bfA (nxN F.ts R.iv) F.en.length R.cf) fun q => decide (q.1 = st) with
  | none => rw [if_pos (by rfl)]; rfl
  | some y => rw [Option.map_some, if_neg (oC_sne (r4 y e).1)]; rfl
theorem c_stepsTo {D : gx_D} {h : HX} {x de fi qu st : Nat} {fs : List Value} {F : DF} {R : RN} {fnd dl : Int32} (H : cs_mx D h x de fi qu fs F R) (e12 : fs[12]? = some (.int fnd)) (e13 : fs[13]? = some (.int dl)) (hst : st < F.sn.length) :
    ∃ h1, f_X1_stepsTo D h x (nI st) = some (.inl (oI ((bfSt F R st).map (·.2.1))), h1) ∧ ∃ fnd', cs_post h h1 x de fi qu fs fnd' dl 2 7 := by
  obtain ⟨h1, r1, r2, r3, r4⟩ := c_findState H e12 e13 hst
  refine ⟨h1, ?_, _, r2⟩
  unfold f_X1_stepsTo gx_bx
  rw [(hx_ob.mk H.1).is (by decide), Option.bind_some, r1, Option.bind_some]
  simp only
  unfold bfSt
  cases e : bfG (bfA (nxN F.ts R.iv) F.en.length R.cf) fun q => decide (q.1 = st) with
  | none => rw [if_pos (by rfl)]; rfl
  | some y =>
    obtain ⟨y1, y2, y3, y4, y5⟩ := r4 y e
    rw [Option.map_some, if_neg (oC_sne y1), y2, Option.bind_some, Option.bind_some]
    show ((hx_ai h1 de 0 (nI (cf_c y.1))).bind _) = _
    rw [y4]
    rfl
theorem c_firstEventTo {D : gx_D} {h : HX} {x de fi qu st : Nat} {fs : List Value} {F : DF} {R : RN} {fnd dl : Int32} (H : cs_mx D h x de fi qu fs F R) (e12 : fs[12]? = some (.int fnd)) (e13 : fs[13]? = some (.int dl)) (hst : st < F.sn.length) :
    ∃ h1, f_X1_firstEventTo D h x (nI st) = some (.inl (match bfSt F R st with
      | none => -1
      | some y => labI y), h1) ∧ ∃ fnd', cs_post h h1 x de fi qu fs fnd' dl 2 7 := by
  obtain ⟨h1, r1, r2, r3, r4⟩ := c_findState H e12 e13 hst
  refine ⟨h1, ?_, _, r2⟩
  unfold f_X1_firstEventTo gx_bx
  rw [(hx_ob.mk H.1).is (by decide), Option.bind_some, r1, Option.bind_some]
  simp only
  unfold bfSt
  cases e : bfG (bfA (nxN F.ts R.iv) F.en.length R.cf) fun q => decide (q.1 = st) with
  | none => rw [if_pos (by rfl)]
  | some y =>
    obtain ⟨y1, y2, y3, y4, y5⟩ := r4 y e
    rw [Option.map_some, if_neg (oC_sne y1), y3, Option.bind_some, Option.bind_some]
    show ((hx_ai h1 fi 0 (nI (cf_c y.1))).bind _) = _
    rw [y5]
    rfl
/-- whether a transition can be taken from a configuration -/
def canP (F : DF) (R : RN) (k : Nat) (q : CF) : Bool := match F.ts[k]? with
  | none => false
  | some t => decide (chN F.ts q t.2.1 = some k) && (nxN F.ts R.iv q t.2.1).isSome
theorem c_canBeTaken {D : gx_D} {h : HX} {x de fi qu k : Nat} {fs : List Value} {F : DF} {R : RN} {fnd dl : Int32} (H : cs_mx D h x de fi qu fs F R) (e12 : fs[12]? = some (.int fnd)) (e13 : fs[13]? = some (.int dl)) (hk : k < F.ts.length) :
    ∃ h1, f_X1_canBeTaken D h x (nI k) = some (.inl (bfG (bfA (nxN F.ts R.iv) F.en.length R.cf) (canP F R k)).isSome, h1) ∧ ∃ fnd', cs_post h h1 x de fi qu fs fnd' dl 2 7 := by
  obtain ⟨hx, hl, _, ⟨d, r, f5, f6, hdf, hrn⟩, _, ⟨l1, l2, l3, l4, d1, d2, d3⟩, hF, hap, hne, hcf⟩ := id H
  obtain ⟨ss, ee, vv, tt, k1, k2, k3, k4, k5⟩ := hdf.sub hzf_sub
  obtain ⟨n1, n2, n3⟩ := H.ne
  obtain ⟨h2, h4, e2, e4, a1, a2, a3, a4, a5⟩ := c_new H
  have t24 : F.ts.length ≤ 24 := hF.2.2.2.1
  obtain ⟨ss', ee', vv', tt', z1, z2, z3, z4, z5⟩ := hdf
  obtain ⟨tb, tg, tr⟩ := z5.at (D := D) hk
  have tr4 : hx_tr D h tb F.ts[k] := tr.sub hzf_sub
  have eq5 := k1
  have tt_eq : tt' = tt := by
    obtain ⟨b1, q1⟩ := k1
    obtain ⟨b2, q2⟩ := z1.sub hzf_sub
    rw [q1] at q2
    have := Option.some.inj q2
    injection this with a1 a2
    injection a2 with a3
    injection a3 with a4 a5
    injection a5 with b1 b2
    injection b2 with b3 b4
    injection b4 with b5 b6
    injection b6 with b7 b8
    injection b7 with b9
    exact b9.symm
  subst tt_eq
  have tg' : f_J2_get D h tt' (nI k) = some (some tb) := by
    obtain ⟨as, w1, w2, w3⟩ := z5
    have hk' : k < as.length := by rw [w2]; exact hk
    have g1 := w1.get (D := D) hk'
    rw [tg] at g1
    rw [(w1.sub hzf_sub).get hk', ← g1]
  have trn : f_X1_transition D h x (nI k) = some (.inl (some tb), h) := by
    obtain ⟨_, g, c, q1, _⟩ := id tr4
    unfold f_X1_transition gx_bx
    simp only [(hx_ob.mk hx).is (show 9 ∈ [9] by decide), (hx_ob.mk hx).gr (show 9 ∈ [9] by decide) f5, k1.gr (show 10 ∈ [10] by decide) (k := 3) rfl, Option.bind_some, k5.len, f_checkIndex, if_pos (ixB_n (show F.ts.length < 2 ^ 30 by omega) hk), tg', pl_cast q1 (show 13 ∈ [13] by decide)]
  obtain ⟨h6, e6, c6⟩ := hx_new_e (h := h4) (n := 4) (ci := 28) (fs := gx_df28)
  obtain ⟨h7, e7, c7⟩ := hx_pv_e (cis := [28]) (k := 3) (v := va_rf (some x)) c6.2.2.1 (by decide) (by decide)
  obtain ⟨h8, e8, c8⟩ := hx_pv_e (cis := [28]) (k := 1) (v := va_rf (some tb)) c7.2.2.1 (by decide) (by simp [gx_df28])
  obtain ⟨h8', e8', c8'⟩ := hx_pv_e (cis := [28]) (k := 2) (v := .int (nI k)) c8.2.2.1 (by decide) (by simp [gx_df28])
  obtain ⟨h9, e9, c9⟩ := hx_pv_e (cis := [27, 28, 30]) (k := 0) (v := va_rf (some x)) c8'.2.2.1 (by decide) (by simp [gx_df28])
  have x9 : h9.2.2 x = some (true, .inr (9, fs)) := by rw [c9.2.2.2 x (by omega), c8'.2.2.2 x (by omega), c8.2.2.2 x (by omega), c7.2.2.2 x (by omega), c6.2.2.2 x (by omega), a5 x (by omega) n1, hx]
  obtain ⟨h10, e10, c10⟩ := hx_pv_e (cis := [9]) (k := 12) (v := .int (-1)) x9 (by decide) (by omega)
  have zold : ∀ z, z ≠ h4.1 → z ≠ x → h10.2.2 z = h4.2.2 z := fun z z1 z2 => by rw [c10.2.2.2 z z2, c9.2.2.2 z z1, c8'.2.2.2 z z1, c8.2.2.2 z z1, c7.2.2.2 z z1, c6.2.2.2 z z1]
  obtain ⟨m, h1, r1, r2⟩ := c_run (n := 4) (P := canP F R k) (h8 := h10) H e12 e13 a1 a2 a3 a4 a5 (by rw [c10.1, c9.1, c8'.1, c8.1, c7.1, c6.1]) (by rw [c10.2.1, c9.2.1, c8'.2.1, c8.2.1, c7.2.1, c6.2.1]) (by decide) (by rw [c10.2.2.2 h4.1 (by omega), c9.2.2.1]) (by rw [c10.2.2.1, cs_x_found (fnd := fnd) e13]) zold (Or.inr (Or.inl rfl)) rfl (fun h' S M b fnd dl q O V' o hq => ⟨fun e => absurd e (by decide), fun _ => by
      have W := V'.at O
      obtain ⟨d', r', fs', w1, w2, w3, ⟨ss2, ee2, vv2, tt2, y1, y2, y3, y4, y5⟩, w9⟩ := id W
      have sub2 : hx_sub (hzf h) h' := by
        refine hx_sub.tr (zf_sub_of (h1 := h10) (by rw [c10.1, c9.1, c8'.1, c8.1, c7.1, c6.1, a1]; omega) fun z c hlt hc hb => ?_) (cs_sub V'.2.1 O)
        obtain ⟨u, hu⟩ := H.2.2.2.2.1.1
        rw [zold z (by omega) (fun e => by rw [e, hx] at hc; rw [← Option.some.inj hc] at hb; cases hb), a5 z (by omega) (fun e => by rw [e, hu] at hc; rw [← Option.some.inj hc] at hb; cases hb), hc]
      have trh : hx_tr D h' tb F.ts[k] := tr.sub sub2
      obtain ⟨⟨o1, o2, o3⟩, g, c, q1, _⟩ := id trh
      have he : F.ts[k].2.1 < 2 ^ 31 := by omega
      have c1 := f_choose hap y1 rfl y5 hq he
      have c2 := (f_verdict hap hne W hF.trs hq he).2
      unfold f_X25_isSought canP
      simp only [o.is (show 28 ∈ [28] by decide), Option.bind_some, o.gr (show 28 ∈ [28] by decide) (k := 3) (r := some x) rfl, o.gr (show 28 ∈ [28] by decide) (k := 1) (r := some tb) rfl, o.gi (show 28 ∈ [28] by decide) (k := 2) (x := nI k) rfl, w1.gr (show 9 ∈ [9] by decide) w2, q1.gi (show 13 ∈ [13] by decide) (k := 1) rfl, c1, c2, List.getElem?_eq_getElem hk]
      have hiff : (oI (chN F.ts q F.ts[k].2.1) = nI k) ↔ chN F.ts q F.ts[k].2.1 = some k := by
        cases e : chN F.ts q F.ts[k].2.1 with
        | none => exact ⟨fun h => absurd h.symm (oI_ne (by omega)), fun h => by cases h⟩
        | some j =>
          have := chN_lt e
          show nI j = nI k ↔ _
          rw [nI_eq (by omega) (by omega)]
          exact ⟨fun h => by rw [h], fun h => Option.some.inj h⟩
      by_cases c3 : chN F.ts q F.ts[k].2.1 = some k
      · rw [if_pos (hiff.2 c3), decide_eq_true c3, Bool.true_and]
        cases e : nxN F.ts R.iv q F.ts[k].2.1 with
        | none => rw [if_pos oC_nn]; rfl
        | some p => rw [if_neg (oC_sne (nxN_ok hF.trs hq e))]; rfl
      · rw [if_neg (fun h => c3 (hiff.1 h)), decide_eq_false c3, Bool.false_and], fun e => absurd e (by decide)⟩)
  refine ⟨h1, ?_, _, r2.1⟩
  unfold f_X1_canBeTaken gx_bx gx_b2 f_X25_init f_X23_init hx_pr hx_pi
  simp only [(hx_ob.mk hx).is (show 9 ∈ [9] by decide), Option.bind_some, trn, e2, e4, e6, e7, e8, e8', e9, e10, r1, r2.2.1]
  cases e : bfG (bfA (nxN F.ts R.iv) F.en.length R.cf) (canP F R k) with
  | none => rw [if_pos (by rfl)]; rfl
  | some y => rw [Option.map_some, if_neg (oC_sne (r2.2.2 y e).1)]; rfl
theorem c_stepsToDeadlock {D : gx_D} {h : HX} {x de fi qu : Nat} {fs : List Value} {F : DF} {R : RN} {fnd dl : Int32} (H : cs_mx D h x de fi qu fs F R) (e12 : fs[12]? = some (.int fnd)) (e13 : fs[13]? = some (.int dl)) :
    ∃ h1, f_X1_stepsToDeadlock D h x = some (oI ((bfG (bfA (nxN F.ts R.iv) F.en.length R.cf) (stuckN F R)).map (·.2.1)), h1) ∧ ∃ fnd', cs_post h h1 x de fi qu fs fnd' dl 2 7 := by
  obtain ⟨hx, hl, _, _, _, ⟨l1, l2, l3, l4, d1, d2, d3⟩, hF, hap, hne, hcf⟩ := id H
  obtain ⟨n1, n2, n3⟩ := H.ne
  obtain ⟨h2, h4, e2, e4, a1, a2, a3, a4, a5⟩ := c_new H
  obtain ⟨h6, e6, c6⟩ := hx_new_e (h := h4) (n := 2) (ci := 30) (fs := gx_df30)
  obtain ⟨h7, e7, c7⟩ := hx_pv_e (cis := [30]) (k := 1) (v := va_rf (some x)) c6.2.2.1 (by decide) (by decide)
  obtain ⟨h9, e9, c9⟩ := hx_pv_e (cis := [27, 28, 30]) (k := 0) (v := va_rf (some x)) c7.2.2.1 (by decide) (by simp [gx_df30])
  have x9 : h9.2.2 x = some (true, .inr (9, fs)) := by rw [c9.2.2.2 x (by omega), c7.2.2.2 x (by omega), c6.2.2.2 x (by omega), a5 x (by omega) n1, hx]
  obtain ⟨h10, e10, c10⟩ := hx_pv_e (cis := [9]) (k := 12) (v := .int (-1)) x9 (by decide) (by omega)
  obtain ⟨m, h1, r1, r2⟩ := c_run (n := 2) (P := stuckN F R) (h8 := h10) H e12 e13 a1 a2 a3 a4 a5 (by rw [c10.1, c9.1, c7.1, c6.1]) (by rw [c10.2.1, c9.2.1, c7.2.1, c6.2.1]) (by decide) (by rw [c10.2.2.2 h4.1 (by omega), c9.2.2.1]) (by rw [c10.2.2.1, cs_x_found (fnd := fnd) e13]) (fun z z1 z2 => by rw [c10.2.2.2 z z2, c9.2.2.2 z z1, c7.2.2.2 z z1, c6.2.2.2 z z1]) (Or.inr (Or.inr rfl)) rfl (fun h' S M b fnd dl q O V' o hq => ⟨fun e => absurd e (by decide), fun e => absurd e (by decide), fun _ => by
      have W := V'.at O
      have c1 := f_isDeadlock hap hne W hF.trs hq
      unfold f_X27_isSought
      rw [o.is (by decide), Option.bind_some, o.gr (show 30 ∈ [30] by decide) (k := 1) (r := some x) rfl, Option.bind_some, Option.bind_some, c1]
      rfl⟩)
  refine ⟨h1, ?_, _, r2.1⟩
  unfold f_X1_stepsToDeadlock gx_b2 f_X27_init f_X23_init hx_pr hx_pi
  simp only [(hx_ob.mk hx).is (show 9 ∈ [9] by decide), Option.bind_some, e2, e4, e6, e7, e9, e10, r1, r2.2.1]
  cases e : bfG (bfA (nxN F.ts R.iv) F.en.length R.cf) (stuckN F R) with
  | none => rw [if_pos (by rfl)]; rfl
  | some y =>
    obtain ⟨y1, y2, y3, y4, y5⟩ := r2.2.2 y e
    rw [Option.map_some, if_neg (oC_sne y1), y2, Option.bind_some, Option.bind_some]
    show ((hx_ai h1 de 0 (nI (cf_c y.1))).bind _) = _
    rw [y4]
    rfl
/-- the number of deadlocks -/
def dlN (F : DF) (R : RN) (L : List EN) : Nat := (L.filter fun y => stuckN F R y.1).length
theorem c_deadlockCount {D : gx_D} {h : HX} {x de fi qu : Nat} {fs : List Value} {F : DF} {R : RN} {fnd dl : Int32} (H : cs_mx D h x de fi qu fs F R) (e12 : fs[12]? = some (.int fnd)) (e13 : fs[13]? = some (.int dl)) :
    ∃ h1, f_X1_deadlockCount D h x = some (nI (dlN F R (bfA (nxN F.ts R.iv) F.en.length R.cf)), h1) ∧ ∃ dl', cs_post h h1 x de fi qu fs fnd dl' 2 4 := by
  obtain ⟨hx, hl, ⟨f9, f10, f11⟩, fdr, ars, ⟨l1, l2, l3, l4, d1, d2, d3⟩, hF, hap, hne, hcf⟩ := id H
  obtain ⟨n1, n2, n3⟩ := H.ne
  have hE : F.en.length ≤ 8 := hF.2.1.2
  have hnx := nxN_nxok (R := R) hF.trs
  obtain ⟨hA, eA, cA⟩ := hx_pv_e (cis := [9]) (k := 13) (v := .int 0) hx (by decide) (by omega)
  have exx : fs.set 13 (.int 0) = cs_x fs fnd 0 := by
    unfold cs_x
    congr 1
    apply List.ext_getElem?
    intro k
    by_cases c : k = 12
    · subst c
      rw [List.getElem?_set_self (by omega), e12]
    · rw [List.getElem?_set_ne (fun e => c e.symm)]
  have PA : cs_post h hA x de fi qu fs fnd 0 0 0 := ⟨⟨by rw [cA.1]; omega, by rw [cA.1]; omega, by rw [cA.2.1]; omega, by rw [cA.2.1]; omega, fun w z z1 => by rw [cA.1] at z1; rw [cA.2.2.2 z (by omega), w z z1]⟩, fun z _ z1 _ _ _ => cA.2.2.2 z z1, by rw [cA.2.2.1, exx], by
    obtain ⟨⟨u1, hde⟩, ⟨u2, hfi⟩, ⟨u3, hqu⟩⟩ := ars
    exact ⟨⟨u1, by rw [cA.2.2.2 de (fun e => n1 e.symm), hde]⟩, ⟨u2, by rw [cA.2.2.2 fi (fun e => n2 e.symm), hfi]⟩, ⟨u3, by rw [cA.2.2.2 qu (fun e => n3 e.symm), hqu]⟩⟩⟩
  have HA := PA.mx H
  obtain ⟨hxA, hlA, _, _, _, ⟨l1A, l2A, l3A, l4A, _, _, _⟩, _⟩ := id HA
  have e12A : (cs_x fs fnd 0)[12]? = some (.int fnd) := cs_x_12 hl
  have e13A : (cs_x fs fnd 0)[13]? = some (.int 0) := cs_x_13 hl
  obtain ⟨h2, h4, e2, e4, a1, a2, a3, a4, a5⟩ := c_new HA
  obtain ⟨h6, e6, c6⟩ := hx_new_e (h := h4) (n := 1) (ci := 29) (fs := gx_df29)
  obtain ⟨h8, e8, c8⟩ := hx_pv_e (cis := [29]) (k := 0) (v := va_rf (some x)) c6.2.2.1 (by decide) (by decide)
  have old : ∀ z, z ≠ h4.1 → h8.2.2 z = h4.2.2 z := fun z hz => by rw [c8.2.2.2 z hz, c6.2.2.2 z hz]
  have hz : ∀ z, z < hA.1 → z ≠ x → z ≠ de → h8.2.2 z = hA.2.2 z := fun z z0 z1 z2 => by rw [old z (by omega), a5 z (by omega) z2]
  obtain ⟨f, a4a, a4b⟩ := a4
  obtain ⟨V, O⟩ := c_begin (h4 := h8) (fnd := fnd) (dl := 0) HA (by rw [c8.1, c6.1, a1]; omega) (by rw [old x (by omega), a5 x (by omega) n1, hxA, cs_x_self e12A e13A]) (by rw [old _ (by omega), a3]) ⟨f, by rw [old de (by omega), a4a], a4b⟩ hz
  have hv : ∀ {h' S M b fnd dl}, cs_ok h8 h' x hA.1 de fi qu (cs_x fs fnd 0) S M b fnd dl → True := fun _ => trivial
  have hv2 : ∀ h' S M b fnd' dl, cs_ok h8 h' x hA.1 de fi qu (cs_x fs fnd 0) S M b fnd' dl → hx_ob h' h4.1 29 (gx_df29.set 0 (va_rf (some x))) := fun h' S M b fnd' dl O' => hx_ob.mk (b := true) (by rw [O'.1.2.2 h4.1 (by omega) (by omega) (by omega) (by omega) (by omega)]; exact c8.2.2.1)
  obtain ⟨n, h1, r1, r2, r3, r4, r5⟩ := c_inBreadth (v := h4.1) (dn := fun _ => false) (uf := fun _ y => y) (ud := fun q y => if stuckN F R q = true then y + 1 else y) V hcf O rfl (fun k16 h' S M b fnd' dl O' => by
      have o := hv2 _ _ _ _ _ _ O'
      rw [hx_isb_ob o, if_pos (by decide)]
      unfold f_X37_isDone
      rw [o.is (by decide)]
      rfl) (fun k16 h' S M b fnd' dl q O' hq => by
      have o := hv2 _ _ _ _ _ _ O'
      have c1 := f_isDeadlock hap hne (V.at O') hF.trs hq
      rw [hx_isb_ob o, hx_isb_ob o, hx_isb_ob o, if_neg (by decide), if_neg (by decide), if_pos (by decide)]
      unfold f_X26_visit
      rw [o.is (by decide), Option.bind_some, o.gr (show 29 ∈ [29] by decide) (k := 0) (r := some x) rfl, Option.bind_some, Option.bind_some, c1, Option.bind_some]
      cases es : stuckN F R q with
      | false => exact ⟨h', by simp only [es, Bool.false_eq_true, if_false]; exact O', rfl⟩
      | true =>
        obtain ⟨h9, e9, O9⟩ := cs_dead (dl' := dl + 1) V.1 O'
        refine ⟨h9, by simp only [es, if_true]; exact O9, ?_⟩
        rw [if_pos rfl, Option.bind_some, Option.bind_some, (hx_ob.mk O'.2.1).gi (show 9 ∈ [9] by decide) (cs_x_13 V.1.1), Option.bind_some, e9]
        rfl)
  have fo : ∀ m, m ≤ (bfA (nxN F.ts R.iv) F.en.length R.cf).length → foN (fun _ y => y) (fun q y => if stuckN F R q = true then y + 1 else y) (bfA (nxN F.ts R.iv) F.en.length R.cf) fnd 0 m = (fnd, nI (dlN F R ((bfA (nxN F.ts R.iv) F.en.length R.cf).take m))) := fun m => by
    induction m with
    | zero => exact fun _ => rfl
    | succ m ih =>
      intro hm
      rw [foN_s, ih (by omega), List.getElem?_eq_getElem (show m < _ by omega), List.take_succ_eq_append_getElem (by omega)]
      unfold dlN
      rw [List.filter_append, List.length_append]
      simp only
      cases e : stuckN F R (bfA (nxN F.ts R.iv) F.en.length R.cf)[m].1 with
      | true => simp [e, nI_1]
      | false => simp [e]
  have pre := bfA_pre (b := n) hE hnx hcf
  rw [fo n (Nat.le_trans r4 pre.length_le)] at r2
  have r5 : (bfs (nxN F.ts R.iv) F.en.length R.cf n).length ≤ n := by
    rcases r5 with c | c
    · exact c
    · cases c
  have en : (bfA (nxN F.ts R.iv) F.en.length R.cf).length = n := by rw [bfA_end hE hnx hcf r5]; omega
  rw [← en, List.take_length] at r2
  refine ⟨h1, ?_, _, (PA.tr (c_end HA (kc := 2) (ks := 4) ⟨by rw [c8.1, c6.1, a1]; omega, by rw [c8.1, c6.1, a1]; omega, by rw [c8.2.1, c6.2.1, a2]; omega, by rw [c8.2.1, c6.2.1, a2]; omega⟩ hz ⟨by rw [c8.1, c6.1, a1]; omega, fun z z1 => by rw [c8.1, c6.1] at z1; rw [old z (by omega), a5 z (by omega) (by omega)]⟩ r2))⟩
  unfold f_X1_deadlockCount f_X26_init hx_pr hx_pi
  simp only [(hx_ob.mk hx).is (show 9 ∈ [9] by decide), Option.bind_some, gx_b2, eA, e2, e4, e6, e8, r1, (hx_ob.mk r2.2.1).gi (show 9 ∈ [9] by decide) (cs_x_13 V.1.1)]
