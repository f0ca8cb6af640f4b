/-! the component's getters -/
set_option maxRecDepth 100000
set_option linter.unusedSimpArgs false
theorem vm_is {D : gx_D} {h : HX} {x : Nat} {F : DF} {R : RN} (H : hx_vm D h x F R) : hx_is h x [9] = some () := by
  obtain ⟨d, r, fs, h1, _⟩ := H
  exact h1.is (by decide)
/-- the run and the definition that the machine points to, as reads -/
theorem vm_rd {D : gx_D} {h : HX} {x : Nat} {F : DF} {R : RN} (H : hx_vm D h x F R) : ∃ d r sl el vl tl il a1 a2 a3 a4 a5, hx_gr h x [9] 5 = some (some d) ∧ hx_gr h x [9] 6 = some (some r) ∧ hx_is h d [10] = some () ∧ hx_gr h d [10] 0 = some (some sl) ∧ hx_gr h d [10] 1 = some (some el) ∧ hx_gr h d [10] 2 = some (some vl) ∧ hx_gr h d [10] 3 = some (some tl) ∧ hx_gi h d [10] 4 = some (nI (cf_c F.ini)) ∧ hx_lst hx_str h sl 10 F.sn ∧ hx_lst hx_str h el 8 F.en ∧ hx_lst hx_str h vl 3 F.vn ∧ hx_lst (hx_tr D) h tl 24 F.ts ∧
    hx_is h r [11] = some () ∧ hx_gr h r [11] 0 = some (some il) ∧ hx_gr h r [11] 1 = some (some a1) ∧ hx_gr h r [11] 2 = some (some a2) ∧ hx_gr h r [11] 3 = some (some a3) ∧ hx_gr h r [11] 4 = some (some a4) ∧ hx_gr h r [11] 5 = some (some a5) ∧ hx_gi h r [11] 6 = some (nI (cf_c R.cf)) ∧ hx_gi h r [11] 7 = some R.ac ∧ hx_gi h r [11] 8 = some (nI R.tr.length) ∧ hx_lst (hx_iv D) h il 12 R.iv ∧ hx_ar5 h a1 24 R.tk ∧ hx_ar5 h a2 10 R.vi ∧ hx_ar5 h a3 5 R.rj ∧ (∀ k, k < R.tr.length → k < 20 → hx_ai h a4 0 (nI k) = some (tr_e R.tr k) ∧ hx_ai h a5 0 (nI k) = some (tr_t R.tr k)) := by
  obtain ⟨d, r, fs, h1, h2, h3, ⟨sl, el, vl, tl, h4, h5, h6, h7, h8⟩, ⟨il, a1, a2, a3, a4, a5, ge, gt, h9, h10, h11, h12, h13, h14, h15, h16⟩⟩ := H
  refine ⟨d, r, sl, el, vl, tl, il, a1, a2, a3, a4, a5, h1.gr (by decide) h2, h1.gr (by decide) h3, h4.is (by decide), h4.gr (by decide) rfl, h4.gr (by decide) rfl, h4.gr (by decide) rfl, h4.gr (by decide) rfl, h4.gi (by decide) rfl, h5, h6, h7, h8, h9.is (by decide), h9.gr (by decide) rfl, h9.gr (by decide) rfl, h9.gr (by decide) rfl, h9.gr (by decide) rfl, h9.gr (by decide) rfl, h9.gr (by decide) rfl, h9.gi (by decide) rfl, h9.gi (by decide) rfl, h9.gi (by decide) rfl, h10, h11, h12, h13, fun k hk h20 => ?_⟩
  rw [h14.ai h20 (by decide), h15.ai h20 (by decide), (h16 k hk).1, (h16 k hk).2]
  exact ⟨rfl, rfl⟩
theorem g_counts {D : gx_D} {h : HX} {x : Nat} {F : DF} {R : RN} (H : hx_vm D h x F R) (hq : cf_ok R.cf) : f_X1_stateCount D h x = some (nI F.sn.length) ∧ f_X1_eventCount D h x = some (nI F.en.length) ∧ f_X1_variableCount D h x = some (nI F.vn.length) ∧ f_X1_transitionCount D h x = some (nI F.ts.length) ∧ f_X1_invariantCount D h x = some (nI R.iv.length) ∧ f_X1_currentState D h x = some (nI R.cf.1) ∧ f_X1_acceptedCount D h x = some R.ac ∧ f_X1_traceLength D h x = some (nI R.tr.length) := by
  have hi := vm_is H
  obtain ⟨d, r, sl, el, vl, tl, il, a1, a2, a3, a4, a5, x5, x6, d0, d1, d2, d3, d4, d5, l1, l2, l3, l4, r0, r1, r2, r3, r4, r5, r6, r7, r8, r9, l5, l6, l7, l8, l9⟩ := vm_rd H
  unfold f_X1_stateCount f_X1_eventCount f_X1_variableCount f_X1_transitionCount f_X1_invariantCount f_X1_currentState f_X1_acceptedCount f_X1_traceLength f_X4_state
  simp only [hi, x5, x6, d1, d2, d3, d4, r0, r1, r7, r8, r9, Option.bind_some, l1.len, l2.len, l3.len, l4.len, l5.len, c_state hq]
  exact ⟨trivial, trivial, trivial, trivial, trivial, trivial, trivial, trivial⟩
/-- a call with an index: out of range, or the answer r on the same heap -/
def ansI {α : Type} (c : Option ((α ⊕ (String × Nat)) × HX)) (h : HX) (E : String) (ok : Bool) (r : α) : Prop := (ok = false → c = some (.inr (E, h.1), hx_skip h 1 6)) ∧ (ok = true → c = some (.inl r, h))
theorem g_transition {D : gx_D} {h : HX} {x : Nat} {F : DF} {R : RN} (H : hx_vm D h x F R) (i : Int32) : (ixB i F.ts.length = false → f_X1_transition D h x i = some (.inr (cIOOBE, h.1), hx_skip h 1 6)) ∧ ∀ k (hk : k < F.ts.length), i = nI k → ∃ tb, f_X1_transition D h x i = some (.inl (some tb), h) ∧ hx_tr D h tb F.ts[k] := by
  have hi := vm_is H
  obtain ⟨d, r, sl, el, vl, tl, il, a1, a2, a3, a4, a5, x5, x6, d0, d1, d2, d3, d4, d5, l1, l2, l3, l4, _⟩ := vm_rd H
  have cap := l4.cap
  refine ⟨fun c => ?_, fun k hk e => ?_⟩
  · unfold f_X1_transition
    rw [hi, Option.bind_some, x5, Option.bind_some, Option.bind_some, d4, Option.bind_some, Option.bind_some, l4.len, Option.bind_some, f_checkIndex, c, if_neg Bool.false_ne_true, pl_bx_r]
  · subst e
    obtain ⟨b, b1, b2⟩ := l4.at (D := D) hk
    obtain ⟨_, g, c, q1, _⟩ := id b2
    refine ⟨b, ?_, b2⟩
    unfold f_X1_transition
    rw [hi, Option.bind_some, x5, Option.bind_some, Option.bind_some, d4, Option.bind_some, Option.bind_some, l4.len, Option.bind_some, f_checkIndex, if_pos (ixB_n (by omega) hk), pl_bx_l, x5, Option.bind_some, Option.bind_some, d4, Option.bind_some, Option.bind_some, b1, Option.bind_some, pl_cast q1 (by decide), Option.bind_some]
theorem g_invariant {D : gx_D} {h : HX} {x : Nat} {F : DF} {R : RN} (H : hx_vm D h x F R) (i : Int32) : (ixB i R.iv.length = false → f_X1_invariant D h x i = some (.inr (cIOOBE, h.1), hx_skip h 1 6)) ∧ ∀ k (hk : k < R.iv.length), i = nI k → ∃ tb, f_X1_invariant D h x i = some (.inl (some tb), h) ∧ hx_iv D h tb R.iv[k] := by
  have hi := vm_is H
  obtain ⟨d, r, sl, el, vl, tl, il, a1, a2, a3, a4, a5, x5, x6, d0, d1, d2, d3, d4, d5, l1, l2, l3, l4, r0, r1, r2, r3, r4, r5, r6, r7, r8, r9, l5, l6, l7, l8, l9⟩ := vm_rd H
  have cap := l5.cap
  refine ⟨fun c => ?_, fun k hk e => ?_⟩
  · unfold f_X1_invariant
    rw [hi, Option.bind_some, x6, Option.bind_some, Option.bind_some, r1, Option.bind_some, Option.bind_some, l5.len, Option.bind_some, f_checkIndex, c, if_neg Bool.false_ne_true, pl_bx_r]
  · subst e
    obtain ⟨b, b1, b2⟩ := l5.at (D := D) hk
    obtain ⟨_, c, q1, _⟩ := id b2
    refine ⟨b, ?_, b2⟩
    unfold f_X1_invariant
    rw [hi, Option.bind_some, x6, Option.bind_some, Option.bind_some, r1, Option.bind_some, Option.bind_some, l5.len, Option.bind_some, f_checkIndex, if_pos (ixB_n (by omega) hk), pl_bx_l, x6, Option.bind_some, Option.bind_some, r1, Option.bind_some, Option.bind_some, b1, Option.bind_some, pl_cast q1 (by decide), Option.bind_some]
def tsA (F : DF) (i : Int32) : TR := F.ts.getD i.toNatClampNeg (0, 0, 0, none, none)
def ivA (R : RN) (i : Int32) : IV := R.iv.getD i.toNatClampNeg (none, 0, 0, 0)
theorem tsA_n {F : DF} {k : Nat} (hk : k < F.ts.length) (h : F.ts.length ≤ 24) : tsA F (nI k) = F.ts[k] := by
  unfold tsA
  rw [nI_clamp (by omega), List.getD_eq_getElem?_getD, List.getElem?_eq_getElem hk]
  rfl
theorem ivA_n {R : RN} {k : Nat} (hk : k < R.iv.length) (h : R.iv.length ≤ 12) : ivA R (nI k) = R.iv[k] := by
  unfold ivA
  rw [nI_clamp (by omega), List.getD_eq_getElem?_getD, List.getElem?_eq_getElem hk]
  rfl
theorem g_trans {D : gx_D} {h : HX} {x : Nat} {F : DF} {R : RN} (hap : gx_apt D) (H : hx_vm D h x F R) (hq : cf_ok R.cf) (i : Int32) : ansI (f_X1_sourceOf D h x i) h cIOOBE (ixB i F.ts.length) (nI (tsA F i).1) ∧ ansI (f_X1_eventOf D h x i) h cIOOBE (ixB i F.ts.length) (nI (tsA F i).2.1) ∧ ansI (f_X1_targetOf D h x i) h cIOOBE (ixB i F.ts.length) (nI (tsA F i).2.2.1) ∧ ansI (f_X1_hasGuard D h x i) h cIOOBE (ixB i F.ts.length) (tsA F i).2.2.2.1.isSome ∧ ansI (f_X1_guardHolds D h x i) h cIOOBE (ixB i F.ts.length) (trOpen (tsA F i) R.cf) ∧ ansI (f_X1_timesTaken D h x i) h cIOOBE (ixB i F.ts.length) (R.tk i.toNatClampNeg) := by
  have hi := vm_is H
  obtain ⟨g1, g2⟩ := g_transition H i
  obtain ⟨d, r, sl, el, vl, tl, il, a1, a2, a3, a4, a5, x5, x6, d0, d1, d2, d3, d4, d5, l1, l2, l3, l4, r0, r1, r2, r3, r4, r5, r6, r7, r8, r9, l5, l6, l7, l8, l9⟩ := vm_rd H
  have cap := l4.cap
  have no : ixB i F.ts.length = false → f_X1_sourceOf D h x i = some (.inr (cIOOBE, h.1), hx_skip h 1 6) ∧ f_X1_eventOf D h x i = some (.inr (cIOOBE, h.1), hx_skip h 1 6) ∧ f_X1_targetOf D h x i = some (.inr (cIOOBE, h.1), hx_skip h 1 6) ∧ f_X1_hasGuard D h x i = some (.inr (cIOOBE, h.1), hx_skip h 1 6) ∧ f_X1_guardHolds D h x i = some (.inr (cIOOBE, h.1), hx_skip h 1 6) ∧ f_X1_timesTaken D h x i = some (.inr (cIOOBE, h.1), hx_skip h 1 6) := fun c => by
    unfold f_X1_sourceOf f_X1_eventOf f_X1_targetOf f_X1_hasGuard f_X1_guardHolds f_X1_timesTaken
    rw [g1 c, hi]
    exact ⟨rfl, rfl, rfl, rfl, rfl, rfl⟩
  have yes : ixB i F.ts.length = true → f_X1_sourceOf D h x i = some (.inl (nI (tsA F i).1), h) ∧ f_X1_eventOf D h x i = some (.inl (nI (tsA F i).2.1), h) ∧ f_X1_targetOf D h x i = some (.inl (nI (tsA F i).2.2.1), h) ∧ f_X1_hasGuard D h x i = some (.inl (tsA F i).2.2.2.1.isSome, h) ∧ f_X1_guardHolds D h x i = some (.inl (trOpen (tsA F i) R.cf), h) ∧ f_X1_timesTaken D h x i = some (.inl (R.tk i.toNatClampNeg), h) := fun c => by
    obtain ⟨k, hk, rfl⟩ := ixB_t (by omega) c
    obtain ⟨tb, t1, t2⟩ := g2 k hk rfl
    have op := f_isOpen hap t2 hq
    obtain ⟨o, g, c, q1, q2, q3⟩ := id t2
    rw [tsA_n hk cap, nI_clamp (by omega)]
    unfold f_X1_sourceOf f_X1_eventOf f_X1_targetOf f_X1_hasGuard f_X1_guardHolds f_X1_timesTaken f_X4_valuation
    rw [t1, hi]
    simp only [Option.bind_some, pl_bx_l, q1.gi (show 13 ∈ [13] by decide) (k := 0) rfl, q1.gi (show 13 ∈ [13] by decide) (k := 1) rfl, q1.gi (show 13 ∈ [13] by decide) (k := 2) rfl, q1.gr (show 13 ∈ [13] by decide) (k := 3) rfl, x6, r0, r7, c_rest hq, op, r2, l6.ai (show k < 24 by omega) (by decide)]
    refine ⟨trivial, trivial, trivial, ?_, trivial, trivial⟩
    revert q2
    cases F.ts[k].2.2.2.1 with
    | none => intro q2; rw [show g = none from q2]; rfl
    | some p => intro q2; obtain ⟨y, rfl, _⟩ := q2; rfl
  exact ⟨⟨fun c => (no c).1, fun c => (yes c).1⟩, ⟨fun c => (no c).2.1, fun c => (yes c).2.1⟩, ⟨fun c => (no c).2.2.1, fun c => (yes c).2.2.1⟩, ⟨fun c => (no c).2.2.2.1, fun c => (yes c).2.2.2.1⟩, ⟨fun c => (no c).2.2.2.2.1, fun c => (yes c).2.2.2.2.1⟩, ⟨fun c => (no c).2.2.2.2.2, fun c => (yes c).2.2.2.2.2⟩⟩
theorem g_inv {D : gx_D} {h : HX} {x : Nat} {F : DF} {R : RN} (hap : gx_apt D) (H : hx_vm D h x F R) (hq : cf_ok R.cf) (i : Int32) : ansI (f_X1_stateOfInvariant D h x i) h cIOOBE (ixB i R.iv.length) (oI (ivA R i).1) ∧ ansI (f_X1_comparisonHolds D h x i) h cIOOBE (ixB i R.iv.length) (cpH (ivA R i).2 R.cf) := by
  have hi := vm_is H
  obtain ⟨g1, g2⟩ := g_invariant H i
  obtain ⟨d, r, sl, el, vl, tl, il, a1, a2, a3, a4, a5, x5, x6, d0, d1, d2, d3, d4, d5, l1, l2, l3, l4, r0, r1, r2, r3, r4, r5, r6, r7, r8, r9, l5, l6, l7, l8, l9⟩ := vm_rd H
  have cap := l5.cap
  have lt := cf_c_lt hq
  refine ⟨⟨fun c => ?_, fun c => ?_⟩, ⟨fun c => ?_, fun c => ?_⟩⟩
  · unfold f_X1_stateOfInvariant
    rw [g1 c, hi]
    rfl
  · obtain ⟨k, hk, rfl⟩ := ixB_t (by omega) c
    obtain ⟨tb, t1, t2⟩ := g2 k hk rfl
    obtain ⟨o, c, q1, q2⟩ := id t2
    rw [ivA_n hk cap]
    unfold f_X1_stateOfInvariant
    rw [t1, hi, Option.bind_some, pl_bx_l, Option.bind_some, q1.gi (show 15 ∈ [15] by decide) (k := 0) rfl, Option.bind_some]
  · unfold f_X1_comparisonHolds
    rw [g1 c, hi]
    rfl
  · obtain ⟨k, hk, rfl⟩ := ixB_t (by omega) c
    obtain ⟨tb, t1, t2⟩ := g2 k hk rfl
    obtain ⟨o, c, q1, q2⟩ := id t2
    have hh : f_X7_holds D h c (nI (cf_c R.cf % 1000)) = some (cpH R.iv[k].2 R.cf) := cpH_f hap q2 o.2 (by omega) (cf_c_val hq o.2.1)
    rw [ivA_n hk cap]
    unfold f_X1_comparisonHolds f_X4_valuation
    rw [t1, hi, Option.bind_some, pl_bx_l, Option.bind_some, q1.gr (show 15 ∈ [15] by decide) (k := 1) (r := some c) rfl, Option.bind_some, x6, Option.bind_some, Option.bind_some, r0, Option.bind_some, r7, Option.bind_some, Option.bind_some, c_rest hq, Option.bind_some, hh, Option.bind_some]
theorem g_vars {D : gx_D} {h : HX} {x : Nat} {F : DF} {R : RN} (H : hx_vm D h x F R) (hq : cf_ok R.cf) (hini : cf_ok F.ini) (h0 : F.ini.1 = 0) (i : Int32) : ansI (f_X1_valueOf D h x i) h cIOOBE (ixB i F.vn.length) (nI (cf_val R.cf i.toNatClampNeg)) ∧ ansI (f_X1_initialValueOf D h x i) h cIOOBE (ixB i F.vn.length) (nI (cf_val F.ini i.toNatClampNeg)) ∧ ansI (f_X1_visitsOf D h x i) h cIOOBE (ixB i F.sn.length) (R.vi i.toNatClampNeg) := by
  have hi := vm_is H
  obtain ⟨k1, k2, k3⟩ := f_checkX H i
  obtain ⟨d, r, sl, el, vl, tl, il, a1, a2, a3, a4, a5, x5, x6, d0, d1, d2, d3, d4, d5, l1, l2, l3, l4, r0, r1, r2, r3, r4, r5, r6, r7, r8, r9, l5, l6, l7, l8, l9⟩ := vm_rd H
  have c3 := l3.cap
  have c1 := l1.cap
  have lt := cf_c_lt hq
  have lt2 := cf_c_lt hini
  refine ⟨⟨fun c => ?_, fun c => ?_⟩, ⟨fun c => ?_, fun c => ?_⟩, ⟨fun c => ?_, fun c => ?_⟩⟩
  · unfold f_X1_valueOf
    rw [hi, Option.bind_some, k3, c, if_neg Bool.false_ne_true, pl_bx_r]
  · obtain ⟨k, hk, rfl⟩ := ixB_t (by omega) c
    unfold f_X1_valueOf f_X4_valuation
    rw [hi, Option.bind_some, k3, c, if_pos rfl, pl_bx_l, x6, Option.bind_some, Option.bind_some, r0, Option.bind_some, r7, Option.bind_some, Option.bind_some, c_rest hq, f_val, Option.bind_some, cval_nI (by omega) (by omega), cf_c_val hq (by omega), nI_clamp (by omega)]
  · unfold f_X1_initialValueOf
    rw [hi, Option.bind_some, k3, c, if_neg Bool.false_ne_true, pl_bx_r]
  · obtain ⟨k, hk, rfl⟩ := ixB_t (by omega) c
    have e : cf_c F.ini % 1000 = cf_c F.ini := by
      obtain ⟨y1, y2, y3, y4⟩ := hini
      unfold cf_c
      rw [h0]
      omega
    have := cf_c_val (v := k) hini (by omega)
    rw [e] at this
    unfold f_X1_initialValueOf
    rw [hi, Option.bind_some, k3, c, if_pos rfl, pl_bx_l, x5, Option.bind_some, Option.bind_some, d5, Option.bind_some, f_val, Option.bind_some, cval_nI (by omega) (by omega), this, nI_clamp (by omega)]
  · unfold f_X1_visitsOf
    rw [hi, Option.bind_some, k2, c, if_neg Bool.false_ne_true, pl_bx_r]
  · obtain ⟨k, hk, rfl⟩ := ixB_t (by omega) c
    unfold f_X1_visitsOf
    rw [hi, Option.bind_some, k2, c, if_pos rfl, pl_bx_l, x6, Option.bind_some, Option.bind_some, r3, Option.bind_some, Option.bind_some, l7.ai (show k < 10 by omega) (by decide), Option.bind_some, nI_clamp (by omega)]
theorem g_events {D : gx_D} {h : HX} {x : Nat} {F : DF} {R : RN} (hap : gx_apt D) (hne : gx_apt2 D) (H : hx_vm D h x F R) (hq : cf_ok R.cf) (hF : tr_oks F.ts) (i : Int32) : ansI (f_X1_verdictOf D h x i) h cIOOBE (ixB i F.en.length) (nI (vdN F.ts R.iv R.cf i.toNatClampNeg)) ∧ ansI (f_X1_chosenTransition D h x i) h cIOOBE (ixB i F.en.length) (oI (chN F.ts R.cf i.toNatClampNeg)) ∧ ansI (f_X1_brokenInvariant D h x i) h cIOOBE (ixB i F.en.length) (if vdN F.ts R.iv R.cf i.toNatClampNeg = 4 then oI (brk R.iv (toN F.ts R.cf i.toNatClampNeg)) else -1) := by
  have hi := vm_is H
  obtain ⟨k1, k2, k3⟩ := f_checkX H i
  have H' := H
  obtain ⟨d', r', fs', w1, w2, w3, ⟨s1, s2, s3, s4, w4, w5, w6, w7, w8⟩, ⟨i1, b1, b2, b3, b4, b5, ge, gt, w9, w10, _⟩⟩ := id H
  obtain ⟨d, r, sl, el, vl, tl, il, a1, a2, a3, a4, a5, x5, x6, d0, d1, d2, d3, d4, d5, l1, l2, l3, l4, r0, r1, r2, r3, r4, r5, r6, r7, r8, r9, l5, l6, l7, l8, l9⟩ := vm_rd H
  have c2 := l2.cap
  have c4 := l4.cap
  have c5 := l5.cap
  have lt := cf_c_lt hq
  have ed : d' = d := by have := w1.gr (show 9 ∈ [9] by decide) w2; rw [x5] at this; exact (Option.some.inj (Option.some.inj this)).symm
  have er : r' = r := by have := w1.gr (show 9 ∈ [9] by decide) w3; rw [x6] at this; exact (Option.some.inj (Option.some.inj this)).symm
  subst ed er
  refine ⟨⟨fun c => ?_, fun c => ?_⟩, ⟨fun c => ?_, fun c => ?_⟩, ⟨fun c => ?_, fun c => ?_⟩⟩
  · unfold f_X1_verdictOf
    rw [hi, Option.bind_some, k1, c, if_neg Bool.false_ne_true, pl_bx_r]
  · obtain ⟨k, hk, rfl⟩ := ixB_t (by omega) c
    unfold f_X1_verdictOf
    rw [hi, Option.bind_some, k1, c, if_pos rfl, pl_bx_l, x6, Option.bind_some, Option.bind_some, r7, Option.bind_some, (f_verdict (e := k) hap hne H' hF hq (by omega)).1, Option.bind_some, nI_clamp (by omega)]
  · unfold f_X1_chosenTransition
    rw [hi, Option.bind_some, k1, c, if_neg Bool.false_ne_true, pl_bx_r]
  · obtain ⟨k, hk, rfl⟩ := ixB_t (by omega) c
    unfold f_X1_chosenTransition
    rw [hi, Option.bind_some, k1, c, if_pos rfl, pl_bx_l, x5, Option.bind_some, x6, Option.bind_some, Option.bind_some, r7, Option.bind_some, Option.bind_some, f_choose (e := k) hap w4 rfl w8 hq (by omega), Option.bind_some, nI_clamp (by omega)]
  · unfold f_X1_brokenInvariant
    rw [hi, Option.bind_some, k1, c, if_neg Bool.false_ne_true, pl_bx_r]
  · obtain ⟨k, hk, rfl⟩ := ixB_t (by omega) c
    have V := (f_verdict (e := k) hap hne H' hF hq (by omega)).1
    have vl5 := vdN_lt (ts := F.ts) (is := R.iv) (q := R.cf) (e := k)
    rw [nI_clamp (by omega)]
    unfold f_X1_brokenInvariant
    rw [hi, Option.bind_some, k1, c, if_pos rfl, pl_bx_l, x6, Option.bind_some, Option.bind_some, r7, Option.bind_some, V, Option.bind_some]
    by_cases e4 : vdN F.ts R.iv R.cf k = 4
    · rw [if_pos e4, if_pos (show nI (vdN F.ts R.iv R.cf k) = 4 by rw [e4]; rfl)]
      have key : ∃ j t p, chN F.ts R.cf k = some j ∧ F.ts[j]? = some t ∧ trNext t R.cf = some p ∧ toN F.ts R.cf k = p := by
        unfold vdN at e4
        unfold toN
        revert e4
        cases e1 : chN F.ts R.cf k with
        | none => intro e4; simp only at e4; split at e4 <;> cases e4
        | some j =>
          simp only
          cases e2 : F.ts[j]? with
          | none => intro e4; cases e4
          | some t =>
            simp only
            cases e3 : trNext t R.cf with
            | none => intro e4; cases e4
            | some p => intro _; exact ⟨j, t, p, rfl, e2, e3, by simp only [e2, e3]⟩
      obtain ⟨j, t, p, y1, y2, y3, y4⟩ := key
      have hj := chN_lt y1
      obtain ⟨tb, t1, t2⟩ := w8.at (D := D) hj
      obtain ⟨o, g, c, q1, q2, q3⟩ := id t2
      have et : F.ts[j] = t := by rw [List.getElem?_eq_getElem hj] at y2; exact Option.some.inj y2
      rw [et] at t2
      have nx := f_next hne t2 hq
      rw [y3] at nx
      have hp : cf_ok p := trNext_ok (hF _ (List.mem_of_getElem? y2)) hq y3
      have ch := f_choose (e := k) hap w4 rfl w8 hq (by omega)
      rw [y1] at ch
      have g4 := w4.gr (show 10 ∈ [10] by decide) (k := 3) (r := some s4) rfl
      unfold f_X4_valuation
      simp only [x5, x6, r0, r7, Option.bind_some, ch, g4, show oI (some j) = nI j from rfl, t1, pl_cast q1 (show 13 ∈ [13] by decide), c_rest hq, nx, show oC (some p) = nI (cf_c p) from rfl, f_broken hap w9 rfl w10 hp, y4]
    · rw [if_neg e4, if_neg (show ¬ nI (vdN F.ts R.iv R.cf k) = 4 from nI_ne (b := 4) (by omega) (by decide) e4)]
