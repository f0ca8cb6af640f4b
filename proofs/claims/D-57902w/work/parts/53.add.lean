/-! addAlways -/
set_option maxRecDepth 100000
set_option linter.unusedSimpArgs false
def rnAdd (R : RN) (i : IV) : RN := (R.iv ++ [i], R.cf, R.tk, R.vi, R.rj, R.ac, R.tr)
def canAddB (F : DF) (R : RN) (i : IV) : Bool := decide (R.iv.length < 12) && (!ivB i R.cf && !ivB i F.ini)
theorem pl_bx_r {α γ : Type} {E : String} {q : Nat} {h : HX} {K : α → HX → Option γ} {X : String → Nat → HX → Option γ} : gx_bx (some (.inr (E, q), h)) K X = X E q h := rfl
theorem pl_bx_l {α γ : Type} {a : α} {h : HX} {K : α → HX → Option γ} {X : String → Nat → HX → Option γ} : gx_bx (some (.inl a, h)) K X = K a h := rfl
theorem pl_b2_s {α β γ : Type} {a : α} {b : β} {K : α → β → Option γ} : gx_b2 (some (a, b)) K = K a b := rfl
theorem fz1_at {h : HX} {a z : Nat} : (hx_fz1 h a).2.2 z = match h.2.2 z with
  | some (b, e) => some (b && !decide (z = a), e)
  | none => none := rfl
theorem c_addB {D : gx_D} {hb G : HX} {n s b : Nat} {mc : Int32} {R : RN} {i : IV} {fe : Nat → Option Nat} {f1 f2 f3 f4 f5 : Nat → Int32} {tl : List gx_E} (C : rnC D G R fe f1 f2 f3 f4 f5) (hl : R.iv.length < 12) (hi : hx_iv D G b i) (hok : hx_okr (hx_ap n hb (rnB n (mc + 1) R.iv.length fe f1 f2 f3 f4 f5 (nI (cf_c R.cf)) R.ac (nI R.tr.length) ++ tl) s) [11, 13, 15, 2] (some b) = true) :
    f_J2_add D (hx_ap n hb (rnB n mc R.iv.length fe f1 f2 f3 f4 f5 (nI (cf_c R.cf)) R.ac (nI R.tr.length) ++ tl) s) (n + 1) (some b) = some (true, hx_ap n hb (rnB n (mc + 1) (rnAdd R i).iv.length (va_up fe R.iv.length (some b)) f1 f2 f3 f4 f5 (nI (cf_c (rnAdd R i).cf)) (rnAdd R i).ac (nI (rnAdd R i).tr.length) ++ tl) s) ∧ rnC D G (rnAdd R i) (va_up fe R.iv.length (some b)) f1 f2 f3 f4 f5 := by
  obtain ⟨c1, c2, c3, c4, c5, c6⟩ := C
  have el : (rnAdd R i).iv.length = R.iv.length + 1 := by
    show (R.iv ++ [i]).length = _
    rw [List.length_append, List.length_singleton]
  refine ⟨?_, by rw [el]; omega, fun k x hk => ?_, c3, c4, c5, c6⟩
  · have ne2 := nI_ne (show R.iv.length < 2 ^ 31 by omega) (show 12 < 2 ^ 31 by decide) (by omega)
    simp [rnB] at hok
    rw [el]
    simp [f_J2_add, f_J2_add_2, rnB, ap_new, ap_pv, ap_pv0, ap_gv, ap_gv0, ap_is, ap_is0, ap_len, ap_len0, hx_gi_r, hx_gr_r, hx_pr, hx_pi, gx_b2, gx_bx, Nat.add_assoc, va_rf_s, va_rf_n, hx_okr_n, ap_okr, ne2, ap_sr (x := nI R.iv.length) (k := R.iv.length) rfl (by omega), hok, hl, gx_c1, rnAdd]
  · have hk : (R.iv ++ [i])[k]? = some x := hk
    by_cases c : k < R.iv.length
    · rw [List.getElem?_append_left c] at hk
      rw [va_up_ne _ _ (by omega)]
      exact c2 k x hk
    · rw [List.getElem?_append_right (by omega)] at hk
      obtain ⟨y1, y2⟩ := List.getElem?_eq_some_iff.1 hk
      simp only [List.length_singleton] at y1
      have c4 : k = R.iv.length := by omega
      subst c4
      simp only [Nat.sub_self, List.getElem_singleton] at y2
      subst y2
      exact ⟨b, by rw [va_up_self], hi⟩
theorem c_canAdd {D : gx_D} {h : HX} {x b : Nat} {F : DF} {R : RN} {i : IV} (hap : gx_apt D) (H : hx_vm D h x F R) (hi : hx_iv D h b i) (hq : cf_ok R.cf) (hini : cf_ok F.ini) : f_X1_canAdd D h x (some b) = some (canAddB F R i) := by
  obtain ⟨d, r, fs, h1, h2, h3, ⟨sl, el, vl, tl, h4, _⟩, ⟨il, a1, a2, a3, a4, a5, ge, gt, h9, h10, h11⟩⟩ := H
  have cap := h10.cap
  unfold f_X1_canAdd canAddB
  simp only [h1.is (show 9 ∈ [9] by decide), h1.gr (show 9 ∈ [9] by decide) h3, h1.gr (show 9 ∈ [9] by decide) h2, h9.gr (show 11 ∈ [11] by decide) (k := 0) rfl, h9.gi (show 11 ∈ [11] by decide) (k := 6) rfl, h4.gi (show 10 ∈ [10] by decide) (k := 4) rfl, Option.bind_some, h10.len, f_brokenBy hap hi hq, f_brokenBy hap hi hini]
  by_cases c : R.iv.length < 12
  · rw [if_neg (show ¬ (12 : Int32) ≤ nI R.iv.length from nI_ge (a := R.iv.length) (b := 12) c (by decide)), decide_eq_true c]
    cases ivB i R.cf <;> cases ivB i F.ini <;> rfl
  · rw [if_pos (show (12 : Int32) ≤ nI R.iv.length from nI_le (a := 12) (by omega) (by omega)), decide_eq_false c]
    rfl
theorem c_addAlways {D : gx_D} {h : HX} {Y : YT} {A : AT} (H : cI D h Y A) (i z k : Int32) : ∃ r h1 A', f_X1_addAlways D h Y.1 i z k = some (r, h1) ∧ cE D h1 Y A' ∧ bnd h h1 20 200 ∧
    (match ixB i A.1.vn.length with
    | false => (∃ a, r = .inr (cIOOBE, a)) ∧ A' = A
    | true => match ixB z 6 && ixB k 10 with
      | false => (∃ a, r = .inr (cIAE, a)) ∧ A' = A
      | true => ∃ v o c, i = nI v ∧ z = nI o ∧ k = nI c ∧ v < A.1.vn.length ∧ o < 6 ∧ c < 10 ∧ (match canAddB A.1 A.2.1 (none, v, o, c) with
        | false => (∃ a, r = .inr (cISE, a)) ∧ A' = A
        | true => r = .inl (nI A.2.1.iv.length) ∧ A' = (A.1, rnAdd A.2.1 (none, v, o, c), A.2.2.1, hsN A.2.2.2.1 A.2.1, A.2.2.2.2))) := by
  obtain ⟨hA, his, hap, hne⟩ := H.A
  have w := hs_len H
  have chk := (f_checkX H.vm i).2.2
  have skip : bnd h (hx_skip h 1 6) 20 200 := ⟨Nat.le_add_right _ _, by show h.1 + 1 ≤ _; omega, Nat.le_add_right _ _, by show h.2.1 + 6 ≤ _; omega⟩
  have vn := hA.1.2.2.1.2
  cases c1 : ixB i A.1.vn.length with
  | false =>
    refine ⟨.inr (cIOOBE, h.1), _, A, ?_, H.skip, skip, ⟨_, rfl⟩, rfl⟩
    unfold f_X1_addAlways gx_bx
    rw [his, Option.bind_some, chk, c1]
    rfl
  | true =>
    obtain ⟨v, v1, rfl⟩ := ixB_t (by omega) c1
    have w5 : f_X1_isWithin D h z.toInt64 0 5 = some (ixB z 6) := f_within (D := D) (h := h) z 0 5
    have w9 : f_X1_isWithin D h k.toInt64 0 9 = some (ixB k 10) := f_within (D := D) (h := h) k 0 9
    cases c2 : ixB z 6 && ixB k 10 with
    | false =>
      refine ⟨.inr (cIAE, h.1), _, A, ?_, H.skip, skip, ⟨_, rfl⟩, rfl⟩
      have bf : f_X1_addAlways_b33 D h Y.1 (nI v) z k = some (.inr (cIAE, h.1), hx_skip h 1 6) := by
        unfold f_X1_addAlways_b33 f_X1_addAlways_b34 f_X1_requireArgument
        rw [if_neg Bool.false_ne_true, pl_bx_r]
        rfl
      unfold f_X1_addAlways
      rw [his, Option.bind_some, chk, c1, if_pos rfl, pl_bx_l, w5, Option.bind_some]
      cases d1 : ixB z 6 with
      | false => rw [if_neg Bool.false_ne_true, bf]
      | true =>
        rw [d1, Bool.true_and] at c2
        rw [if_pos rfl, w9, Option.bind_some, c2, if_neg Bool.false_ne_true, bf]
    | true =>
      rw [Bool.and_eq_true] at c2
      obtain ⟨d1, d2⟩ := c2
      obtain ⟨o, o1, rfl⟩ := ixB_t (by decide) d1
      obtain ⟨c, k1, rfl⟩ := ixB_t (by decide) d2
      -- the two new cells
      obtain ⟨ov, op, d, r, p, fnd, dl, as, hx, _, hq, hh, hdf, hr, hsv, _, _, _, hW, HG, gop, t, q1, q2, q3⟩ := H.opn
      have xl := w.lt hx
      have opl : op < h.1 := by
        obtain ⟨b, q⟩ := q1
        exact (hzf_eq q).1
      have q1' := q1.sub hzf_sub
      have n1 := ap_new (n := h.1) (h := h) (B := []) (s := 0) (m := 2) (ci := 15) (fs := gx_df15)
      rw [ap_0 w] at n1
      simp only [List.nil_append, List.length_nil, Nat.add_zero, Nat.zero_add] at n1
      have n2 := ap_new (n := h.1) (h := h) (B := [.inr (15, gx_df15)]) (s := 2) (m := 3) (ci := 14) (fs := gx_df14)
      have g0 : ∀ B s, hx_gr (hx_ap h.1 h B s) Y.1 [9] 0 = some (some op) := fun B s => by
        rw [hx_gr_r, ap_gvo xl, (hx_ob.mk hx).gv (show 9 ∈ [9] by decide)]; rfl
      have ar : ∀ B s, hx_ar (hx_ap h.1 h B s) op (nI o) = some (some (D.2.2.1 (100 + o))) := fun B s => by
        rw [ap_aro opl, q1'.ar q2 o1 (by decide), q3 o o1]
      have i1 : f_X7_init D (hx_ap h.1 h [.inr (15, gx_df15), .inr (14, gx_df14)] 5) (h.1 + 1) (nI v) (some (D.2.2.1 (100 + o))) (nI c) = some (hx_ap h.1 h [.inr (15, gx_df15), .inr (14, [.int (nI v), .int (nI c), .ref (D.2.2.1 (100 + o))])] 5) := by
        simp [f_X7_init, ap_new, ap_pv, ap_pv0, ap_gv, ap_gv0, ap_is, ap_is0, ap_len, ap_len0, hx_gi_r, hx_gr_r, hx_pr, hx_pi, gx_b2, gx_bx, Nat.add_assoc, va_rf_s, va_rf_n, hx_okr_n, ap_okr, gx_df14]
      obtain ⟨h25, e25⟩ : ∃ h25, h25 = hx_ap h.1 h [.inr (15, gx_df15), .inr (14, [.int (nI v), .int (nI c), .ref (D.2.2.1 (100 + o))])] 5 := ⟨_, rfl⟩
      have f25 : (hx_fz1 h25 (h.1 + 1)).2.2 h.1 = some (true, .inr (15, gx_df15)) := by
        rw [fz1_at, e25, ap_at0]
        simp
      obtain ⟨h26, e26, c26⟩ := hx_pv_e (cis := [15]) (k := 0) (v := .int (-1)) f25 (by decide) (by decide)
      obtain ⟨h27, e27, c27⟩ := hx_pv_e (cis := [15]) (k := 1) (v := va_rf (some (h.1 + 1))) c26.2.2.1 (by decide) (by simp [gx_df15])
      obtain ⟨h31, e31⟩ : ∃ h31, h31 = hx_fz1 h27 h.1 := ⟨_, rfl⟩
      have z31 : h31.1 = h.1 + 2 := by
        have : h31.1 = h27.1 := by rw [e31]; rfl
        rw [this, c27.1, c26.1]
        show h25.1 = _
        rw [e25]; rfl
      have s31 : h31.2.1 = h.2.1 + 5 := by
        have : h31.2.1 = h27.2.1 := by rw [e31]; rfl
        rw [this, c27.2.1, c26.2.1]
        show h25.2.1 = _
        rw [e25]; rfl
      have old31 : ∀ z, z < h.1 → h31.2.2 z = h.2.2 z := fun z hz => by
        rw [e31, fz1_at, c27.2.2.2 z (by omega), c26.2.2.2 z (by omega), fz1_at, e25, ap_old hz]
        cases h.2.2 z with
        | none => rfl
        | some u =>
          obtain ⟨b, e⟩ := u
          simp only [show ¬ z = h.1 + 1 by omega, show ¬ z = h.1 by omega, decide_false, Bool.not_false, Bool.and_true]
      have w31 : hx_wf h31 := fun z hz => by
        rw [z31] at hz
        rw [e31, fz1_at, c27.2.2.2 z (by omega), c26.2.2.2 z (by omega), fz1_at, e25, ap_wf (B := [.inr (15, gx_df15), .inr (14, [.int (nI v), .int (nI c), .ref (D.2.2.1 (100 + o))])]) (s := 5) (h := h) (n := h.1) z hz]
      have i31 : h31.2.2 h.1 = some (false, .inr (15, [.int (-1), .ref (h.1 + 1)])) := by
        rw [e31, fz1_at, c27.2.2.1]
        simp [gx_df15, va_rf]
      have p31 : h31.2.2 (h.1 + 1) = some (false, .inr (14, [.int (nI v), .int (nI c), .ref (D.2.2.1 (100 + o))])) := by
        rw [e31, fz1_at, c27.2.2.2 _ (by omega), c26.2.2.2 _ (by omega), fz1_at, e25, ap_at]
        simp
      have ivok : iv_ok (none, v, o, c) := ⟨fun k hk => (by cases hk), by show v < 3; omega, o1, k1⟩
      have hiv : hx_iv D (hzf h31) h.1 (none, v, o, c) := ⟨ivok, h.1 + 1, hx_ob.mk (hzf_of (by omega) i31), hx_ob.mk (hzf_of (by omega) p31)⟩
      have H31 := H.ext (h1 := h31) (by omega) w31 old31
      have can := c_canAdd (i := (none, v, o, c)) hap H31.vm (hiv.sub hzf_sub) hA.2.1.2.2.1 hA.1.2.2.2.2.2.2.2.2.1
      have run : f_X1_addAlways_b34 D h Y.1 (nI v) (nI o) (nI c) true = gx_bx (f_X1_requireState D h31 (canAddB A.1 A.2.1 (none, v, o, c))) (fun _ h31 => gx_b2 (f_X1_changed D h31 Y.1) fun r36 h37 => r36.bind fun a38 => (hx_gr h37 a38 [11] 0).bind fun r39 => r39.bind fun a40 => gx_b2 (f_J2_add D h37 a40 (some h.1)) fun b42 h43 => (hx_gr h43 Y.1 [9] 6).bind fun r44 => r44.bind fun a45 => (hx_gr h43 a45 [11] 0).bind fun r46 => r46.bind fun a47 => (f_J2_size D h43 a47).bind fun x49 => some (.inl (x49 - (1 : Int32)), h43)) (fun E32 q33 h31 => some (.inr (E32, q33), h31)) := by
        unfold f_X1_addAlways_b34 f_X1_requireArgument
        rw [if_pos rfl, pl_bx_l, n1, pl_b2_s, n2, pl_b2_s]
        simp only [List.length_singleton, List.singleton_append, g0, ar, i1, Option.bind_some, ← e25]
        unfold f_X8_init hx_pi hx_pr
        rw [e26, Option.bind_some, e27, Option.bind_some, Option.bind_some, ← e31, can, Option.bind_some]
      have go : f_X1_addAlways D h Y.1 (nI v) (nI o) (nI c) = f_X1_addAlways_b34 D h Y.1 (nI v) (nI o) (nI c) true := by
        unfold f_X1_addAlways
        rw [his, Option.bind_some, chk, c1, if_pos rfl, pl_bx_l, w5, Option.bind_some, d1, if_pos rfl, w9, Option.bind_some, d2, if_pos rfl]
      have b31 : bnd h h31 2 5 := ⟨by omega, by omega, by omega, by omega⟩
      rw [go, run]
      cases ca : canAddB A.1 A.2.1 (none, v, o, c) with
      | false =>
        refine ⟨.inr (cISE, h31.1), hx_skip h31 1 6, A, rfl, H31.skip, ?_, v, o, c, rfl, rfl, rfl, v1, o1, k1, ?_⟩
        · exact (b31.tr (k' := 1) (s' := 6) ⟨Nat.le_add_right _ _, Nat.le_refl _, Nat.le_add_right _ _, Nat.le_refl _⟩).up (by omega) (by omega)
        · rw [ca]; exact ⟨⟨_, rfl⟩, rfl⟩
      | true =>
        obtain ⟨hb, mc, fe, f1, f2, f3, f4, f5, it, e1, C, G⟩ := H31.changed
        obtain ⟨d', X⟩ := G.x
        have l12 : A.2.1.iv.length < 12 := by
          unfold canAddB at ca
          simp only [Bool.and_eq_true, decide_eq_true_eq] at ca
          exact ca.1
        obtain ⟨a1, a2⟩ := c_addB (D := D) (hb := hb) (n := h31.1) (s := 107) (b := h.1) (mc := mc) (tl := [it]) C l12 hiv (ap_okro (by omega) (hx_ob.mk (b := false) (by
          have sz := G.zf _ _ (hzf_of (show h.1 < h31.1 by omega) i31)
          exact sz)) (by decide))
        refine ⟨.inl (nI A.2.1.iv.length), _, _, ?_, G.run (mc := mc + 1) (tl := [it]) (s := 107) a2, ?_, v, o, c, rfl, rfl, rfl, v1, o1, k1, ?_⟩
        · have el : (rnAdd A.2.1 (none, v, o, c)).iv.length = A.2.1.iv.length + 1 := by
            show (A.2.1.iv ++ [_]).length = _
            rw [List.length_append, List.length_singleton]
          have sz : f_J2_size D (hx_ap h31.1 hb (rnB h31.1 (mc + 1) (rnAdd A.2.1 (none, v, o, c)).iv.length (va_up fe A.2.1.iv.length (some h.1)) f1 f2 f3 f4 f5 (nI (cf_c (rnAdd A.2.1 (none, v, o, c)).cf)) (rnAdd A.2.1 (none, v, o, c)).ac (nI (rnAdd A.2.1 (none, v, o, c)).tr.length) ++ [it]) 107) (h31.1 + 1) = some (nI (A.2.1.iv.length + 1)) := by
            rw [← el]
            simp [f_J2_size, rnB, ap_new, ap_pv, ap_pv0, ap_gv, ap_gv0, ap_is, ap_is0, ap_len, ap_len0, hx_gi_r, hx_gr_r, hx_pr, hx_pi, gx_b2, gx_bx, Nat.add_assoc, va_rf_s, va_rf_n, hx_okr_n, ap_okr]
          unfold f_X1_requireState gx_bx gx_b2
          simp only [if_true, Option.bind_some, e1, rb_cf.2.2.2.2.2, a1, (X _ _).1, sz]
          rw [← nI_1, show nI A.2.1.iv.length + 1 - 1 = nI A.2.1.iv.length from Int32.add_sub_cancel _ _]
        · exact (b31.tr (G.bnd (B := rnB h31.1 (mc + 1) (rnAdd A.2.1 (none, v, o, c)).iv.length (va_up fe A.2.1.iv.length (some h.1)) f1 f2 f3 f4 f5 (nI (cf_c (rnAdd A.2.1 (none, v, o, c)).cf)) (rnAdd A.2.1 (none, v, o, c)).ac (nI (rnAdd A.2.1 (none, v, o, c)).tr.length) ++ [it]) (s := 107))).up (by simp [rnB]) (by omega)
        · rw [ca]; exact ⟨rfl, rfl⟩
