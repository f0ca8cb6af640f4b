/-! the component's calls that change the run -/
set_option maxRecDepth 100000
set_option linter.unusedSimpArgs false
theorem hs_len {D : gx_D} {h : HX} {Y : YT} {A : AT} (H : cI D h Y A) : hx_wf h := by
  obtain ⟨ov, w, _⟩ := H
  exact w
def bnd (h h1 : HX) (k s : Nat) : Prop := h.1 ≤ h1.1 ∧ h1.1 ≤ h.1 + k ∧ h.2.1 ≤ h1.2.1 ∧ h1.2.1 ≤ h.2.1 + s
theorem f_checkX {D : gx_D} {h : HX} {x : Nat} {F : DF} {R : RN} (H : hx_vm D h x F R) (i : Int32) : f_X1_checkEvent D h x i = (if ixB i F.en.length = true then some (.inl (), h) else some (.inr (cIOOBE, h.1), hx_skip h 1 6)) ∧ f_X1_checkState D h x i = (if ixB i F.sn.length = true then some (.inl (), h) else some (.inr (cIOOBE, h.1), hx_skip h 1 6)) ∧ f_X1_checkVariable D h x i = (if ixB i F.vn.length = true then some (.inl (), h) else some (.inr (cIOOBE, h.1), hx_skip h 1 6)) := by
  obtain ⟨d, r, fs, h1, h2, h3, ⟨sl, el, vl, tl, h4, h5, h6, h7, h8⟩, h9⟩ := H
  refine ⟨?_, ?_, ?_⟩
  · unfold f_X1_checkEvent gx_bx
    simp only [h1.is (show 9 ∈ [9] by decide), h1.gr (show 9 ∈ [9] by decide) h2, h4.gr (show 10 ∈ [10] by decide) (k := 1) rfl, Option.bind_some, h6.len, f_checkIndex]
    cases ixB i F.en.length <;> rfl
  · unfold f_X1_checkState gx_bx
    simp only [h1.is (show 9 ∈ [9] by decide), h1.gr (show 9 ∈ [9] by decide) h2, h4.gr (show 10 ∈ [10] by decide) (k := 0) rfl, Option.bind_some, h5.len, f_checkIndex]
    cases ixB i F.sn.length <;> rfl
  · unfold f_X1_checkVariable gx_bx
    simp only [h1.is (show 9 ∈ [9] by decide), h1.gr (show 9 ∈ [9] by decide) h2, h4.gr (show 10 ∈ [10] by decide) (k := 2) rfl, Option.bind_some, h7.len, f_checkIndex]
    cases ixB i F.vn.length <;> rfl
theorem chg.x {D : gx_D} {h hb : HX} {Y : YT} {A : AT} (c : chg D h hb Y A) : ∃ d, ∀ B s, hx_gr (hx_ap h.1 hb B s) Y.1 [9] 6 = some (some h.1) ∧ hx_gr (hx_ap h.1 hb B s) Y.1 [9] 5 = some (some d) ∧ hx_is (hx_ap h.1 hb B s) Y.1 [9] = some () ∧ hx_gi (hx_ap h.1 hb B s) d [10] 4 = some (nI (cf_c A.1.ini)) ∧ hx_is (hx_ap h.1 hb B s) d [10] = some () := by
  have xl := c.xl
  have zf := c.zf
  obtain ⟨ov, op, d, r', p, fnd, dl, as', HG, hx, w, hdf, hsv, c1, c2, c3, _⟩ := c
  obtain ⟨a, e, v, t, h1, _⟩ := id hdf
  have dl' : d < h.1 := by
    obtain ⟨b, hb'⟩ := h1
    exact (hzf_eq hb').1
  have h1' := h1.sub zf
  refine ⟨d, fun B s => ⟨?_, ?_, ?_, ?_, ?_⟩⟩
  · rw [hx_gr_r, ap_gvo xl, (hx_ob.mk c3).gv (show 9 ∈ [9] by decide)]; rfl
  · rw [hx_gr_r, ap_gvo xl, (hx_ob.mk c3).gv (show 9 ∈ [9] by decide)]; rfl
  · rw [ap_iso xl, (hx_ob.mk c3).is (by decide)]
  · rw [hx_gi_r, ap_gvo dl', h1'.gv (show 10 ∈ [10] by decide)]; rfl
  · rw [ap_iso dl', h1'.is (by decide)]
theorem chg.bnd {D : gx_D} {h hb : HX} {Y : YT} {A : AT} {B : List gx_E} {s : Nat} (c : chg D h hb Y A) : bnd h (hx_ap h.1 hb B s) B.length s := by
  obtain ⟨ov, op, d', r', p, fnd, dl, as', HG, hx, w, hdf, hsv, c1, c2, c3, _⟩ := c
  refine ⟨?_, ?_, ?_, ?_⟩
  · show h.1 ≤ h.1 + _; omega
  · show h.1 + B.length ≤ _; omega
  · show h.2.1 ≤ hb.2.1 + s; omega
  · show hb.2.1 + s ≤ _; omega
theorem bnd.up {h h1 : HX} {k s k' s' : Nat} (b : bnd h h1 k s) (hk : k ≤ k') (hs : s ≤ s') : bnd h h1 k' s' := ⟨b.1, by have := b.2.1; omega, b.2.2.1, by have := b.2.2.2; omega⟩
theorem bnd.tr {h h1 h2 : HX} {k s k' s' : Nat} (a : bnd h h1 k s) (b : bnd h1 h2 k' s') : bnd h h2 (k + k') (s + s') := by
  obtain ⟨a1, a2, a3, a4⟩ := a
  obtain ⟨b1, b2, b3, b4⟩ := b
  exact ⟨by omega, by omega, by omega, by omega⟩
/-- reads and writes of the run in its block -/
theorem rb_cf {n li s : Nat} {hb : HX} {mc cf ac t : Int32} {fe : Nat → Option Nat} {f1 f2 f3 f4 f5 : Nat → Int32} {tl : List gx_E} : hx_gi (hx_ap n hb (rnB n mc li fe f1 f2 f3 f4 f5 cf ac t ++ tl) s) n [11] 6 = some cf ∧ hx_gi (hx_ap n hb (rnB n mc li fe f1 f2 f3 f4 f5 cf ac t ++ tl) s) n [11] 7 = some ac ∧ hx_is (hx_ap n hb (rnB n mc li fe f1 f2 f3 f4 f5 cf ac t ++ tl) s) n [11] = some () ∧ (∀ y, hx_pi (hx_ap n hb (rnB n mc li fe f1 f2 f3 f4 f5 cf ac t ++ tl) s) n [11] 6 y = some (hx_ap n hb (rnB n mc li fe f1 f2 f3 f4 f5 y ac t ++ tl) s)) ∧ (∀ y, hx_pi (hx_ap n hb (rnB n mc li fe f1 f2 f3 f4 f5 cf ac t ++ tl) s) n [11] 8 y = some (hx_ap n hb (rnB n mc li fe f1 f2 f3 f4 f5 cf ac y ++ tl) s)) ∧ hx_gr (hx_ap n hb (rnB n mc li fe f1 f2 f3 f4 f5 cf ac t ++ tl) s) n [11] 0 = some (some (n + 1)) := by
  refine ⟨?_, ?_, ?_, fun y => ?_, fun y => ?_, ?_⟩ <;> simp [rnB, ap_new, ap_pv, ap_pv0, ap_gv, ap_gv0, ap_is, ap_is0, ap_len, ap_len0, hx_gi_r, hx_gr_r, hx_pr, hx_pi, gx_b2, gx_bx, Nat.add_assoc, va_rf_s, va_rf_n, hx_okr_n, ap_okr]
theorem cI.A {D : gx_D} {h : HX} {Y : YT} {A : AT} (H : cI D h Y A) : a_ok A ∧ hx_is h Y.1 [9] = some () ∧ gx_apt D ∧ gx_apt2 D := by
  obtain ⟨d0, r0, fs0, g1, _⟩ := H.vm
  obtain ⟨ov, w, _, hA, a1, a2⟩ := H
  exact ⟨hA, g1.is (by decide), a1, a2⟩
/-- restart, on a block -/
def rnRst (F : DF) (R : RN) : RN := (R.iv, F.ini, R.tk, R.vi, R.rj, R.ac, [])
def rnClr (R : RN) : RN := (R.iv, R.cf, fun _ => 0, fun k => if k = R.cf.1 then 1 else 0, fun _ => 0, 0, [])
theorem c_restart {D : gx_D} {h hb : HX} {Y : YT} {A : AT} {R : RN} {mc : Int32} {fe : Nat → Option Nat} {f1 f2 f3 f4 f5 : Nat → Int32} {tl : List gx_E} {s : Nat} (G : chg D h hb Y A) (C : rnC D (hzf h) R fe f1 f2 f3 f4 f5) (hq : cf_ok R.cf) : f_X1_restart D (hx_ap h.1 hb (rnB h.1 mc R.iv.length fe f1 f2 f3 f4 f5 (nI (cf_c R.cf)) R.ac (nI R.tr.length) ++ tl) s) Y.1 = some (nI R.cf.1, hx_ap h.1 hb (rnB h.1 mc (rnRst A.1 R).iv.length fe f1 f2 f3 f4 f5 (nI (cf_c (rnRst A.1 R).cf)) (rnRst A.1 R).ac (nI (rnRst A.1 R).tr.length) ++ tl) s) ∧ rnC D (hzf h) (rnRst A.1 R) fe f1 f2 f3 f4 f5 := by
  obtain ⟨d, X⟩ := G.x
  refine ⟨?_, C.1, C.2.1, C.2.2.1, C.2.2.2.1, C.2.2.2.2.1, fun k hk => absurd hk (Nat.not_lt_zero k)⟩
  unfold f_X1_restart f_X4_state
  simp only [(X _ _).1, (X _ _).2.1, (X _ _).2.2.1, (X _ _).2.2.2.1, Option.bind_some, rb_cf.1, rb_cf.2.2.1, rb_cf.2.2.2.1, rb_cf.2.2.2.2.1, c_state hq]
  rfl
theorem c_reset {D : gx_D} {h : HX} {Y : YT} {A : AT} (H : cI D h Y A) : ∃ h1, f_X1_reset D h Y.1 = some (nI A.2.1.cf.1, h1) ∧ cE D h1 Y (A.1, rnRst A.1 A.2.1, A.2.2.1, hsN A.2.2.2.1 A.2.1, A.2.2.2.2) ∧ bnd h h1 20 200 := by
  obtain ⟨hA, his, _⟩ := H.A
  obtain ⟨hb, mc, fe, f1, f2, f3, f4, f5, it, e1, C, G⟩ := H.changed
  obtain ⟨r1, r2⟩ := c_restart (mc := mc) (tl := [it]) (s := 107) G C hA.2.1.2.2.1
  refine ⟨_, ?_, G.run (mc := mc) (tl := [it]) (s := 107) r2, ?_⟩
  rotate_left
  · exact G.bnd.up (by simp [rnB]) (by decide)
  unfold f_X1_reset
  simp only [his, Option.bind_some, e1, gx_b2, r1]
theorem c_clearCoverage {D : gx_D} {h : HX} {Y : YT} {A : AT} (H : cI D h Y A) : ∃ h1, f_X1_clearCoverage D h Y.1 = some (A.2.1.ac, h1) ∧ cE D h1 Y (A.1, rnClr A.2.1, A.2.2.1, hsN A.2.2.2.1 A.2.1, A.2.2.2.2) ∧ bnd h h1 20 200 := by
  obtain ⟨hA, his, _⟩ := H.A
  obtain ⟨hb, mc, fe, f1, f2, f3, f4, f5, it, e1, C, G⟩ := H.changed
  obtain ⟨g1, g2, g3, k1, k2, k3, k4⟩ := c_clear (D := D) (h := hb) (n := h.1) (li := A.2.1.iv.length) (s := 107) (q := A.2.1.cf) (mc := mc) (ac := A.2.1.ac) (tr := nI A.2.1.tr.length) (fe := fe) (f1 := f1) (f2 := f2) (f3 := f3) (f4 := f4) (f5 := f5) (tl := [it]) hA.2.1.2.2.1
  refine ⟨hx_ap h.1 hb (rnB h.1 mc (rnClr A.2.1).iv.length fe g1 g2 g3 f4 f5 (nI (cf_c (rnClr A.2.1).cf)) (rnClr A.2.1).ac (nI (rnClr A.2.1).tr.length) ++ [it]) 107, ?_, G.run (mc := mc) (tl := [it]) (s := 107) ⟨C.1, C.2.1, k2, k3, k4, fun k hk => absurd hk (Nat.not_lt_zero k)⟩, ?_⟩
  rotate_left
  · exact G.bnd.up (by simp [rnB]) (by decide)
  unfold f_X1_clearCoverage
  simp only [his, Option.bind_some, e1, gx_b2, rb_cf.2.1, k1]
  rfl
def rnSet (R : RN) (v x : Nat) : RN := (R.iv, cf_set R.cf v x, R.tk, R.vi, R.rj, R.ac, R.tr)
theorem cf_with {q : CF} {v x : Nat} (hq : cf_ok q) (hv : v < 3) (hx : x < 10) : nI (cf_c q) + (nI x - nI (cf_val q v)) * nI (wtN v) = nI (cf_c (cf_set q v x)) := nI_chg (cf_set_c hq hv hx).1
/-- canSet, set, on any heap where the machine is seen -/
theorem c_canSet {D : gx_D} {h : HX} {x v y : Nat} {F : DF} {R : RN} (hap : gx_apt D) (H : hx_vm D h x F R) (hq : cf_ok R.cf) (hv : v < 3) (hy : y < 10) : f_X1_canSet D h x (nI v) (nI y) = some (brk R.iv (cf_set R.cf v y)).isNone ∧ f_X1_configurationWith D h x (nI v) (nI y) = some (nI (cf_c (cf_set R.cf v y))) := by
  obtain ⟨d, r, fs, h1, h2, h3, h4, ⟨i, a1, a2, a3, a4, a5, ge, gt, h9, h10, h11⟩⟩ := H
  have lt := cf_c_lt hq
  have cw : f_X1_configurationWith D h x (nI v) (nI y) = some (nI (cf_c (cf_set R.cf v y))) := by
    unfold f_X1_configurationWith f_X4_valuation
    simp only [h1.is (show 9 ∈ [9] by decide), h1.gr (show 9 ∈ [9] by decide) h3, h9.is (show 11 ∈ [11] by decide), h9.gi (show 11 ∈ [11] by decide) (k := 6) rfl, Option.bind_some, c_rest hq, f_val, cval_nI (show cf_c R.cf % 1000 < 2 ^ 31 by omega) hv, cf_c_val hq hv, f_wt, cwt_nI hv, cf_with hq hv hy]
  refine ⟨?_, cw⟩
  unfold f_X1_canSet
  simp only [h1.is (show 9 ∈ [9] by decide), h1.gr (show 9 ∈ [9] by decide) h3, Option.bind_some, cw, f_broken hap h9 rfl h10 (cf_set_ok hq hy)]
  cases e : brk R.iv (cf_set R.cf v y) with
  | none => rw [if_pos oI_nn]; rfl
  | some j => rw [if_neg (oI_sne (by have := brk_lt e; have := h10.cap; omega))]; rfl
theorem c_set {D : gx_D} {h hb : HX} {Y : YT} {A : AT} {R : RN} {mc : Int32} {v y : Nat} {fe : Nat → Option Nat} {f1 f2 f3 f4 f5 : Nat → Int32} {tl : List gx_E} {s : Nat} (hap : gx_apt D) (G : chg D h hb Y A) (C : rnC D (hzf h) R fe f1 f2 f3 f4 f5) (hq : cf_ok R.cf) (hv : v < 3) (hy : y < 10) : f_X1_set D (hx_ap h.1 hb (rnB h.1 mc R.iv.length fe f1 f2 f3 f4 f5 (nI (cf_c R.cf)) R.ac (nI R.tr.length) ++ tl) s) Y.1 (nI v) (nI y) = some (nI (cf_val R.cf v), hx_ap h.1 hb (rnB h.1 mc (rnSet R v y).iv.length fe f1 f2 f3 f4 f5 (nI (cf_c (rnSet R v y).cf)) (rnSet R v y).ac (nI (rnSet R v y).tr.length) ++ tl) s) ∧ rnC D (hzf h) (rnSet R v y) fe f1 f2 f3 f4 f5 := by
  obtain ⟨d, X⟩ := G.x
  have lt := cf_c_lt hq
  have W := G.vm (mc := mc) (tl := tl) (s := s) C
  have cw := (c_canSet (v := v) (y := y) hap W hq hv hy).2
  refine ⟨?_, C⟩
  unfold f_X1_set f_X4_valuation
  simp only [(X _ _).1, (X _ _).2.2.1, Option.bind_some, rb_cf.1, rb_cf.2.2.1, rb_cf.2.2.2.1, c_rest hq, f_val, cval_nI (show cf_c R.cf % 1000 < 2 ^ 31 by omega) hv, cf_c_val hq hv, cw]
  rfl
def cIAE : String := "java/lang/IllegalArgumentException"
def cISE : String := "java/lang/IllegalStateException"
def cNSE : String := "java/util/NoSuchElementException"
theorem w09 {D : gx_D} {h : HX} (x : Int32) : f_X1_isWithin D h x.toInt64 0 9 = some (ixB x 10) := by
  have := f_within (D := D) (h := h) x 0 9
  exact this
theorem c_setValue {D : gx_D} {h : HX} {Y : YT} {A : AT} (H : cI D h Y A) (i z : Int32) : ∃ r h1 A', f_X1_setValue D h Y.1 i z = some (r, h1) ∧ cE D h1 Y A' ∧ bnd h h1 20 200 ∧
    (match ixB i A.1.vn.length with
    | false => (∃ a, r = .inr (cIOOBE, a)) ∧ A' = A
    | true => match ixB z 10 with
      | false => (∃ a, r = .inr (cIAE, a)) ∧ A' = A
      | true => ∃ v y, i = nI v ∧ z = nI y ∧ v < A.1.vn.length ∧ y < 10 ∧ (match (brk A.2.1.iv (cf_set A.2.1.cf v y)).isNone with
        | false => (∃ a, r = .inr (cISE, a)) ∧ A' = A
        | true => r = .inl (nI (cf_val A.2.1.cf v)) ∧ A' = (A.1, rnSet A.2.1 v y, A.2.2.1, hsN A.2.2.2.1 A.2.1, A.2.2.2.2))) := by
  obtain ⟨hA, his, hap, hne⟩ := H.A
  have chk := (f_checkX H.vm i).2.2
  have skip : bnd h (hx_skip h 1 6) 20 200 := ⟨Nat.le_add_right _ _, by show h.1 + 1 ≤ _; omega, Nat.le_add_right _ _, by show h.2.1 + 6 ≤ _; omega⟩
  have vn := hA.1.2.2.1.2
  cases c1 : ixB i A.1.vn.length with
  | false =>
    refine ⟨.inr (cIOOBE, h.1), _, A, ?_, H.skip, skip, ⟨_, rfl⟩, rfl⟩
    unfold f_X1_setValue gx_bx
    rw [his, Option.bind_some, chk, c1]
    rfl
  | true =>
    obtain ⟨v, v1, rfl⟩ := ixB_t (by omega) c1
    have w9 := w09 (D := D) (h := h) z
    cases c2 : ixB z 10 with
    | false =>
      refine ⟨.inr (cIAE, h.1), _, A, ?_, H.skip, skip, ⟨_, rfl⟩, rfl⟩
      unfold f_X1_setValue gx_bx f_X1_requireArgument
      rw [his, Option.bind_some, chk, c1]
      simp only [if_true, Option.bind_some, w9, c2]
      rfl
    | true =>
      obtain ⟨y, y1, rfl⟩ := ixB_t (by decide) c2
      have cs := (c_canSet (v := v) (y := y) hap H.vm hA.2.1.2.2.1 (by omega) y1).1
      cases c3 : (brk A.2.1.iv (cf_set A.2.1.cf v y)).isNone with
      | false =>
        refine ⟨.inr (cISE, h.1), _, A, ?_, H.skip, skip, v, y, rfl, rfl, v1, y1, ?_⟩
        · unfold f_X1_setValue gx_bx f_X1_requireArgument f_X1_requireState
          rw [his, Option.bind_some, chk, c1]
          simp only [if_true, Option.bind_some, w9, c2, cs, c3]
          rfl
        · rw [c3]; exact ⟨⟨_, rfl⟩, rfl⟩
      | true =>
        obtain ⟨hb, mc, fe, f1, f2, f3, f4, f5, it, e1, C, G⟩ := H.changed
        obtain ⟨r1, r2⟩ := c_set (mc := mc) (tl := [it]) (s := 107) (v := v) (y := y) hap G C hA.2.1.2.2.1 (by omega) y1
        refine ⟨.inl (nI (cf_val A.2.1.cf v)), _, _, ?_, G.run (mc := mc) (tl := [it]) (s := 107) r2, ?_, v, y, rfl, rfl, v1, y1, ?_⟩
        rotate_left
        · exact G.bnd.up (by simp [rnB]) (by decide)
        rotate_left
        · unfold f_X1_setValue gx_bx f_X1_requireArgument f_X1_requireState
          rw [his, Option.bind_some, chk, c1]
          simp only [if_true, Option.bind_some, w9, c2, cs, c3, e1, gx_b2, r1]
        · rw [c3]; exact ⟨rfl, rfl⟩
theorem c_fire {D : gx_D} {h : HX} {Y : YT} {A : AT} {e : Nat} (H : cI D h Y A) (he : e < A.1.en.length) : ∃ h1, f_X1_fire D h Y.1 (nI e) = some (.inl (nI (vdN A.1.ts A.2.1.iv A.2.1.cf e)), h1) ∧ cE D h1 Y (A.1, rnFire A.1 A.2.1 e, A.2.2.1, hsN A.2.2.2.1 A.2.1, A.2.2.2.2) ∧ bnd h h1 20 200 := by
  obtain ⟨hA, his, hap, hne⟩ := H.A
  have w := hs_len H
  have e8 := hA.1.2.1.2
  have chk := (f_checkX H.vm (nI e)).1
  rw [if_pos (ixB_n (by omega) he)] at chk
  obtain ⟨s, s3, oc⟩ := c_outcome (e := e) w hap hne H.vm hA.1.trs hA.2.1.2.2.1 (by omega)
  have H8 := H.ext (h1 := hx_ap h.1 h [ocE A.1 A.2.1 e] s) (by show h.1 ≤ h.1 + _; omega) ap_wf (fun z hz => ap_old hz)
  obtain ⟨hb, mc, fe, f1, f2, f3, f4, f5, it, e1, C, G⟩ := H8.changed
  have n8 : (hx_ap h.1 h [ocE A.1 A.2.1 e] s).1 = h.1 + 1 := rfl
  have hc8 : hb.2.2 h.1 = some (true, ocE A.1 A.2.1 e) := by
    obtain ⟨ov, op, d', r', p, fnd, dl, as', HG, hx, w', hdf, hsv, c1, c2, c3, ⟨_, _, _, c4, c4', _⟩, c5, c6⟩ := id G
    have hW := H.opn
    obtain ⟨ov0, op0, d0, r0, p0, fnd0, dl0, as0, q1, q2, ⟨_, _, _, q3, q3', _⟩, _⟩ := hW
    have l1 := w.lt q1
    have l2 := w.lt q3
    have l3 := w.lt q3'
    rw [c6 h.1 (by omega) (by omega) (by omega), ap_at0]
    rfl
  have ho : ∀ B s', ∀ ci fs, ocE A.1 A.2.1 e = .inr (ci, fs) → hx_ob (hx_ap (h.1 + 1) hb B s') h.1 ci fs := fun B s' ci fs hh => by
    refine hx_ob.mk (b := true) ?_
    rw [ap_old (by omega), hc8, hh]
  have bn : ∀ B, B.length ≤ 12 → bnd h (hx_ap (hx_ap h.1 h [ocE A.1 A.2.1 e] s).1 hb B 107) 20 200 := fun B hB => by
    have b1 : bnd h (hx_ap h.1 h [ocE A.1 A.2.1 e] s) 1 3 := ⟨by rw [n8]; omega, by rw [n8]; omega, Nat.le_add_right _ _, by show h.2.1 + s ≤ _; omega⟩
    exact (b1.tr G.bnd).up (by omega) (by omega)
  have fire : ∀ h11, f_X1_changed D (hx_ap h.1 h [ocE A.1 A.2.1 e] s) Y.1 = some (some (h.1 + 1), h11) → f_X1_fire D h Y.1 (nI e) = (if hx_isb h11 h.1 [23] = true then (f_X19_applyTo D h11 h.1 (some (h.1 + 1))).bind fun h15 => f_X1_fire_b21 D h15 (some h.1) else if hx_isb h11 h.1 [24] = true then (f_X20_applyTo D h11 h.1 (some (h.1 + 1))).bind fun h25 => f_X1_fire_b21 D h25 (some h.1) else none) := fun h11 hh => by
    unfold f_X1_fire gx_bx gx_b2
    rw [his, Option.bind_some, chk, Option.bind_some]
    simp only
    rw [oc, Option.bind_some, hh, Option.bind_some, Option.bind_some]
  rw [n8] at e1 bn
  rw [fire _ e1]
  have nn := nxN_of (F := A.1) (R := A.2.1) (q := A.2.1.cf) (e := e)
  have rej : (∀ q k, ¬ (nxN A.1.ts A.2.1.iv A.2.1.cf e = some q ∧ chN A.1.ts A.2.1.cf e = some k)) → ocE A.1 A.2.1 e = .inr (23, [.int (nI (vdN A.1.ts A.2.1.iv A.2.1.cf e))]) ∧ rnFire A.1 A.2.1 e = rnRej A.2.1 (vdN A.1.ts A.2.1.iv A.2.1.cf e) := fun hn => by
    unfold ocE rnFire
    split
    · rename_i q k h1 h2
      exact absurd ⟨h1, h2⟩ (hn q k)
    · exact ⟨rfl, rfl⟩
  cases c : nxN A.1.ts A.2.1.iv A.2.1.cf e with
  | none =>
    obtain ⟨o1, o2⟩ := rej (fun q k h => by rw [c] at h; cases h.1)
    have o := fun B s' => ho B s' _ _ o1
    obtain ⟨g3, a1, a2⟩ := c_applyR (tl := [it]) (s := 107) (hb := hb) (n := h.1 + 1) (mc := mc) (v := vdN A.1.ts A.2.1.iv A.2.1.cf e) C vdN_lt (o _ _)
    refine ⟨_, ?_, by
      rw [o2]
      have RUN := G.run (mc := mc) (tl := [it]) (s := 107) a2
      rw [n8] at RUN
      exact RUN, bn _ (by simp [rnB])⟩
    rw [hx_isb_ob (o _ _), if_pos (by decide), a1, Option.bind_some]
    unfold f_X1_fire_b21 f_X19_verdict
    rw [Option.bind_some, hx_isb_ob (o _ _), if_pos (by decide), (o _ _).is (by decide), Option.bind_some, (o _ _).gi (show 23 ∈ [23] by decide) (k := 0) rfl]
    rfl
  | some q =>
    obtain ⟨t1, k, t2⟩ := toN_of c
    have o1 : ocE A.1 A.2.1 e = .inr (24, [.int (nI e), .int (nI k), .int (nI (cf_c q))]) := by unfold ocE; rw [c, t2]
    have o2 : rnFire A.1 A.2.1 e = rnAcc A.2.1 q e k := by unfold rnFire; rw [c, t2]
    have o := fun B s' => ho B s' _ _ o1
    have v0 : vdN A.1.ts A.2.1.iv A.2.1.cf e = 0 := by rw [c] at nn; exact of_decide_eq_true nn.symm
    have kl := chN_lt t2
    obtain ⟨g1, g2, g4, g5, a1, a2⟩ := c_applyA (tl := [it]) (s := 107) (hb := hb) (n := h.1 + 1) (mc := mc) (e := e) (k := k) (q := q) C (nxN_ok hA.1.trs hA.2.1.2.2.1 c) (by have := hA.1.2.2.2.1; omega) hA.2.1.2.2.2.2.2.2.2 (fun _ _ _ _ _ _ _ _ => o _ _)
    refine ⟨_, ?_, by
      rw [o2]
      have RUN := G.run (mc := mc) (tl := [it]) (s := 107) a2
      rw [n8] at RUN
      exact RUN, bn _ (by simp [rnB])⟩
    rw [hx_isb_ob (o _ _), if_neg (by decide), hx_isb_ob (o _ _), if_pos (by decide), a1, Option.bind_some]
    unfold f_X1_fire_b21 f_X20_verdict
    rw [Option.bind_some, hx_isb_ob (o _ _), if_neg (by decide), hx_isb_ob (o _ _), if_pos (by decide), (o _ _).is (by decide), Option.bind_some, v0]
    rfl
