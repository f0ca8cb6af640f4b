/-! the component's setup parser begins; loadMachine -/
set_option maxRecDepth 100000
set_option linter.unusedSimpArgs false
theorem kx.ap2 {h : HX} {B : List gx_E} {s k : Nat} (hs : s ≤ 12 * k) (hk : B.length ≤ k) : kx h (hx_ap h.1 h B s) [] k := ⟨Nat.le_add_right _ _, ap_wf, fun z hz _ => ap_old hz, Nat.add_le_add_left hk _, Nat.le_add_right _ _, Nat.add_le_add_left hs _⟩
theorem PT.rst {D : gx_D} {n a ci x p k : Nat} {h h1 : HX} {rest rest' : List Value} {ib : List Nat} (T : PT D n h a ci x rest ib p) (w : hx_wf h) (X : kx h h1 [a] k) (hc : ∀ st nx vl wd tk, h.2.2 a = some (true, .inr (ci, .int st :: .int nx :: .int vl :: va_rf wd :: va_rf tk :: .ref x :: rest)) → h1.2.2 a = some (true, .inr (ci, .int st :: .int nx :: .int vl :: va_rf wd :: va_rf tk :: .ref x :: rest'))) : PT D n h1 a ci x rest' ib p := by
  obtain ⟨vl, w', P, h2, h3, h4, h5⟩ := T
  have nb : ∀ z m f, h.2.2 z = some (m, .inl (1, f)) → z ∉ [a] := fun z m f e hz => by
    simp only [List.mem_cons, List.not_mem_nil, or_false] at hz
    rw [hz, P.2] at e
    cases e
  have ns : ∀ z m f, h.2.2 z = some (m, .inr (2, f)) → z ∉ [a] := fun z m f e hz => by
    simp only [List.mem_cons, List.not_mem_nil, or_false] at hz
    rw [hz, P.2] at e
    rcases P.1 with c | c <;> subst c <;> cases e
  refine ⟨vl, w', ⟨P.1, hc _ _ _ _ _ P.2⟩, h2, ?_, fun hk => ?_, h5⟩
  · obtain ⟨fl, v, f, hb, hc, e1, ⟨fl', e2⟩, e3⟩ := h3
    exact ⟨fl, v, f, hb, hc, X.at w (ns _ _ _ e1) e1, ⟨fl', X.at w (nb _ _ _ e2) e2⟩, e3⟩
  · obtain ⟨l1, v, b, c, f, ⟨fl, e1⟩, ⟨fl', e2⟩, e3⟩ := h4 hk
    obtain ⟨g1, g2⟩ := hxN_ge e1
    obtain ⟨g3, g4⟩ := hxN_ge e2
    exact ⟨l1, v, b, c, f, ⟨fl, (hxN_of g1).trans (X.at w (ns _ _ _ g2) g2)⟩, ⟨fl', (hxN_of g3).trans (X.at w (nb _ _ _ g4) g4)⟩, e3⟩
def dfB (d : Nat) : List gx_E := [.inr (10, [.ref (d + 1), .ref (d + 3), .ref (d + 5), .ref (d + 7), .int 0]), .inr (0, [.int 0, .ref (d + 2), .int 0]), .inl (4, 10, .inr (.inr (.inr (.inr fun _ => none)))), .inr (0, [.int 0, .ref (d + 4), .int 0]), .inl (4, 8, .inr (.inr (.inr (.inr fun _ => none)))), .inr (0, [.int 0, .ref (d + 6), .int 0]), .inl (4, 3, .inr (.inr (.inr (.inr fun _ => none)))), .inr (0, [.int 0, .ref (d + 8), .int 0]), .inl (4, 24, .inr (.inr (.inr (.inr fun _ => none))))]
theorem d_init {D : gx_D} {h : HX} {n s : Nat} : f_X3_init D (hx_ap n h [.inr (10, gx_df10)] s) n = some (hx_ap n h (dfB n) (s + 57)) := by
  simp [f_X3_init, f_J2_init, f_J1_init, f_J0_init, dfB, gx_df10, gx_df0, ap_new, ap_pv, ap_pv0, ap_gv, ap_gv0, ap_is, ap_is0, ap_len, ap_len0, hx_gi_r, hx_gr_r, hx_pr, hx_pi, gx_b2, gx_bx, Nat.add_assoc, va_rf_s, va_rf_n, hx_okr_n, ap_okr, ap_newa (x := 10) (k := 10) rfl (by decide), ap_newa (x := 8) (k := 8) rfl (by decide), ap_newa (x := 3) (k := 3) rfl (by decide), ap_newa (x := 24) (k := 24) rfl (by decide)]
theorem SL0 {D : gx_D} {n a d : Nat} {h : HX} (hn : n ≤ a) (had : a < d) (hd : d + 17 ≤ h.1) (c1 : ∀ j e, (dfB d)[j]? = some e → h.2.2 (d + j) = some (true, e)) (c2 : ∀ j e, (rnB (d + 9) 0 0 (fun _ => none) (fun _ => 0) (fun _ => 0) (fun _ => 0) (fun _ => 0) (fun _ => 0) 0 0 0)[j]? = some e → h.2.2 (d + 9 + j) = some (true, e)) : SL D n [] h a d S0 := by
  have nl : ∀ {α : Type} {R : HX → Nat → α → Prop} (G : HX) (f : Nat → Option Nat) (k : Nat) (x : α), ([] : List α)[k]? = some x → ∃ b, f k = some b ∧ R G b x := fun G f k x hk => by simp at hk
  refine ⟨hn, had, ⟨hd, by simp⟩, c1 0 _ rfl, ⟨0, _, c1 1 _ rfl, c1 2 _ rfl, Nat.zero_le _, nl _ _⟩, ⟨0, _, c1 3 _ rfl, c1 4 _ rfl, Nat.zero_le _, nl _ _⟩, ⟨0, _, c1 5 _ rfl, c1 6 _ rfl, Nat.zero_le _, nl _ _⟩, ⟨0, _, c1 7 _ rfl, c1 8 _ rfl, Nat.zero_le _, nl _ _⟩, ?_, ⟨0, _, c2 1 _ rfl, c2 2 _ rfl, Nat.zero_le _, nl _ _⟩, ⟨_, c2 3 _ rfl⟩, ⟨_, c2 4 _ rfl⟩, ⟨_, c2 5 _ rfl⟩, ⟨_, c2 6 _ rfl⟩, ⟨_, c2 7 _ rfl⟩⟩
  exact c2 0 _ rfl
theorem c_pini {D : gx_D} {h : HX} {x inp : Nat} {ib : List Nat} (E : EV D h x inp ib) (w : hx_wf h) : ∃ h4 h6 d, hx_new h 9 16 gx_df16 = some (h.1, h4) ∧ f_X11_init D h4 h.1 (some x) = some h6 ∧ kn h.1 h h6 30 ∧ PS D h h.1 [] h6 h.1 x d ib S0 0 := by
  obtain ⟨h4, e4, X4, o4, s4⟩ := x_new (m := 9) (ci := 16) (fs := gx_df16) w (by decide)
  have B0 : HB h h.1 h := ⟨w, hx_sub.rf, Nat.le_refl _, fun z c e => w.lt e⟩
  have B4 := B0.kx X4 (by simp)
  obtain ⟨i1, e1, c1⟩ := hx_pv_e (cis := [16]) (k := 8) (v := va_rf (some x)) o4 (by decide) (by decide)
  obtain ⟨i2, e2, c2⟩ := hx_pv_e (cis := [16, 18]) (k := 5) (v := va_rf (some x)) c1.2.2.1 (by decide) (by simp [gx_df16])
  obtain ⟨i3, e3, c3⟩ := hx_pv_e (cis := [16, 18]) (k := 3) (v := va_rf (some (D.2.2.1 8))) c2.2.2.1 (by decide) (by simp [gx_df16])
  have K3 : hx_kp h4 i3 [h.1] := ((c1.kp (by simp)).tr (c2.kp (by simp))).tr (c3.kp (by simp))
  have B3 := B4.kp (Nat.le_refl _) (by omega) K3
  have P3 : pcl i3 h.1 16 x [.null, .null, .ref x] 0 (nI 0) 0 (some (D.2.2.1 8)) none := ⟨Or.inl rfl, c3.2.2.1⟩
  obtain ⟨j4, e5, X5, T5⟩ := c_advance E B3 (Nat.le_refl _) P3 (Nat.zero_le _)
  have B5 := B3.kx X5 (by simp)
  have lt5 := T5.lt B5.1
  have n0 := ap_new (n := j4.1) (h := j4) (B := []) (s := 0) (m := 5) (ci := 10) (fs := gx_df10)
  rw [ap_0 B5.1] at n0
  obtain ⟨k7, hk7⟩ : ∃ k7, k7 = hx_ap j4.1 j4 (dfB j4.1) (5 + 57) := ⟨_, rfl⟩
  have X7 : kx j4 k7 [] 9 := by rw [hk7]; exact kx.ap2 (by decide) (Nat.le_refl _)
  have s7 : k7.1 = j4.1 + 9 := by rw [hk7]; rfl
  obtain ⟨pf, o5, pd, px, pci⟩ := T5.cell
  have o7 := X7.at B5.1 (by simp) o5
  have pl : 6 < pf.length := by
    have := congrArg List.length pd
    rw [List.length_drop] at this
    have : pf.length - 6 = 3 := this
    omega
  have pl3 : pf.length = 9 := by
    have := congrArg List.length pd
    rw [List.length_drop] at this
    have : pf.length - 6 = 3 := this
    omega
  obtain ⟨k8, e8, c8⟩ := hx_pv_e (cis := [16]) (k := 6) (v := va_rf (some j4.1)) o7 (by decide) pl
  have s8 : k8.1 = j4.1 + 9 := by rw [c8.1, s7]
  have X8 : kx k7 k8 [h.1] 0 := kx.kp X7.2.1 (by simp; omega) (c8.kp (by simp))
  have w8 := X8.2.1
  have n9 := ap_new (n := k8.1) (h := k8) (B := []) (s := 0) (m := 9) (ci := 11) (fs := gx_df11)
  rw [ap_0 w8] at n9
  obtain ⟨k12, hk12⟩ : ∃ k12, k12 = hx_ap k8.1 k8 (rnB k8.1 0 0 (fun _ => none) (fun _ => 0) (fun _ => 0) (fun _ => 0) (fun _ => 0) (fun _ => 0) 0 0 0) (9 + 94) := ⟨_, rfl⟩
  have X12 : kx k8 k12 [] 9 := by rw [hk12]; exact kx.ap2 (by decide) (show 8 ≤ 9 by decide)
  have s12 : k12.1 = k8.1 + 8 := by rw [hk12]; rfl
  have o12 := X12.at w8 (by simp) c8.2.2.1
  obtain ⟨k13, e13, c13⟩ := hx_pv_e (cis := [16]) (k := 7) (v := va_rf (some k8.1)) o12 (by decide) (by rw [List.length_set]; omega)
  have X13 : kx k12 k13 [h.1] 0 := kx.kp X12.2.1 (by simp; omega) (c13.kp (by simp))
  have XX : kx j4 k13 [h.1] 18 := (((X7.up (by simp) (Nat.le_refl _)).tr X8).tr (X12.up (by simp) (Nat.le_refl _))).tr X13
  have T13 : PT D h.1 k13 h.1 16 x (sR j4.1 x) ib 0 := T5.rst B5.1 XX (fun st nx vl wd tk e => by
    rw [o5] at e
    have e := Option.some.inj e
    simp only [Prod.mk.injEq, Sum.inr.injEq, true_and] at e
    rw [c13.2.2.1, e, s8]
    rfl)
  have cc1 : ∀ j e, (dfB j4.1)[j]? = some e → k13.2.2 (j4.1 + j) = some (true, e) := fun j e he => by
    have hj := (List.getElem?_eq_some_iff.1 he).1
    have hj : j < 9 := hj
    rw [c13.2.2.2 _ (by omega), X12.2.2.1 _ (by omega) (by simp), c8.2.2.2 _ (by omega), hk7, ap_at, he]
    rfl
  have cc2 : ∀ j e, (rnB (j4.1 + 9) 0 0 (fun _ => none) (fun _ => 0) (fun _ => 0) (fun _ => 0) (fun _ => 0) (fun _ => 0) 0 0 0)[j]? = some e → k13.2.2 (j4.1 + 9 + j) = some (true, e) := fun j e he => by
    rw [c13.2.2.2 _ (by omega), hk12, ← s8, ap_at]
    rw [← s8] at he
    rw [he]
    rfl
  have X03 : kx h i3 [] 1 := ⟨by rw [K3.1]; exact X4.1, B3.1, fun z hz _ => (K3.2.2 z (by simp; omega)).trans (X4.2.2.1 z hz (by simp)), by rw [K3.1]; exact X4.2.2.2.1, by rw [K3.2.1]; exact X4.2.2.2.2.1, by rw [K3.2.1]; exact X4.2.2.2.2.2⟩
  have XA : kn h.1 h k13 (1 + (4 + 18)) := (X03.n (by simp) (Nat.le_refl _)).tr ((X5.n (by simp) B3.2.2.1).tr (XX.n (by simp) B5.2.2.1))
  refine ⟨h4, k13, j4.1, e4, ?_, XA.up (by decide), B5.kx XX (by simp), T13, SL0 (Nat.le_refl _) lt5 (by rw [c13.1]; omega) cc1 cc2, Nat.zero_le _, by simp⟩
  unfold f_X11_init f_X10_init
  have i6 : f_X3_init D (hx_ap j4.1 j4 ([] ++ [.inr (10, gx_df10)]) (0 + 5)) (j4.1 + ([] : List gx_E).length) = some k7 := by
    rw [hk7]
    exact d_init
  have i12 : f_X4_init D (hx_ap k8.1 k8 ([] ++ [.inr (11, gx_df11)]) (0 + 9)) (k8.1 + ([] : List gx_E).length) = some k12 := by
    rw [hk12]
    exact r_init
  have g1 : hx_pr h4 h.1 [16] 8 (some x) = some i1 := e1
  have g2 : hx_pr i1 h.1 [16, 18] 5 (some x) = some i2 := e2
  have g3 : hx_pr i2 h.1 [16, 18] 3 (some (D.2.2.1 8)) = some i3 := e3
  have g8 : hx_pr k7 h.1 [16] 6 (some (j4.1 + ([] : List gx_E).length)) = some k8 := e8
  have g13 : hx_pr k12 h.1 [16] 7 (some (k8.1 + ([] : List gx_E).length)) = some k13 := e13
  rw [g1, Option.bind_some, g2, Option.bind_some, g3, Option.bind_some, e5, Option.bind_some, Option.bind_some, n0, pl_b2_s, i6, Option.bind_some, g8, Option.bind_some, n9, pl_b2_s, i12, Option.bind_some, g13, Option.bind_some]
theorem hxN_sw {n : Nat} {hE h1 : HX} {W : List Nat} (wE : hx_wf hE) (e1 : h1.1 = hE.1) (k : ∀ z, n ≤ z → h1.2.2 z = hE.2.2 z) (hW : ∀ z, z ∈ W → z < n) : hx_sw (hxN n hE) (hzw h1 W) := fun z b e he => by
  obtain ⟨c1, c2⟩ := hxN_ge he
  refine ⟨false, ?_⟩
  show (if z < h1.1 ∧ z ∉ W then (h1.2.2 z).map fun c => (false, c.2) else none) = _
  rw [if_pos ⟨by rw [e1]; exact wE.lt c2, fun m => by have := hW z m; omega⟩, k z c1, c2]
  rfl
/-- what a parse finds, out of what holds ahead of a call; the error is cleared -/
theorem c_open {D : gx_D} {h : HX} {Y : YT} {A : AT} (H : cI D h Y A) (K : KC D h) : ∃ i2 ov cap op d r p fnd dl as, f_X1_clearError D h Y.1 = some i2 ∧ hx_is h Y.1 [9] = some () ∧ hx_kp h i2 [Y.1] ∧ hx_wf i2 ∧ EV D i2 Y.1 Y.2.1 A.2.2.2.2.1 ∧ i2.2.2 Y.1 = some (true, .inr (9, x_fs op Y.2.1 d r Y.2.2.1 Y.2.2.2.2.1 Y.2.2.2.2.2.1 Y.2.2.2.2.2.2.1 Y.2.2.2.2.2.2.2.1 p (nI A.2.2.2.2.1.length) 0 (-1) fnd dl)) ∧ cG D h (hzf h) Y ov A ∧ hx_wf h ∧
    h.2.2 Y.1 = some (true, .inr (9, x_fs op Y.2.1 d r Y.2.2.1 Y.2.2.2.2.1 Y.2.2.2.2.2.1 Y.2.2.2.2.2.2.1 Y.2.2.2.2.2.2.2.1 p (nI A.2.2.2.2.1.length) A.2.2.2.2.2.1 A.2.2.2.2.2.2.1 fnd dl)) ∧ in_ok h Y.2.1 A.2.2.2.2.1 ∧ hx_sb8 h Y.2.2.2.2.2.2.2.1 ov cap A.2.2.2.2.2.2.2 ∧ dq h Y.2.2.1 Y.2.2.2.1 as ∧ (hs_ok D (hzf h) as A.2.2.2.1 ∧ hx_df D (hzf h) d A.1 ∧ hx_rn D (hzf h) r A.2.1 ∧ sv_ok D (hzf h) p A.2.2.1) ∧ (Y.1 ≠ Y.2.1 ∧ Y.1 ≠ Y.2.2.1 ∧ Y.1 ≠ Y.2.2.2.1 ∧ Y.1 ≠ Y.2.2.2.2.2.2.2.1 ∧ Y.1 ≠ ov ∧ Y.2.1 ≠ Y.2.2.1 ∧ Y.2.1 ≠ Y.2.2.2.1 ∧ Y.2.1 ≠ Y.2.2.2.2.2.2.2.1 ∧ Y.2.1 ≠ ov ∧ Y.2.2.1 ≠ Y.2.2.2.2.2.2.2.1 ∧ Y.2.2.1 ≠ ov ∧ Y.2.2.2.1 ≠ Y.2.2.2.2.2.2.2.1 ∧ Y.2.2.2.1 ≠ ov ∧ Y.2.2.2.2.2.2.2.1 ≠ ov) ∧ a_ok A ∧ gx_apt D ∧ gx_apt2 D ∧ hx_sub (hzf h) i2 := by
  obtain ⟨ov, cap, op, d, r, p, fnd, dl, as, HG, w, hx, hin, hsb, hdq, hG, ⟨gop, t, op1, op2, op3⟩, ds, hA, ap1, ap2⟩ := H.all
  obtain ⟨i1, e1, c1⟩ := hx_pv_e (cis := [9]) (k := 3) (v := .int 0) hx (by decide) (by simp [x_fs])
  obtain ⟨i2, e2, c2⟩ := hx_pv_e (cis := [9]) (k := 4) (v := .int (-1)) c1.2.2.1 (by decide) (by simp [x_fs])
  have K2 : hx_kp h i2 [Y.1] := (c1.kp (by simp)).tr (c2.kp (by simp))
  have is9 := (hx_ob.mk hx).is (show 9 ∈ [9] by decide)
  have w2 : hx_wf i2 := wf_ch w (by simp [w.lt hx]) K2
  have s2 : hx_sub (hzf h) i2 := fun z c e => by
    obtain ⟨k1, k2, k3⟩ := hzf_eq e
    obtain ⟨b, v⟩ := c
    simp only at k2
    subst k2
    rw [K2.2.2 z (fun m => ?_), k3]
    simp only [List.mem_cons, List.not_mem_nil, or_false] at m
    rw [m, hx] at k3
    cases k3
  refine ⟨i2, ov, cap, op, d, r, p, fnd, dl, as, ?_, is9, K2, w2, ⟨⟨op, t, gop, _, ⟨true, c2.2.2.1⟩, rfl, rfl, rfl, op1.sub s2, op2, op3⟩, ?_, ⟨hA.2.2.2.2.2.1, ?_⟩, fun i cs hi => (K.1 i cs hi).sub s2, ?_, ?_, K.2.2.2.2⟩, c2.2.2.1, HG, w, hx, hin, hsb, hdq, hG, ds, hA, ap1, ap2, s2⟩
  · unfold f_X1_clearError hx_pi
    rw [is9, Option.bind_some, e1, Option.bind_some, e2, Option.bind_some]
  · obtain ⟨fib, f1, f2⟩ := hin
    exact ⟨fib, ⟨true, (K2.2.2 _ (by simp [Ne.symm ds.1])).trans f1⟩, fun k b hk => (f2 k b hk).1⟩
  · obtain ⟨fib, f1, f2⟩ := hin
    exact fun k b hk => (f2 k b hk).2
  · obtain ⟨v, hv⟩ := K.2.1
    exact ⟨v, hv.sub s2⟩
  · obtain ⟨m, f, f1, f2⟩ := K.2.2.2.1
    exact ⟨m, f, f1.sub s2, f2⟩
/-- a parse that fails -/
theorem c_fail {D : gx_D} {i2 h h9 : HX} {Y : YT} {F : DF} {R : RN} {sv : Option RN} {hs : List RN} {ib ob : List Nat} {ec eo : Int32} {ov cap op d r q k : Nat} {p : Option Nat} {fnd dl : Int32} {as : List Nat} {e : Nat × Nat} (HG : cG D h (hzf h) Y ov (F, R, sv, hs, ib, ec, eo, ob)) (w : hx_wf h)
    (hx : h.2.2 Y.1 = some (true, .inr (9, x_fs op Y.2.1 d r Y.2.2.1 Y.2.2.2.2.1 Y.2.2.2.2.2.1 Y.2.2.2.2.2.2.1 Y.2.2.2.2.2.2.2.1 p (nI ib.length) ec eo fnd dl))) (hin : in_ok h Y.2.1 ib) (hsb : hx_sb8 h Y.2.2.2.2.2.2.2.1 ov cap ob) (hdq : dq h Y.2.2.1 Y.2.2.2.1 as) (hG : hs_ok D (hzf h) as hs ∧ hx_df D (hzf h) d F ∧ hx_rn D (hzf h) r R ∧ sv_ok D (hzf h) p sv)
    (ds : Y.1 ≠ Y.2.1 ∧ Y.1 ≠ Y.2.2.1 ∧ Y.1 ≠ Y.2.2.2.1 ∧ Y.1 ≠ Y.2.2.2.2.2.2.2.1 ∧ Y.1 ≠ ov) (K2 : hx_kp h i2 [Y.1]) (hx2 : i2.2.2 Y.1 = some (true, .inr (9, x_fs op Y.2.1 d r Y.2.2.1 Y.2.2.2.2.1 Y.2.2.2.2.2.1 Y.2.2.2.2.2.2.1 Y.2.2.2.2.2.2.2.1 p (nI ib.length) 0 (-1) fnd dl))) (X : kn i2.1 i2 h9 k) (M : exn h9 q e) : ∃ h1, (gx_b2 (f_X1_fail D h9 Y.1 (some q)) fun x37 h38 => (hx_pi h38 Y.1 [9] 2 (0 : Int32)).bind fun h39 => some (x37, h39)) = some (-1, h1) ∧ cE D h1 Y (F, R, sv, hs, [], nI e.1, nI e.2, ob) ∧ h1.1 = h9.1 ∧ h1.2.1 = h9.2.1 := by
  have lt := w.lt hx
  have lt2 : Y.1 < i2.1 := by rw [K2.1]; exact lt
  have hx9 := (X.2.2.1 Y.1 lt2).trans hx2
  obtain ⟨fs, q1, q2, q3⟩ := M
  have nq : q ≠ Y.1 := fun c => by
    obtain ⟨b, q1⟩ := q1
    rw [c, hx9] at q1
    cases q1
  obtain ⟨j1, e1, c1⟩ := hx_pv_e (cis := [9]) (k := 3) (v := .int (nI e.1)) hx9 (by decide) (by simp [x_fs])
  have q1' : hx_ob j1 q 17 fs := by
    obtain ⟨b, q1⟩ := q1
    exact ⟨b, (c1.2.2.2 q nq).trans q1⟩
  obtain ⟨j2, e2, c2⟩ := hx_pv_e (cis := [9]) (k := 4) (v := .int (nI e.2)) c1.2.2.1 (by decide) (by simp [x_fs])
  obtain ⟨j3, e3, c3⟩ := hx_pv_e (cis := [9]) (k := 2) (v := .int 0) c2.2.2.1 (by decide) (by simp [x_fs])
  have K9 : hx_kp h9 j3 [Y.1] := ((c1.kp (by simp)).tr (c2.kp (by simp))).tr (c3.kp (by simp))
  have at' : ∀ z, z < h.1 → z ≠ Y.1 → j3.2.2 z = h.2.2 z := fun z hz nz => (K9.2.2 z (by simp [nz])).trans ((X.2.2.1 z (by rw [K2.1]; exact hz)).trans (K2.2.2 z (by simp [nz])))
  have w3 : hx_wf j3 := wf_ch X.2.1 (by simp; exact Nat.lt_of_lt_of_le lt2 X.1) K9
  obtain ⟨fib, f1, f2⟩ := hin
  have b1 := sb_lt w hsb
  obtain ⟨ne, hd, g, m2, m3, m4⟩ := id hdq
  refine ⟨j3, ?_, ?_, K9.1, K9.2.1⟩
  · unfold f_X1_fail
    rw [(hx_ob.mk hx9).is (by decide), Option.bind_some, Option.bind_some, q1.gi (by decide) q2, Option.bind_some, hx_pi, e1, Option.bind_some, q1'.gi (by decide) q3, Option.bind_some, hx_pi, e2, Option.bind_some, pl_b2_s, hx_pi, e3, Option.bind_some]
  · refine cI.fin (ov1 := ov) (cap1 := cap) (d1 := d) (r1 := r) (p1 := p) (fnd1 := fnd) (dl1 := dl) (as1 := as) HG w hx (by have := X.1; rw [K9.1]; rw [K2.1] at this; exact this) w3 (Or.inl rfl) (fun z hz hn => at' z hz (fun c => hn (by simp [W5, c]))) c3.2.2.1 ⟨fib, (at' _ (w.lt f1) (Ne.symm ds.1)).trans f1, fun k b hk => by simp at hk⟩ (hsb.kp (at' _ b1.1 (Ne.symm ds.2.2.2.1)) (at' _ b1.2 (Ne.symm ds.2.2.2.2))) (hdq.kp (at' _ (w.lt m2) (Ne.symm ds.2.1)) (at' _ (w.lt m3) (Ne.symm ds.2.2.1))) (hG_same (A := (F, R, sv, hs, ib, ec, eo, ob)) hG)
theorem c_loadMachine {D : gx_D} {h : HX} {Y : YT} {A : AT} (H : cI D h Y A) (K : KC D h) : ∃ r h1 A', f_X1_loadMachine D h Y.1 = some (r, h1) ∧ cE D h1 Y A' ∧ bnd h h1 16300 195600 ∧ (match pSetup A.2.2.2.2.1 with
    | .inl e => r = -1 ∧ A' = (A.1, A.2.1, A.2.2.1, A.2.2.2.1, [], nI e.1, nI e.2, A.2.2.2.2.2.2.2)
    | .inr S => r = nI S.1.sn.length ∧ sp_ok S ∧ A' = (S.1, rnNew S, none, [], [], 0, -1, A.2.2.2.2.2.2.2)) := by
  obtain ⟨F, R, sv, hs, ib, ec, eo, ob⟩ := A
  obtain ⟨i2, ov, cap, op, d0, r0, p, fnd, dl, as, e0, is9, K2, w2, E, hx2, HG, w, hx, hin, hsb, hdq, hG, ds, hA, ap1, ap2, s2⟩ := c_open H K
  simp only at E hx2 hx hin hsb hG
  obtain ⟨h4, h6, d, e4, e6, X6, H6⟩ := c_pini E w2
  have hl : ib.length ≤ 700 := E.ok.1
  obtain ⟨h9, X9, C9⟩ := c_loop ap1 ap2 E 701 701 0 h6 S0 gx_fuel 1000 (Nat.le_refl _) (by omega) H6 sp_ok0 (by rw [pl_fl]; decide) (by decide)
  have e7 : f_X11_parse D h6 i2.1 = f_X11_parse_b0 D gx_fuel h6 i2.1 := by
    unfold f_X11_parse
    rw [H6.2.1.made.1, Option.bind_some]
  have lt := w.lt hx
  have lt2 : Y.1 < i2.1 := by rw [K2.1]; exact lt
  have start : f_X1_loadMachine D h Y.1 = gx_bx (f_X11_parse_b0 D gx_fuel h6 i2.1) (fun r8 h9 =>
      (hx_pr h9 Y.1 [9] 6 r8).bind fun h12 => (hx_gr h12 i2.1 [16] 6).bind fun r13 => (hx_pr h12 Y.1 [9] 5 r13).bind fun h14 => (hx_gr h14 Y.1 [9] 8).bind fun r15 => r15.bind fun a16 => (f_J17_clear D h14 a16).bind fun h18 => (hx_pr h18 Y.1 [9] 7 none).bind fun h19 => (hx_gr h19 Y.1 [9] 5).bind fun r20 => r20.bind fun a21 => (hx_gr h19 a21 [10] 0).bind fun r22 => r22.bind fun a23 => (f_J2_size D h19 a23).bind fun x25 => (hx_pi h19 Y.1 [9] 2 (0 : Int32)).bind fun h26 => some (x25, h26)) fun E10 q11 h9 => if E10 = "ContractMachine$ParseException" then gx_b2 (f_X1_fail D h9 Y.1 (some q11)) fun x37 h38 => (hx_pi h38 Y.1 [9] 2 (0 : Int32)).bind fun h39 => some (x37, h39) else none := by
    unfold f_X1_loadMachine
    rw [is9, Option.bind_some, e0, Option.bind_some, e4, pl_b2_s, e6, Option.bind_some, e7]
  have X69 := X6.tr X9
  have bd : ∀ h1 : HX, ∀ hh : HX, kn i2.1 i2 hh (30 + (23 * 701 + 90) + 1) → h1.1 = hh.1 → h1.2.1 = hh.2.1 → bnd h h1 16300 195600 := fun h1 hh X k1 k2 => by
    obtain ⟨a1, a2, a3, a4, a5, a6⟩ := X
    rw [K2.1] at a1 a4
    rw [K2.2.1] at a5 a6
    exact ⟨by omega, by omega, by omega, by omega⟩
  have er : ∀ (hE : HX) (q : Nat) (e : Nat × Nat), kn i2.1 i2 hE (30 + (23 * 701 + 90) + 1) → f_X11_parse_b0 D gx_fuel h6 i2.1 = some (.inr (cPE, q), hE) → exn hE q e → ∃ r h1 A', f_X1_loadMachine D h Y.1 = some (r, h1) ∧ cE D h1 Y A' ∧ bnd h h1 16300 195600 ∧ r = -1 ∧ A' = (F, R, sv, hs, [], nI e.1, nI e.2, ob) := fun hE q e X eq M => by
    obtain ⟨h1, f1, f2, f3, f4⟩ := c_fail HG w hx hin hsb hdq hG ⟨ds.1, ds.2.1, ds.2.2.1, ds.2.2.2.1, ds.2.2.2.2.1⟩ K2 hx2 X M
    refine ⟨-1, h1, _, ?_, f2, bd h1 hE X f3 f4, rfl, rfl⟩
    rw [start, eq, pl_bx_r, if_pos (show cPE = "ContractMachine$ParseException" from rfl), f1]
  have ps : pSetup ib = match pLoop ib 1000 S0 0 with
      | .inl e => .inl e
      | .inr v => pEnd ib v.1 v.2 := by
    unfold pSetup
    cases pLoop ib 1000 S0 0 with
    | inl e => rfl
    | inr v => rfl
  show ∃ r h1 A', f_X1_loadMachine D h Y.1 = some (r, h1) ∧ cE D h1 Y A' ∧ bnd h h1 16300 195600 ∧ (match pSetup ib with
    | .inl e => r = -1 ∧ A' = (F, R, sv, hs, [], nI e.1, nI e.2, ob)
    | .inr S => r = nI S.1.sn.length ∧ sp_ok S ∧ A' = (S.1, rnNew S, none, [], [], 0, -1, ob))
  rw [ps]
  cases em : pLoop ib 1000 S0 0 with
  | inl e =>
    rw [em] at C9
    obtain ⟨q, q1, q2⟩ := C9
    exact er h9 q e (X69.up (by decide)) q1 q2
  | inr v =>
    obtain ⟨S, pe⟩ := v
    rw [em] at C9
    obtain ⟨q1, q2, q3⟩ := C9
    obtain ⟨hE, XE, m1, m2, CE⟩ := c_pend ap1 E q2 q3
    have X9E := X69.tr XE
    simp only
    cases ee : pEnd ib S pe with
    | inl e =>
      rw [ee] at CE
      obtain ⟨q, q4, q5⟩ := CE
      exact er hE q e X9E (q1.trans q4) q5
    | inr S' =>
      rw [ee] at CE
      obtain ⟨q4, q5, q6⟩ := CE
      have eS : S' = S := by
        unfold pEnd at ee
        split at ee
        · cases ee
        · split at ee
          · cases ee
          · cases ee; rfl
      subst eS
      simp only
      have hxE := (X9E.2.2.1 Y.1 lt2).trans hx2
      have sl := hx_df.sub hxN_sub q5
      obtain ⟨z1, z2, z3, z4, l1, l2, _⟩ := id sl
      have nd : d ≠ Y.1 := fun c => by
        obtain ⟨b, l1⟩ := l1
        rw [c, hxE] at l1
        cases l1
      have na : i2.1 ≠ Y.1 := by omega
      obtain ⟨j1, e1, c1⟩ := hx_pv_e (cis := [9]) (k := 6) (v := va_rf (some (d + 9))) hxE (by decide) (by simp [x_fs])
      have m1' : hx_gr j1 i2.1 [16] 6 = some (some d) := by
        rw [hx_gr_r] at m2 ⊢
        have : hx_gv j1 i2.1 [16] 6 = hx_gv hE i2.1 [16] 6 := by
          unfold hx_gv
          rw [c1.2.2.2 i2.1 na]
        rw [this, m2]
      obtain ⟨j2, e2, c2⟩ := hx_pv_e (cis := [9]) (k := 5) (v := va_rf (some d)) c1.2.2.1 (by decide) (by simp [x_fs])
      have K2' : hx_kp hE j2 [Y.1] := (c1.kp (by simp)).tr (c2.kp (by simp))
      obtain ⟨ne, hd, g, dd2, dd3, dd4⟩ := id hdq
      have at2 : ∀ z, z < h.1 → z ≠ Y.1 → j2.2.2 z = h.2.2 z := fun z hz nz => (K2'.2.2 z (by simp [nz])).trans ((X9E.2.2.1 z (by rw [K2.1]; exact hz)).trans (K2.2.2 z (by simp [nz])))
      have dq2 : dq j2 Y.2.2.1 Y.2.2.2.1 as := hdq.kp (at2 _ (w.lt dd2) (Ne.symm ds.2.1)) (at2 _ (w.lt dd3) (Ne.symm ds.2.2.1))
      obtain ⟨j3, e3, dq3, K3⟩ := dq_clear (D := D) dq2
      have hx3 := (K3.2.2 Y.1 (by simp [ds.2.1, ds.2.2.1])).trans c2.2.2.1
      obtain ⟨j4, e4', c4⟩ := hx_pv_e (cis := [9]) (k := 7) (v := va_rf none) hx3 (by decide) (by simp [x_fs])
      obtain ⟨j5, e5, c5⟩ := hx_pv_e (cis := [9]) (k := 2) (v := .int 0) c4.2.2.1 (by decide) (by simp [x_fs])
      have n3 : hx_kp hE j4 [Y.1, Y.2.2.1, Y.2.2.2.1] := by
        have w' : ∀ {h h' : HX} {L L' : List Nat}, hx_kp h h' L → (∀ z, z ∈ L → z ∈ L') → hx_kp h h' L' := fun k hL => ⟨k.1, k.2.1, fun z hz => k.2.2 z (fun m => hz (hL z m))⟩
        exact ((w' K2' (by simp)).tr (w' K3 (by simp))).tr (c4.kp (by simp))
      have n5 : hx_kp hE j5 [Y.1, Y.2.2.1, Y.2.2.2.1] := n3.tr (c5.kp (by simp))
      have ltW : Y.1 < i2.1 ∧ Y.2.2.1 < i2.1 ∧ Y.2.2.2.1 < i2.1 := ⟨lt2, by rw [K2.1]; exact w.lt dd2, by rw [K2.1]; exact w.lt dd3⟩
      have hi : ∀ z, i2.1 ≤ z → z ∉ [Y.1, Y.2.2.1, Y.2.2.2.1] := fun z hz m => by
        simp only [List.mem_cons, List.not_mem_nil, or_false] at m
        omega
      have w5 : hx_wf j5 := wf_ch X9E.2.1 (by
        intro z hz
        have := X9E.1
        simp only [List.mem_cons, List.not_mem_nil, or_false] at hz
        omega) n5
      have sl4 : hx_df D j4 d S'.1 := hx_df.sub (fun z c e => by
        obtain ⟨g1, g2⟩ := hxN_ge e
        rw [n3.2.2 z (hi z g1), g2]) q5
      obtain ⟨y1, y2, y3, y4, t1, t2, _⟩ := id sl4
      refine ⟨nI S'.1.sn.length, j5, (S'.1, rnNew S', none, [], [], 0, -1, ob), ?_, ?_, bd j5 hE X9E n5.1 n5.2.1, rfl, q3, rfl⟩
      · rw [start, q1, q4, pl_bx_l, hx_pr, e1, Option.bind_some, m1', Option.bind_some, hx_pr, e2, Option.bind_some, (hx_ob.mk c2.2.2.1).gr (by decide) (k := 8) (r := some Y.2.2.1) rfl, Option.bind_some, Option.bind_some, e3, Option.bind_some, hx_pr, e4', Option.bind_some, (hx_ob.mk c4.2.2.1).gr (by decide) (k := 5) (r := some d) rfl, Option.bind_some, Option.bind_some, t1.gr (by decide) (k := 0) (r := some y1) rfl, Option.bind_some, Option.bind_some, t2.len, Option.bind_some, hx_pi, e5, Option.bind_some]
      · have at5 : ∀ z, z < h.1 → z ≠ Y.1 → z ≠ Y.2.2.1 → z ≠ Y.2.2.2.1 → j5.2.2 z = h.2.2 z := fun z hz z1 z2 z3 => (n5.2.2 z (by simp [z1, z2, z3])).trans ((X9E.2.2.1 z (by rw [K2.1]; exact hz)).trans (K2.2.2 z (by simp [z1])))
        obtain ⟨fib, f1, f2⟩ := hin
        have b1 := sb_lt w hsb
        have hW := HG.W
        refine cI.fin (ov1 := ov) (cap1 := cap) (d1 := d) (r1 := d + 9) (p1 := none) (fnd1 := fnd) (dl1 := dl) (as1 := []) HG w hx (by have := X9E.1; rw [K2.1] at this; rw [n5.1]; exact this) w5 (Or.inl rfl) (fun z hz hn => at5 z hz (fun c => hn (by simp [W5, c])) (fun c => hn (by simp [W5, c])) (fun c => hn (by simp [W5, c]))) c5.2.2.1 ⟨fib, (at5 _ (w.lt f1) (Ne.symm ds.1) ds.2.2.2.2.2.1 ds.2.2.2.2.2.2.1).trans f1, fun k b hk => by simp at hk⟩ (hsb.kp (at5 _ b1.1 (Ne.symm ds.2.2.2.1) (Ne.symm ds.2.2.2.2.2.2.2.2.2.1) (Ne.symm ds.2.2.2.2.2.2.2.2.2.2.2.1)) (at5 _ b1.2 (Ne.symm ds.2.2.2.2.1) (Ne.symm ds.2.2.2.2.2.2.2.2.2.2.1) (Ne.symm ds.2.2.2.2.2.2.2.2.2.2.2.2.1))) (dq3.kp ?_ ?_) (fun _ => ?_)
        · exact (c5.2.2.2 _ (Ne.symm ds.2.1)).trans (c4.2.2.2 _ (Ne.symm ds.2.1))
        · exact (c5.2.2.2 _ (Ne.symm ds.2.2.1)).trans (c4.2.2.2 _ (Ne.symm ds.2.2.1))
        · have sw := hxN_sw (n := i2.1) (W := W_ Y ov) X9E.2.1 n5.1 (fun z hz => n5.2.2 z (hi z hz)) (fun z hz => by
            obtain ⟨e, he⟩ := hW z hz
            rw [K2.1]
            exact w.lt he)
          exact ⟨⟨rfl, fun k a R hk => by simp at hk⟩, q5.sw sw, q6.sw sw, rfl⟩
