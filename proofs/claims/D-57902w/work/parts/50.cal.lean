/-! calls that change the run -/
set_option maxRecDepth 100000
set_option linter.unusedSimpArgs false
/-- the same but for flags -/
def hx_sw (g h : HX) : Prop := ∀ (a : Nat) (b : Bool) (e : gx_E), g.2.2 a = some (b, e) → ∃ b', h.2.2 a = some (b', e)
theorem hx_ob.sw {g h : HX} {a ci : Nat} {fs : List Value} (s : hx_sw g h) (H : hx_ob g a ci fs) : hx_ob h a ci fs := by
  obtain ⟨b, e⟩ := H
  exact s _ _ _ e
theorem hx_oi.sw {g h : HX} {a t n : Nat} {f : Nat → Int32} (s : hx_sw g h) (H : hx_oi g a t n f) : hx_oi h a t n f := by
  obtain ⟨b, e⟩ := H
  exact s _ _ _ e
theorem hx_or.sw {g h : HX} {a t n : Nat} {f : Nat → Option Nat} (s : hx_sw g h) (H : hx_or g a t n f) : hx_or h a t n f := by
  obtain ⟨b, e⟩ := H
  exact s _ _ _ e
theorem hx_li.sw {g h : HX} {a n : Nat} {xs : List Nat} (s : hx_sw g h) (H : hx_li g a n xs) : hx_li h a n xs := by
  obtain ⟨mc, e, f, h1, h2, h3⟩ := H
  exact ⟨mc, e, f, h1.sw s, h2.sw s, h3⟩
theorem hx_lst.sw {α : Type} {R : HX → Nat → α → Prop} {g h : HX} {a n : Nat} {xs : List α} (s : hx_sw g h) (hR : ∀ b x, R g b x → R h b x) (H : hx_lst R g a n xs) : hx_lst R h a n xs := by
  obtain ⟨as, h1, h2, h3⟩ := H
  exact ⟨as, h1.sw s, h2, fun k x b hk hb => hR b x (h3 k x b hk hb)⟩
theorem hx_str.sw {g h : HX} {a : Nat} {cs : List Nat} (s : hx_sw g h) (H : hx_str g a cs) : hx_str h a cs := by
  obtain ⟨v, b, c, f, h1, h2, h3⟩ := H
  exact ⟨v, b, c, f, h1.sw s, h2.sw s, h3⟩
theorem hx_iv.sw {D : gx_D} {g h : HX} {a : Nat} {i : IV} (s : hx_sw g h) (H : hx_iv D g a i) : hx_iv D h a i := by
  obtain ⟨h0, c, h1, h2⟩ := H
  exact ⟨h0, c, h1.sw s, hx_ob.sw s h2⟩
theorem hx_tr.sw {D : gx_D} {g h : HX} {a : Nat} {t : TR} (s : hx_sw g h) (H : hx_tr D g a t) : hx_tr D h a t := by
  obtain ⟨h0, u, c, h1, h2, h3⟩ := H
  refine ⟨h0, u, c, h1.sw s, ?_, ?_⟩
  · revert h2
    cases t.2.2.2.1 with
    | none => exact fun h => h
    | some p => exact fun ⟨x, e, hp⟩ => ⟨x, e, hx_ob.sw s hp⟩
  · revert h3
    cases t.2.2.2.2 with
    | none => exact fun h => h
    | some p => exact fun ⟨x, e, hp⟩ => ⟨x, e, hx_ob.sw s hp⟩
theorem hx_ar5.sw {g h : HX} {a n : Nat} {f : Nat → Int32} (s : hx_sw g h) (H : hx_ar5 g a n f) : hx_ar5 h a n f := by
  obtain ⟨u, h1, h2⟩ := H
  exact ⟨u, h1.sw s, h2⟩
theorem hx_df.sw {D : gx_D} {g h : HX} {d : Nat} {F : DF} (s : hx_sw g h) (H : hx_df D g d F) : hx_df D h d F := by
  obtain ⟨a, e, v, t, h1, h2, h3, h4, h5⟩ := H
  exact ⟨a, e, v, t, h1.sw s, h2.sw s (fun _ _ => hx_str.sw s), h3.sw s (fun _ _ => hx_str.sw s), h4.sw s (fun _ _ => hx_str.sw s), h5.sw s (fun _ _ => hx_tr.sw s)⟩
theorem hx_rn.sw {D : gx_D} {g h : HX} {r : Nat} {R : RN} (s : hx_sw g h) (H : hx_rn D g r R) : hx_rn D h r R := by
  obtain ⟨i, a1, a2, a3, a4, a5, ge, gt, h1, h2, h3, h4, h5, h6, h7, h8⟩ := H
  exact ⟨i, a1, a2, a3, a4, a5, ge, gt, h1.sw s, h2.sw s (fun _ _ => hx_iv.sw s), h3.sw s, h4.sw s, h5.sw s, h6.sw s, h7.sw s, h8⟩
theorem hzw_sw {h : HX} {W : List Nat} : hx_sw (hzw h W) h := fun a b e he => by
  have he : (if a < h.1 ∧ a ∉ W then (h.2.2 a).map fun c => (false, c.2) else none) = some (b, e) := he
  by_cases c : a < h.1 ∧ a ∉ W
  · rw [if_pos c] at he
    obtain ⟨v, h1, h2⟩ := Option.map_eq_some_iff.1 he
    obtain ⟨x, y⟩ := v
    cases h2
    exact ⟨x, h1⟩
  · rw [if_neg c] at he
    cases he
theorem cI.ext {D : gx_D} {h h1 : HX} {Y : YT} {A : AT} (H : cI D h Y A) (l : h.1 ≤ h1.1) (w1 : hx_wf h1) (k : ∀ z, z < h.1 → h1.2.2 z = h.2.2 z) : cI D h1 Y A := by
  obtain ⟨ov, w, H, hA, ap1, ap2⟩ := H
  have sub : hx_sub (hzf h) (hzf h1) := zf_sub_of l fun z c hz he _ => by rw [k z hz, he]
  have tr : ∀ z c, h.2.2 z = some c → h1.2.2 z = some c := fun z c he => by rw [k z (w.lt he), he]
  refine ⟨ov, w1, cG.sub sub ?_, hA, ap1, ap2⟩
  obtain ⟨op, d, r, cap, t, p, fnd, dl, fib, as, gop, k1, k2, ⟨k3, k3'⟩, ⟨⟨ne, hd, g, k4, k4', k4''⟩, k5⟩, ⟨⟨f1, k6⟩, ⟨f2, k6'⟩, ⟨f3, k6''⟩⟩, ⟨ml, fo, k7, k7', k7''⟩, ⟨f4, k8⟩, k9⟩ := H
  exact ⟨op, d, r, cap, t, p, fnd, dl, fib, as, gop, tr _ _ k1, k2, ⟨tr _ _ k3, k3'⟩, ⟨⟨ne, hd, g, tr _ _ k4, tr _ _ k4', k4''⟩, k5⟩, ⟨⟨f1, tr _ _ k6⟩, ⟨f2, tr _ _ k6'⟩, ⟨f3, tr _ _ k6''⟩⟩, ⟨ml, fo, tr _ _ k7, tr _ _ k7', k7''⟩, ⟨f4, tr _ _ k8⟩, k9⟩
/-- behind changed(): the run is a block at h.1, and the machine points there -/
def chg (D : gx_D) (h hb : HX) (Y : YT) (A : AT) : Prop := ∃ (ov op d r : Nat) (p : Option Nat) (fnd dl : Int32) (as' : List Nat), cG D h (hzf h) Y ov A ∧ h.2.2 Y.1 = some (true, .inr (9, x_fs op Y.2.1 d r Y.2.2.1 Y.2.2.2.2.1 Y.2.2.2.2.2.1 Y.2.2.2.2.2.2.1 Y.2.2.2.2.2.2.2.1 p (nI A.2.2.2.2.1.length) A.2.2.2.2.2.1 A.2.2.2.2.2.2.1 fnd dl)) ∧ hx_wf h ∧ hx_df D (hzf h) d A.1 ∧ sv_ok D (hzf h) p A.2.2.1 ∧ hb.1 = h.1 ∧ hb.2.1 = h.2.1 ∧ hb.2.2 Y.1 = some (true, .inr (9, x_fs op Y.2.1 d h.1 Y.2.2.1 Y.2.2.2.2.1 Y.2.2.2.2.2.1 Y.2.2.2.2.2.2.1 Y.2.2.2.2.2.2.2.1 p (nI A.2.2.2.2.1.length) A.2.2.2.2.2.1 A.2.2.2.2.2.2.1 fnd dl)) ∧ dq hb Y.2.2.1 Y.2.2.2.1 as' ∧ hs_ok D (hzf h) as' (hsN A.2.2.2.1 A.2.1) ∧ ∀ z, z ≠ Y.1 → z ≠ Y.2.2.1 → z ≠ Y.2.2.2.1 → hb.2.2 z = h.2.2 z
theorem cI.changed {D : gx_D} {h : HX} {Y : YT} {A : AT} (H : cI D h Y A) : ∃ hb mc fe f1 f2 f3 f4 f5 it, f_X1_changed D h Y.1 = some (some h.1, hx_ap h.1 hb (rnB h.1 mc A.2.1.iv.length fe f1 f2 f3 f4 f5 (nI (cf_c A.2.1.cf)) A.2.1.ac (nI A.2.1.tr.length) ++ [it]) 107) ∧ rnC D (hzf h) A.2.1 fe f1 f2 f3 f4 f5 ∧ chg D h hb Y A := by
  obtain ⟨ov, op, d, r, p, fnd, dl, as, hx, w, hq, hh, hdf, hr, hsv, hA, ap1, ap2, hW, HG, _⟩ := H.opn
  obtain ⟨hb, mc, fe, f1, f2, f3, f4, f5, it, as', e1, e2, e3, e4, e5, e6, e7, e8⟩ := c_changed (D := D) hx w hq hh hr hA
  exact ⟨hb, mc, fe, f1, f2, f3, f4, f5, it, e1, e2, ov, op, d, r, p, fnd, dl, as', HG, hx, w, hdf, hsv, e3, e4, e5, e6, e7, e8⟩
theorem chg.xl {D : gx_D} {h hb : HX} {Y : YT} {A : AT} (c : chg D h hb Y A) : Y.1 < h.1 := by
  obtain ⟨ov, op, d, r, p, fnd, dl, as', HG, hx, w, _⟩ := c
  exact w.lt hx
theorem chg.zf {D : gx_D} {h hb : HX} {Y : YT} {A : AT} (c : chg D h hb Y A) : hx_sub (hzf h) hb := by
  obtain ⟨ov, op, d, r, p, fnd, dl, as', HG, hx, w, hdf, hsv, c1, c2, c3, c4, c5, c6⟩ := c
  intro z c e
  obtain ⟨k1, k2, k3⟩ := hzf_eq e
  obtain ⟨b, x⟩ := c
  simp only at k2
  subst k2
  have hW := HG.W
  have n : ∀ q, q ∈ W_ Y ov → z ≠ q := fun q hq e => by
    obtain ⟨v, hv⟩ := hW q hq
    rw [e, hv] at k3
    cases k3
  rw [c6 z (n _ (by simp [W_])) (n _ (by simp [W_])) (n _ (by simp [W_])), k3]
/-- the end of such a call -/
theorem chg.run {D : gx_D} {h hb : HX} {Y : YT} {A : AT} {R' : RN} {mc : Int32} {fe : Nat → Option Nat} {f1 f2 f3 f4 f5 : Nat → Int32} {tl : List gx_E} {s : Nat} (c : chg D h hb Y A) (C : rnC D (hzf h) R' fe f1 f2 f3 f4 f5) : cE D (hx_ap h.1 hb (rnB h.1 mc R'.iv.length fe f1 f2 f3 f4 f5 (nI (cf_c R'.cf)) R'.ac (nI R'.tr.length) ++ tl) s) Y (A.1, R', A.2.2.1, hsN A.2.2.2.1 A.2.1, A.2.2.2.2) := by
  obtain ⟨F, R, sv, hs, ib, ec, eo, ob⟩ := A
  obtain ⟨ov, op, d, r, p, fnd, dl, as', HG, hx, w, hdf, hsv, c1, c2, c3, ⟨ne, hd, g, c4, c4', c4''⟩, c5, c6⟩ := c
  have hW := HG.W
  have lt : ∀ z, z ∈ W_ Y ov → z < h.1 := fun z hz => by
    obtain ⟨e, he⟩ := hW z hz
    exact w.lt he
  have at' : ∀ z, z < h.1 → (hx_ap h.1 hb (rnB h.1 mc R'.iv.length fe f1 f2 f3 f4 f5 (nI (cf_c R'.cf)) R'.ac (nI R'.tr.length) ++ tl) s).2.2 z = hb.2.2 z := fun z hz => ap_old hz
  refine cI.end (r' := h.1) (as := as') HG w hx (by show h.1 ≤ h.1 + _; omega) ap_wf (fun z z0 z1 z2 z3 => by rw [at' z z0, c6 z z1 z2 z3]) (by rw [at' _ (lt _ (by simp [W_]))]; exact c3) ⟨ne, hd, g, by rw [at' _ (lt _ (by simp [W_])), c4], by rw [at' _ (lt _ (by simp [W_])), c4'], c4''⟩ (fun sub => c5.sub sub) (fun sub => rnB_rn C (fun z hz => Or.inl (lt z hz)) sub) (fun sub => hsv.sub sub)
/-- the machine seen through the block -/
theorem chg.vm {D : gx_D} {h hb : HX} {Y : YT} {A : AT} {R' : RN} {mc : Int32} {fe : Nat → Option Nat} {f1 f2 f3 f4 f5 : Nat → Int32} {tl : List gx_E} {s : Nat} (c : chg D h hb Y A) (C : rnC D (hzf h) R' fe f1 f2 f3 f4 f5) : hx_vm D (hx_ap h.1 hb (rnB h.1 mc R'.iv.length fe f1 f2 f3 f4 f5 (nI (cf_c R'.cf)) R'.ac (nI R'.tr.length) ++ tl) s) Y.1 A.1 R' := by
  have E := c.run (mc := mc) (tl := tl) (s := s) C
  obtain ⟨ov, w, op, d, r, cap, t, p, fnd, dl, fib, as, gop, h1, h2, h3, h4, h6, h7, h8, h9, h10, h11, h12⟩ := E
  exact ⟨d, r, _, hx_ob.mk h1, rfl, rfl, h10.sw hzw_sw, h11.sw hzw_sw⟩
/-- rejections, acceptances, on runs -/
def rnRej (R : RN) (v : Nat) : RN := (R.iv, R.cf, R.tk, R.vi, upd R.rj v (R.rj v + 1), R.ac, R.tr)
def rnAcc (R : RN) (q : CF) (e k : Nat) : RN := (R.iv, q, upd R.tk k (R.tk k + 1), upd R.vi q.1 (R.vi q.1 + 1), R.rj, R.ac + 1, ((e, k) :: R.tr).take 20)
def rnFire (F : DF) (R : RN) (e : Nat) : RN := match nxN F.ts R.iv R.cf e, chN F.ts R.cf e with
  | some q, some k => rnAcc R q e k
  | _, _ => rnRej R (vdN F.ts R.iv R.cf e)
/-- what an outcome is -/
def ocE (F : DF) (R : RN) (e : Nat) : gx_E := match nxN F.ts R.iv R.cf e, chN F.ts R.cf e with
  | some q, some k => .inr (24, [.int (nI e), .int (nI k), .int (nI (cf_c q))])
  | _, _ => .inr (23, [.int (nI (vdN F.ts R.iv R.cf e))])
theorem c_outcome {D : gx_D} {h : HX} {x e : Nat} {F : DF} {R : RN} (w : hx_wf h) (hap : gx_apt D) (hne : gx_apt2 D) (H : hx_vm D h x F R) (hF : tr_oks F.ts) (hq : cf_ok R.cf) (he : e < 2 ^ 31) : ∃ s, s ≤ 3 ∧ f_X1_outcome D h x (nI e) = some (some h.1, hx_ap h.1 h [ocE F R e] s) := by
  have V := f_verdict hap hne H hF hq he
  have H' := H
  obtain ⟨d, r, fs, h1, h2, h3, ⟨sl, el, vl, tl, h4, h5, h6, h7, h8⟩, ⟨i, a1, a2, a3, a4, a5, ge, gt, h9, h10⟩⟩ := H
  have hx := h1.lt w
  have hd := h4.lt w
  have hr := h9.lt w
  have v0 := nxN_of (F := F) (R := R) (q := R.cf) (e := e)
  have v1 := vdN_0 (F := F) (R := R) (q := R.cf) (e := e)
  unfold f_X1_outcome
  simp only [h1.is (show 9 ∈ [9] by decide), h1.gr (show 9 ∈ [9] by decide) h3, h9.gi (show 11 ∈ [11] by decide) (k := 6) rfl, Option.bind_some, V.1]
  have n3 := ap_new (n := h.1) (h := h) (B := []) (s := 0) (m := 3) (ci := 24) (fs := gx_df24)
  have n1 := ap_new (n := h.1) (h := h) (B := []) (s := 0) (m := 1) (ci := 23) (fs := gx_df23)
  rw [ap_0 w] at n3 n1
  unfold ocE
  cases e1 : nxN F.ts R.iv R.cf e with
  | none =>
    rw [if_neg (fun h => by have := v1.1 h; rw [e1] at this; cases this), n1]
    refine ⟨1, by decide, ?_⟩
    simp [f_X19_init, ap_new, ap_pv, ap_pv0, ap_gv, ap_gv0, ap_is, ap_is0, ap_len, ap_len0, hx_gi_r, hx_gr_r, hx_pr, hx_pi, gx_b2, gx_bx, Nat.add_assoc, va_rf_s, va_rf_n, hx_okr_n, ap_okr, gx_df23]
  | some q =>
    obtain ⟨t1, k, t2⟩ := toN_of e1
    have E : hx_sub h (hx_ap h.1 h [.inr (24, gx_df24)] 3) := fun a c hc => by
      rw [ap_old (w.lt hc), hc]
    have W : hx_vm D (hx_ap h.1 h [.inr (24, gx_df24)] 3) x F R := by
      obtain ⟨d, r, fs, g1, g2, g3, g4, g5⟩ := H'
      exact ⟨d, r, fs, g1.sub E, g2, g3, g4.sub E, g5.sub E⟩
    have V2 := f_verdict hap hne W hF hq he
    have C2 := f_choose (e := e) hap (h4.sub E) rfl (h8.sub E (fun _ _ => hx_tr.sub E)) hq he
    rw [if_pos (v1.2 (by rw [e1]; rfl)), n3, t2]
    rw [t2] at C2
    rw [e1] at V2
    refine ⟨3, by decide, ?_⟩
    simp only [List.nil_append, List.length_nil, Nat.add_zero, Nat.zero_add, gx_b2, Option.bind_some, (h1.sub E).gr (show 9 ∈ [9] by decide) h2, (h1.sub E).gr (show 9 ∈ [9] by decide) h3, (h9.sub E).gi (show 11 ∈ [11] by decide) (k := 6) rfl, C2, V2.2]
    simp [f_X20_init, ap_new, ap_pv, ap_pv0, ap_gv, ap_gv0, ap_is, ap_is0, ap_len, ap_len0, hx_gi_r, hx_gr_r, hx_pr, hx_pi, gx_b2, gx_bx, Nat.add_assoc, va_rf_s, va_rf_n, hx_okr_n, ap_okr, gx_df24, oI, oC]
/-- what an outcome does to a run in a block -/
theorem c_applyR {D : gx_D} {hb G : HX} {n s o v : Nat} {mc : Int32} {R : RN} {fe : Nat → Option Nat} {f1 f2 f3 f4 f5 : Nat → Int32} {tl : List gx_E} (C : rnC D G R fe f1 f2 f3 f4 f5) (hv : v < 5)
    (ho : hx_ob (hx_ap n hb (rnB n mc R.iv.length fe f1 f2 f3 f4 f5 (nI (cf_c R.cf)) R.ac (nI R.tr.length) ++ tl) s) o 23 [.int (nI v)]) : ∃ g3, f_X19_applyTo D (hx_ap n hb (rnB n mc R.iv.length fe f1 f2 f3 f4 f5 (nI (cf_c R.cf)) R.ac (nI R.tr.length) ++ tl) s) o (some n) = some (hx_ap n hb (rnB n mc (rnRej R v).iv.length fe f1 f2 g3 f4 f5 (nI (cf_c (rnRej R v).cf)) (rnRej R v).ac (nI (rnRej R v).tr.length) ++ tl) s) ∧ rnC D G (rnRej R v) fe f1 f2 g3 f4 f5 := by
  obtain ⟨c1, c2, c3, c4, c5, c6⟩ := C
  refine ⟨upd f3 v (f3 v + 1), ?_, c1, c2, c3, c4, fun k hk => ?_, c6⟩
  · unfold f_X19_applyTo
    rw [ho.is (by decide), Option.bind_some, ho.gi (show 23 ∈ [23] by decide) (k := 0) (x := nI v) rfl]
    simp [ap_new, ap_pv, ap_pv0, ap_gv, ap_gv0, ap_is, ap_is0, ap_len, ap_len0, hx_gi_r, hx_gr_r, hx_pr, hx_pi, gx_b2, gx_bx, Nat.add_assoc, va_rf_s, va_rf_n, hx_okr_n, ap_okr, rnB, ap_ai (x := nI v) (k := v) rfl (by omega), ap_si (x := nI v) (k := v) rfl (by omega), hv, rnRej]
  · show upd f3 v (f3 v + 1) k = upd R.rj v (R.rj v + 1) k
    by_cases c : k = v
    · rw [c, pk_us, pk_us, c5 v hv]
    · rw [pk_un c, pk_un c, c5 k hk]
theorem c_applyA {D : gx_D} {hb G : HX} {n s o e k : Nat} {mc : Int32} {q : CF} {R : RN} {fe : Nat → Option Nat} {f1 f2 f3 f4 f5 : Nat → Int32} {tl : List gx_E} (C : rnC D G R fe f1 f2 f3 f4 f5) (hq : cf_ok q) (hk : k < 24) (ht : R.tr.length ≤ 20)
    (ho : ∀ f1 f2 f3 f4 f5 cf ac t, hx_ob (hx_ap n hb (rnB n mc R.iv.length fe f1 f2 f3 f4 f5 cf ac t ++ tl) s) o 24 [.int (nI e), .int (nI k), .int (nI (cf_c q))]) : ∃ g1 g2 g4 g5, f_X20_applyTo D (hx_ap n hb (rnB n mc R.iv.length fe f1 f2 f3 f4 f5 (nI (cf_c R.cf)) R.ac (nI R.tr.length) ++ tl) s) o (some n) = some (hx_ap n hb (rnB n mc (rnAcc R q e k).iv.length fe g1 g2 f3 g4 g5 (nI (cf_c (rnAcc R q e k).cf)) (rnAcc R q e k).ac (nI (rnAcc R q e k).tr.length) ++ tl) s) ∧ rnC D G (rnAcc R q e k) fe g1 g2 f3 g4 g5 := by
  obtain ⟨c1, c2, c3, c4, c5, c6⟩ := C
  have q1 := hq.1
  obtain ⟨g4, g5, t1, t2⟩ := c_trace (D := D) (h := hb) (n := n) (li := R.iv.length) (s := s) (mc := mc) (cf := nI (cf_c q)) (ac := R.ac + 1) (x := nI e) (y := nI k) (fe := fe) (f1 := upd f1 k (f1 k + 1)) (f2 := upd f2 q.1 (f2 q.1 + 1)) (f3 := f3) (f4 := f4) (f5 := f5) (tl := tl) ht
  have el : (rnAcc R q e k).tr.length = if R.tr.length < 20 then R.tr.length + 1 else 20 := by
    show (((e, k) :: R.tr).take 20).length = _
    rw [List.length_take, List.length_cons]
    by_cases c : R.tr.length < 20
    · rw [if_pos c]; omega
    · rw [if_neg c]; omega
  refine ⟨upd f1 k (f1 k + 1), upd f2 q.1 (f2 q.1 + 1), g4, g5, ?_, c1, c2, fun j hj => ?_, fun j hj => ?_, c5, fun j hj => ?_⟩
  · have o1 := fun f1 f2 f3 f4 f5 cf ac t => (ho f1 f2 f3 f4 f5 cf ac t).gi (show 24 ∈ [24] by decide) (k := 2) (x := nI (cf_c q)) rfl
    have o2 := fun f1 f2 f3 f4 f5 cf ac t => (ho f1 f2 f3 f4 f5 cf ac t).gi (show 24 ∈ [24] by decide) (k := 1) (x := nI k) rfl
    have o3 := fun f1 f2 f3 f4 f5 cf ac t => (ho f1 f2 f3 f4 f5 cf ac t).gi (show 24 ∈ [24] by decide) (k := 0) (x := nI e) rfl
    have s1 : ∀ f1 f2 ac cf', hx_gi (hx_ap n hb (rnB n mc R.iv.length fe f1 f2 f3 f4 f5 cf' ac (nI R.tr.length) ++ tl) s) n [11] 7 = some ac := fun f1 f2 ac cf' => by simp [rnB, ap_new, ap_pv, ap_pv0, ap_gv, ap_gv0, ap_is, ap_is0, ap_len, ap_len0, hx_gi_r, hx_gr_r, hx_pr, hx_pi, gx_b2, gx_bx, Nat.add_assoc, va_rf_s, va_rf_n, hx_okr_n, ap_okr]
    have s2 : ∀ f1 f2 ac cf', hx_gr (hx_ap n hb (rnB n mc R.iv.length fe f1 f2 f3 f4 f5 cf' ac (nI R.tr.length) ++ tl) s) n [11] 1 = some (some (n + 3)) := fun f1 f2 ac cf' => by simp [rnB, ap_new, ap_pv, ap_pv0, ap_gv, ap_gv0, ap_is, ap_is0, ap_len, ap_len0, hx_gi_r, hx_gr_r, hx_pr, hx_pi, gx_b2, gx_bx, Nat.add_assoc, va_rf_s, va_rf_n, hx_okr_n, ap_okr]
    have s3 : ∀ f1 f2 ac cf', hx_gr (hx_ap n hb (rnB n mc R.iv.length fe f1 f2 f3 f4 f5 cf' ac (nI R.tr.length) ++ tl) s) n [11] 2 = some (some (n + 4)) := fun f1 f2 ac cf' => by simp [rnB, ap_new, ap_pv, ap_pv0, ap_gv, ap_gv0, ap_is, ap_is0, ap_len, ap_len0, hx_gi_r, hx_gr_r, hx_pr, hx_pi, gx_b2, gx_bx, Nat.add_assoc, va_rf_s, va_rf_n, hx_okr_n, ap_okr]
    have s4 : ∀ f1 f2 ac cf' x, hx_pi (hx_ap n hb (rnB n mc R.iv.length fe f1 f2 f3 f4 f5 cf' ac (nI R.tr.length) ++ tl) s) n [11] 6 x = some (hx_ap n hb (rnB n mc R.iv.length fe f1 f2 f3 f4 f5 x ac (nI R.tr.length) ++ tl) s) := fun f1 f2 ac cf' x => by simp [rnB, ap_new, ap_pv, ap_pv0, ap_gv, ap_gv0, ap_is, ap_is0, ap_len, ap_len0, hx_gi_r, hx_gr_r, hx_pr, hx_pi, gx_b2, gx_bx, Nat.add_assoc, va_rf_s, va_rf_n, hx_okr_n, ap_okr]
    have s5 : ∀ f1 f2 ac cf' x, hx_pi (hx_ap n hb (rnB n mc R.iv.length fe f1 f2 f3 f4 f5 cf' ac (nI R.tr.length) ++ tl) s) n [11] 7 x = some (hx_ap n hb (rnB n mc R.iv.length fe f1 f2 f3 f4 f5 cf' x (nI R.tr.length) ++ tl) s) := fun f1 f2 ac cf' x => by simp [rnB, ap_new, ap_pv, ap_pv0, ap_gv, ap_gv0, ap_is, ap_is0, ap_len, ap_len0, hx_gi_r, hx_gr_r, hx_pr, hx_pi, gx_b2, gx_bx, Nat.add_assoc, va_rf_s, va_rf_n, hx_okr_n, ap_okr]
    have s6 : ∀ f1 f2 ac cf', hx_ai (hx_ap n hb (rnB n mc R.iv.length fe f1 f2 f3 f4 f5 cf' ac (nI R.tr.length) ++ tl) s) (n + 3) 0 (nI k) = some (f1 k) := fun f1 f2 ac cf' => by simp [rnB, ap_new, ap_pv, ap_pv0, ap_gv, ap_gv0, ap_is, ap_is0, ap_len, ap_len0, hx_gi_r, hx_gr_r, hx_pr, hx_pi, gx_b2, gx_bx, Nat.add_assoc, va_rf_s, va_rf_n, hx_okr_n, ap_okr, ap_ai (x := nI k) (k := k) rfl (by omega), hk]
    have s7 : ∀ f1 f2 ac cf', hx_ai (hx_ap n hb (rnB n mc R.iv.length fe f1 f2 f3 f4 f5 cf' ac (nI R.tr.length) ++ tl) s) (n + 4) 0 (nI q.1) = some (f2 q.1) := fun f1 f2 ac cf' => by simp [rnB, ap_new, ap_pv, ap_pv0, ap_gv, ap_gv0, ap_is, ap_is0, ap_len, ap_len0, hx_gi_r, hx_gr_r, hx_pr, hx_pi, gx_b2, gx_bx, Nat.add_assoc, va_rf_s, va_rf_n, hx_okr_n, ap_okr, ap_ai (x := nI q.1) (k := q.1) rfl (by omega), q1]
    have s8 : ∀ f1 f2 ac cf' y, hx_si (hx_ap n hb (rnB n mc R.iv.length fe f1 f2 f3 f4 f5 cf' ac (nI R.tr.length) ++ tl) s) (n + 3) (nI k) y = some (hx_ap n hb (rnB n mc R.iv.length fe (upd f1 k y) f2 f3 f4 f5 cf' ac (nI R.tr.length) ++ tl) s) := fun f1 f2 ac cf' y => by simp [rnB, ap_new, ap_pv, ap_pv0, ap_gv, ap_gv0, ap_is, ap_is0, ap_len, ap_len0, hx_gi_r, hx_gr_r, hx_pr, hx_pi, gx_b2, gx_bx, Nat.add_assoc, va_rf_s, va_rf_n, hx_okr_n, ap_okr, ap_si (x := nI k) (k := k) rfl (by omega), hk]
    have s9 : ∀ f1 f2 ac cf' y, hx_si (hx_ap n hb (rnB n mc R.iv.length fe f1 f2 f3 f4 f5 cf' ac (nI R.tr.length) ++ tl) s) (n + 4) (nI q.1) y = some (hx_ap n hb (rnB n mc R.iv.length fe f1 (upd f2 q.1 y) f3 f4 f5 cf' ac (nI R.tr.length) ++ tl) s) := fun f1 f2 ac cf' y => by simp [rnB, ap_new, ap_pv, ap_pv0, ap_gv, ap_gv0, ap_is, ap_is0, ap_len, ap_len0, hx_gi_r, hx_gr_r, hx_pr, hx_pi, gx_b2, gx_bx, Nat.add_assoc, va_rf_s, va_rf_n, hx_okr_n, ap_okr, ap_si (x := nI q.1) (k := q.1) rfl (by omega), q1]
    have st : ∀ f1 f2 ac, f_X4_state D (hx_ap n hb (rnB n mc R.iv.length fe f1 f2 f3 f4 f5 (nI (cf_c q)) ac (nI R.tr.length) ++ tl) s) n = some (nI q.1) := fun f1 f2 ac => by simp [f_X4_state, rnB, ap_new, ap_pv, ap_pv0, ap_gv, ap_gv0, ap_is, ap_is0, ap_len, ap_len0, hx_gi_r, hx_gr_r, hx_pr, hx_pi, gx_b2, gx_bx, Nat.add_assoc, va_rf_s, va_rf_n, hx_okr_n, ap_okr, c_state hq]
    unfold f_X20_applyTo
    rw [(ho f1 f2 f3 f4 f5 _ _ _).is (by decide), Option.bind_some]
    simp only [o1, o2, o3, s1, s2, s3, s4, s5, s6, s7, s8, s9, st, Option.bind_some, t1]
    rw [el]
    rfl
  · show upd f1 k (f1 k + 1) j = upd R.tk k (R.tk k + 1) j
    by_cases c : j = k
    · rw [c, pk_us, pk_us, c3 k hk]
    · rw [pk_un c, pk_un c, c3 j hj]
  · show upd f2 q.1 (f2 q.1 + 1) j = upd R.vi q.1 (R.vi q.1 + 1) j
    by_cases c : j = q.1
    · rw [c, pk_us, pk_us, c4 q.1 q1]
    · rw [pk_un c, pk_un c, c4 j hj]
  · rw [el] at hj
    have j20 : j < 20 := by
      by_cases c : R.tr.length < 20
      · rw [if_pos c] at hj; omega
      · rw [if_neg c] at hj; exact hj
    obtain ⟨u1, u2⟩ := t2 j j20
    rw [u1, u2]
    unfold tr_e tr_t
    have eg : (rnAcc R q e k).tr[j]? = ((e, k) :: R.tr)[j]? := by
      show (((e, k) :: R.tr).take 20)[j]? = _
      rw [List.getElem?_take_of_lt j20]
    rw [eg]
    cases j with
    | zero => exact ⟨rfl, rfl⟩
    | succ j =>
      rw [if_neg (Nat.succ_ne_zero j), if_neg (Nat.succ_ne_zero j), List.getElem?_cons_succ, Nat.add_sub_cancel]
      exact c6 j (by
        by_cases c : R.tr.length < 20
        · rw [if_pos c] at hj; omega
        · omega)
