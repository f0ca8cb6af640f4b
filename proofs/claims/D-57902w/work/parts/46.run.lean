/-! runs: their cells in a block -/
set_option maxRecDepth 100000
set_option linter.unusedSimpArgs false
theorem hx_wf.lt {h : HX} {a : Nat} {c : Bool × gx_E} (w : hx_wf h) (e : h.2.2 a = some c) : a < h.1 := by
  refine Nat.lt_of_not_le fun c2 => ?_
  rw [w a c2] at e
  cases e
theorem hx_ob.lt {h : HX} {a ci : Nat} {fs : List Value} (w : hx_wf h) (H : hx_ob h a ci fs) : a < h.1 := by
  obtain ⟨b, e⟩ := H
  exact w.lt e
theorem hx_oi.lt {h : HX} {a t m : Nat} {f : Nat → Int32} (w : hx_wf h) (H : hx_oi h a t m f) : a < h.1 := by
  obtain ⟨b, e⟩ := H
  exact w.lt e
theorem hx_or.lt {h : HX} {a t m : Nat} {f : Nat → Option Nat} (w : hx_wf h) (H : hx_or h a t m f) : a < h.1 := by
  obtain ⟨b, e⟩ := H
  exact w.lt e
def rnB (n : Nat) (mc : Int32) (li : Nat) (fe : Nat → Option Nat) (f1 f2 f3 f4 f5 : Nat → Int32) (cf ac tl : Int32) : List gx_E := [.inr (11, [.ref (n + 1), .ref (n + 3), .ref (n + 4), .ref (n + 5), .ref (n + 6), .ref (n + 7), .int cf, .int ac, .int tl]), .inr (0, [.int mc, .ref (n + 2), .int (nI li)]), .inl (4, 12, .inr (.inr (.inr (.inr fe)))), .inl (0, 24, .inl f1), .inl (0, 10, .inl f2), .inl (0, 5, .inl f3), .inl (0, 20, .inl f4), .inl (0, 20, .inl f5)]
theorem r_init {D : gx_D} {h : HX} {n s : Nat} : f_X4_init D (hx_ap n h [.inr (11, gx_df11)] s) n = some (hx_ap n h (rnB n 0 0 (fun _ => none) (fun _ => 0) (fun _ => 0) (fun _ => 0) (fun _ => 0) (fun _ => 0) 0 0 0) (s + 94)) := by
  simp [f_X4_init, f_J2_init, f_J1_init, f_J0_init, ap_new, ap_pv, ap_pv0, ap_gv, ap_gv0, ap_is, ap_is0, ap_len, ap_len0, hx_gi_r, hx_gr_r, hx_pr, hx_pi, gx_b2, gx_bx, Nat.add_assoc, va_rf_s, va_rf_n, hx_okr_n, ap_okr, ap_newa (x := 12) (k := 12) rfl (by decide), ap_newa (x := 24) (k := 24) rfl (by decide), ap_newa (x := 10) (k := 10) rfl (by decide), ap_newa (x := 5) (k := 5) rfl (by decide), ap_newa (x := 20) (k := 20) rfl (by decide), gx_df11, gx_df0, rnB, nI_0]
/-- the contents of a block that is a run -/
def rnC (D : gx_D) (h : HX) (R : RN) (fe : Nat → Option Nat) (f1 f2 f3 f4 f5 : Nat → Int32) : Prop := R.iv.length ≤ 12 ∧ (∀ k i, R.iv[k]? = some i → ∃ b, fe k = some b ∧ hx_iv D h b i) ∧ (∀ k, k < 24 → f1 k = R.tk k) ∧ (∀ k, k < 10 → f2 k = R.vi k) ∧ (∀ k, k < 5 → f3 k = R.rj k) ∧ ∀ k, k < R.tr.length → f4 k = tr_e R.tr k ∧ f5 k = tr_t R.tr k
theorem rn_src {D : gx_D} {h : HX} {r : Nat} {R : RN} (H : hx_rn D h r R) : ∃ (i el a1 a2 a3 a4 a5 cap : Nat) (mc : Int32) (fe : Nat → Option Nat) (f1 f2 f3 f4 f5 : Nat → Int32), hx_ob h r 11 [.ref i, .ref a1, .ref a2, .ref a3, .ref a4, .ref a5, .int (nI (cf_c R.cf)), .int R.ac, .int (nI R.tr.length)] ∧ hx_ob h i 0 [.int mc, .ref el, .int (nI R.iv.length)] ∧ hx_or h el 4 cap fe ∧ R.iv.length ≤ cap ∧ cap = 12 ∧ hx_oi h a1 0 24 f1 ∧ hx_oi h a2 0 10 f2 ∧ hx_oi h a3 0 5 f3 ∧ hx_oi h a4 0 20 f4 ∧ hx_oi h a5 0 20 f5 ∧ rnC D h R fe f1 f2 f3 f4 f5 := by
  obtain ⟨i, a1, a2, a3, a4, a5, ge, gt, h1, ⟨as, ⟨mc, el, fe, l1, l2, l3, l4, l5⟩, l6, l7⟩, ⟨f1, h2, h2'⟩, ⟨f2, h3, h3'⟩, ⟨f3, h4, h4'⟩, h5, h6, h7⟩ := H
  rw [l6] at l1 l3
  refine ⟨i, el, a1, a2, a3, a4, a5, 12, mc, fe, f1, f2, f3, ge, gt, h1, l1, l2, l3, rfl, h2, h3, h4, h5, h6, l3, fun k x hk => ?_, h2', h3', h4', h7⟩
  have hlt := (List.getElem?_eq_some_iff.1 hk).1
  have e := l5 k (by omega)
  have e2 : as[k]? = some as[k] := List.getElem?_eq_getElem (by omega)
  exact ⟨as[k], by rw [e, e2], l7 k x _ hk e2⟩
theorem nI_ne {a b : Nat} (ha : a < 2 ^ 31) (hb : b < 2 ^ 31) (h : a ≠ b) : ¬ nI a = nI b := fun e => h ((nI_eq ha hb).1 e)
def twB (n k i : Nat) (g : Nat → Option Nat) (last mc : Int32) : List gx_E := rnB n (nI k) k g (fun _ => 0) (fun _ => 0) (fun _ => 0) (fun _ => 0) (fun _ => 0) 0 0 0 ++ [.inr (4, [.int (nI k), .int last, .int mc, .ref i])]
theorem c_twin {D : gx_D} {h G : HX} {r : Nat} {R : RN} (w : hx_wf h) (sG : hx_sub G h) (H : hx_rn D G r R) (htr : R.tr.length ≤ 20) : ∃ mc fe f1 f2 f3 f4 f5 it, f_X4_twin D h r = some (some h.1, hx_ap h.1 h (rnB h.1 mc R.iv.length fe f1 f2 f3 f4 f5 (nI (cf_c R.cf)) R.ac (nI R.tr.length) ++ [it]) 107) ∧ rnC D G R fe f1 f2 f3 f4 f5 := by
  obtain ⟨i, el, a1, a2, a3, a4, a5, cap, mc, fe, f1, f2, f3, f4, f5, h1, h2, h3, h4, rfl, h5, h6, h7, h8, h9, C⟩ := rn_src H
  replace h1 := h1.sub sG
  replace h2 := h2.sub sG
  replace h3 := h3.sub sG
  replace h5 := h5.sub sG
  replace h6 := h6.sub sG
  replace h7 := h7.sub sG
  replace h8 := h8.sub sG
  replace h9 := h9.sub sG
  have hr := h1.lt w
  have hi := h2.lt w
  have hel := h3.lt w
  have e0 : hx_new h 9 11 gx_df11 = some (h.1, hx_ap h.1 h [.inr (11, gx_df11)] 9) := by
    have := ap_new (n := h.1) (h := h) (B := []) (s := 0) (m := 9) (ci := 11) (fs := gx_df11)
    rw [ap_0 w] at this
    simpa using this
  obtain ⟨z, ⟨last, z1, zz, z2⟩, z3⟩ := gx_lq (F := fun f (z : HX) => f_X4_twin_b18 D f z r (some h.1) (some (h.1 + 8))) (I := fun k z => ∃ last g, z = hx_ap h.1 h (twB h.1 k i g last mc) 107 ∧ ∀ j, j < k → g j = fe j) R.iv.length (by
    intro f k z hk hI
    obtain ⟨last, g, rfl, hg⟩ := hI
    obtain ⟨b, b1, b2⟩ := C.2.1 k _ (List.getElem?_eq_getElem hk)
    obtain ⟨b3, c, b4, b5⟩ := hx_iv.sub sG b2
    have hb := b4.lt w
    refine ⟨hx_ap h.1 h (twB h.1 (k + 1) i (va_up g k (some b)) (nI k) mc) 107, ⟨_, _, rfl, fun j hj => ?_⟩, ?_⟩
    · by_cases c : j = k
      · rw [c, va_up_self, b1]
      · rw [va_up_ne _ _ c]
        exact hg j (by omega)
    · have k1 : k < 2 ^ 31 := by omega
      have ne1 := nI_ne k1 (show R.iv.length < 2 ^ 31 by omega) (by omega)
      have ne2 := nI_ne k1 (show 12 < 2 ^ 31 by decide) (by omega)
      have lt1 := nI_lt hk (show R.iv.length < 2 ^ 31 by omega)
      have lt2 := nI_lt (show k < 12 by omega) (show 12 < 2 ^ 31 by omega)
      have len := h3.len
      have ar := h3.ar (by decide) (show k < 12 by omega) (by decide)
      simp [f_X4_twin_b18, f_J25_hasNext, f_J25_next, f_J25_checkForComodification, f_J2_add, f_J2_add_2, twB, rnB, ap_new, ap_pv, ap_pv0, ap_gv, ap_gv0, ap_is, ap_is0, ap_len, ap_len0, hx_gi_r, hx_gr_r, hx_pr, hx_pi, gx_b2, gx_bx, Nat.add_assoc, va_rf_s, va_rf_n, hx_okr_n, ap_okr, ap_gvo hi, ap_gvo hb, ap_leno hel, ap_aro hel, ap_iso hb, h2.gv (show 0 ∈ [0] by decide), ne1, ne2, lt1, lt2, len, ar, b1, hx_cast, b4.is (show 15 ∈ [15] by decide), ap_sr (x := nI k) (k := k) rfl k1, ap_okro hb b4, gx_c1, show k < 12 by omega]) R.iv.length 0 gx_fuel (hx_ap h.1 h (twB h.1 0 i (fun _ => none) (-1) mc) 107) (by omega) (by rw [pl_fl]; omega) ⟨_, _, rfl, fun j h => by omega⟩
  subst zz
  obtain ⟨g, hg⟩ : ∃ g, gx_fuel - R.iv.length = g + 1 := ⟨gx_fuel - R.iv.length - 1, by rw [pl_fl]; omega⟩
  rw [hg] at z3
  obtain ⟨t1, q1⟩ := h5
  obtain ⟨t2, q2⟩ := h6
  obtain ⟨t3, q3⟩ := h7
  obtain ⟨t4, q4⟩ := h8
  obtain ⟨t5, q5⟩ := h9
  have l1 := w.lt q1
  have l2 := w.lt q2
  have l3 := w.lt q3
  have l4 := w.lt q4
  have l5 := w.lt q5
  refine ⟨nI R.iv.length, z1, va_cpy f1 (fun _ => 0) 0 0 24, va_cpy f2 (fun _ => 0) 0 0 10, va_cpy f3 (fun _ => 0) 0 0 5, va_cpy f4 (fun _ => 0) 0 0 20, va_cpy f5 (fun _ => 0) 0 0 20, .inr (4, [.int (nI R.iv.length), .int last, .int mc, .ref i]), ?_, ?_⟩
  · unfold f_X4_twin
    rw [h1.is (by decide), Option.bind_some, e0]
    simp only [gx_b2, Option.bind_some]
    rw [r_init, Option.bind_some]
    have it : (f_J2_iterator D (hx_ap h.1 h (rnB h.1 0 0 (fun _ => none) (fun _ => 0) (fun _ => 0) (fun _ => 0) (fun _ => 0) (fun _ => 0) 0 0 0) (9 + 94)) i) = some (some (h.1 + 8), hx_ap h.1 h (twB h.1 0 i (fun _ => none) (-1) mc) 107) := by
      simp [f_J2_iterator, f_J25_init, gx_df4, rnB, twB, ap_new, ap_pv, ap_pv0, ap_gv, ap_gv0, ap_is, ap_is0, ap_len, ap_len0, hx_gi_r, hx_gr_r, hx_pr, hx_pi, gx_b2, gx_bx, Nat.add_assoc, va_rf_s, va_rf_n, hx_okr_n, ap_okr, ap_gvo hi, ap_iso hi, h2.gv (show 0 ∈ [0] by decide), h2.is (show 0 ∈ [0] by decide), nI_0]
    have g6 : hx_gr (hx_ap h.1 h (rnB h.1 0 0 (fun _ => none) (fun _ => 0) (fun _ => 0) (fun _ => 0) (fun _ => 0) (fun _ => 0) 0 0 0) (9 + 94)) r [11] 0 = some (some i) := by
      simp [hx_gr_r, ap_gvo hr, h1.gv (show 11 ∈ [11] by decide)]
    rw [g6, Option.bind_some, Option.bind_some, it, Option.bind_some, z3]
    have ne : hx_gv h r [11] = fun k => hx_gv h r [11] k := rfl
    simp [f_X4_twin_b18, f_X4_twin_b52, f_J25_hasNext, twB, rnB, ap_new, ap_pv, ap_pv0, ap_gv, ap_gv0, ap_is, ap_is0, ap_len, ap_len0, hx_gi_r, hx_gr_r, hx_pr, hx_pi, gx_b2, gx_bx, Nat.add_assoc, va_rf_s, va_rf_n, hx_okr_n, ap_okr, ap_gvo hi, ap_gvo hr, ap_iso hi, h2.gv (show 0 ∈ [0] by decide), h1.gv (show 11 ∈ [11] by decide), ap_cpy (x := 24) l1 q1 rfl (by decide), ap_cpy (x := 10) l2 q2 rfl (by decide), ap_cpy (x := 5) l3 q3 rfl (by decide), ap_cpy (x := 20) l4 q4 rfl (by decide), ap_cpy (x := 20) l5 q5 rfl (by decide)]
  · obtain ⟨c1, c2, c3, c4, c5, c6⟩ := C
    have cp : ∀ (f : Nat → Int32) (m k : Nat), k < m → va_cpy f (fun _ => 0) 0 0 m k = f k := fun f m k hk => by
      rw [pk_cpy_in (Nat.zero_le _) (by omega)]
      congr 1
      omega
    refine ⟨c1, fun k x hk => ?_, fun k hk => (cp _ _ _ hk).trans (c3 k hk), fun k hk => (cp _ _ _ hk).trans (c4 k hk), fun k hk => (cp _ _ _ hk).trans (c5 k hk), fun k hk => ?_⟩
    · rw [z2 k (List.getElem?_eq_some_iff.1 hk).1]
      exact c2 k x hk
    · by_cases c : k < 20
      · rw [cp _ _ _ c, cp _ _ _ c]
        exact c6 k hk
      · omega
/-- trace, clear -/
theorem c_trace {D : gx_D} {h : HX} {n li s t : Nat} {mc cf ac x y : Int32} {fe : Nat → Option Nat} {f1 f2 f3 f4 f5 : Nat → Int32} {tl : List gx_E} (ht : t ≤ 20) : ∃ g4 g5, f_X4_trace D (hx_ap n h (rnB n mc li fe f1 f2 f3 f4 f5 cf ac (nI t) ++ tl) s) n x y = some (hx_ap n h (rnB n mc li fe f1 f2 f3 g4 g5 cf ac (nI (if t < 20 then t + 1 else 20)) ++ tl) s) ∧ ∀ j, j < 20 → g4 j = (if j = 0 then x else f4 (j - 1)) ∧ g5 j = (if j = 0 then y else f5 (j - 1)) := by
  obtain ⟨z, ⟨z4, z5, zz, hz⟩, z3⟩ := gx_lq (F := fun f (z : HX × Int32) => f_X4_trace_b3 D f z.1 n x y z.2) (I := fun k z => ∃ g4 g5, z = (hx_ap n h (rnB n mc li fe f1 f2 f3 g4 g5 cf ac (nI t) ++ tl) s, nI (19 - k)) ∧ ∀ j, j < 20 → g4 j = (if 19 - k < j then f4 (j - 1) else f4 j) ∧ g5 j = (if 19 - k < j then f5 (j - 1) else f5 j)) 19 (by
    intro f k z hk hI
    obtain ⟨g4, g5, rfl, hg⟩ := hI
    refine ⟨_, ⟨upd g4 (19 - k) (g4 (18 - k)), upd g5 (19 - k) (g5 (18 - k)), rfl, fun j hj => ?_⟩, ?_⟩
    · obtain ⟨a1, a2⟩ := hg j hj
      obtain ⟨b1, b2⟩ := hg (18 - k) (by omega)
      by_cases c : j = 19 - k
      · subst c
        rw [pk_us, pk_us, b1, b2, if_neg (show ¬ 19 - k < 18 - k by omega), if_neg (show ¬ 19 - k < 18 - k by omega), if_pos (show 19 - (k + 1) < 19 - k by omega), if_pos (show 19 - (k + 1) < 19 - k by omega), show 19 - k - 1 = 18 - k by omega]
        exact ⟨rfl, rfl⟩
      · rw [pk_un c, pk_un c, a1, a2]
        by_cases c2 : 19 - k < j
        · rw [if_pos c2, if_pos c2, if_pos (show 19 - (k + 1) < j by omega), if_pos (show 19 - (k + 1) < j by omega)]
          exact ⟨rfl, rfl⟩
        · rw [if_neg c2, if_neg c2, if_neg (show ¬ 19 - (k + 1) < j by omega), if_neg (show ¬ 19 - (k + 1) < j by omega)]
          exact ⟨rfl, rfl⟩
    · have e1 : nI (19 - k) - 1 = nI (18 - k) := by
        rw [show (1 : Int32) = nI 1 from rfl, pk_sub (by omega), show 19 - k - 1 = 18 - k by omega]
      have e2 : nI (19 - k) + -1 = nI (19 - (k + 1)) := by
        rw [show 19 - k = 18 - k + 1 by omega, pk_m1, show 18 - k = 19 - (k + 1) by omega]
      have e3 : ¬ nI (19 - k) ≤ 0 := nI_nle (by omega) (by omega)
      simp [f_X4_trace_b3, rnB, ap_new, ap_pv, ap_pv0, ap_gv, ap_gv0, ap_is, ap_is0, ap_len, ap_len0, hx_gi_r, hx_gr_r, hx_pr, hx_pi, gx_b2, gx_bx, Nat.add_assoc, va_rf_s, va_rf_n, hx_okr_n, ap_okr, e1, e2, e3, ap_ai (x := nI (18 - k)) (k := 18 - k) rfl (by omega), ap_si (x := nI (19 - k)) (k := 19 - k) rfl (by omega), show 19 - k < 20 by omega, show 18 - k < 20 by omega]) 19 0 gx_fuel (hx_ap n h (rnB n mc li fe f1 f2 f3 f4 f5 cf ac (nI t) ++ tl) s, 19) (by omega) (by rw [pl_fl]; omega) ⟨f4, f5, rfl, fun j hj => by rw [if_neg (by omega), if_neg (by omega)]; exact ⟨rfl, rfl⟩⟩
  subst zz
  obtain ⟨g, hg⟩ : ∃ g, gx_fuel - 19 = g + 1 := ⟨gx_fuel - 20, by rw [pl_fl]⟩
  rw [hg] at z3
  refine ⟨upd z4 0 x, upd z5 0 y, ?_, fun j hj => ?_⟩
  · unfold f_X4_trace
    have e1 : hx_is (hx_ap n h (rnB n mc li fe f1 f2 f3 f4 f5 cf ac (nI t) ++ tl) s) n [11] = some () := by
      simp [rnB, ap_new, ap_pv, ap_pv0, ap_gv, ap_gv0, ap_is, ap_is0, ap_len, ap_len0, hx_gi_r, hx_gr_r, hx_pr, hx_pi, gx_b2, gx_bx, Nat.add_assoc, va_rf_s, va_rf_n, hx_okr_n, ap_okr]
    rw [e1, Option.bind_some, show f_X4_trace_b3 D gx_fuel (hx_ap n h (rnB n mc li fe f1 f2 f3 f4 f5 cf ac (nI t) ++ tl) s) n x y 19 = _ from z3]
    by_cases c : t < 20
    · have e2 : ¬ (20 : Int32) ≤ nI (t + 1) ∨ True := Or.inr trivial
      have e3 : nI t + 1 = nI (t + 1) := nI_1 t
      by_cases c2 : t + 1 < 20
      · have e4 : nI (t + 1) < 20 := nI_lt (a := t + 1) (b := 20) c2 (by decide)
        simp [f_X4_trace_b3, f_X4_trace_b41, rnB, ap_new, ap_pv, ap_pv0, ap_gv, ap_gv0, ap_is, ap_is0, ap_len, ap_len0, hx_gi_r, hx_gr_r, hx_pr, hx_pi, gx_b2, gx_bx, Nat.add_assoc, va_rf_s, va_rf_n, hx_okr_n, ap_okr, nI_0, ap_si (x := 0) (k := 0) rfl (by decide), f_J12_min, e3, e4, c]
      · have e4 : ¬ nI (t + 1) < 20 := nI_nlt (a := t + 1) (b := 20) (by omega) (by omega)
        have e5 : t + 1 = 20 := by omega
        simp [f_X4_trace_b3, f_X4_trace_b41, rnB, ap_new, ap_pv, ap_pv0, ap_gv, ap_gv0, ap_is, ap_is0, ap_len, ap_len0, hx_gi_r, hx_gr_r, hx_pr, hx_pi, gx_b2, gx_bx, Nat.add_assoc, va_rf_s, va_rf_n, hx_okr_n, ap_okr, nI_0, ap_si (x := 0) (k := 0) rfl (by decide), f_J12_min, e3, e4, c]
        rw [e5]
        rfl
    · have e3 : nI t + 1 = nI (t + 1) := nI_1 t
      have e4 : ¬ nI (t + 1) < 20 := nI_nlt (a := t + 1) (b := 20) (by omega) (by omega)
      simp [f_X4_trace_b3, f_X4_trace_b41, rnB, ap_new, ap_pv, ap_pv0, ap_gv, ap_gv0, ap_is, ap_is0, ap_len, ap_len0, hx_gi_r, hx_gr_r, hx_pr, hx_pi, gx_b2, gx_bx, Nat.add_assoc, va_rf_s, va_rf_n, hx_okr_n, ap_okr, nI_0, ap_si (x := 0) (k := 0) rfl (by decide), f_J12_min, e3, e4, c]
      rfl
  · obtain ⟨a1, a2⟩ := hz j hj
    by_cases c : j = 0
    · subst c
      rw [pk_us, pk_us, if_pos rfl, if_pos rfl]
      exact ⟨rfl, rfl⟩
    · rw [pk_un c, pk_un c, a1, a2, if_pos (show 19 - 19 < j by omega), if_pos (show 19 - 19 < j by omega), if_neg c, if_neg c]
      exact ⟨rfl, rfl⟩
theorem c_clear {D : gx_D} {h : HX} {n li s : Nat} {q : CF} {mc ac tr : Int32} {fe : Nat → Option Nat} {f1 f2 f3 f4 f5 : Nat → Int32} {tl : List gx_E} (hq : cf_ok q) : ∃ g1 g2 g3, f_X4_clear D (hx_ap n h (rnB n mc li fe f1 f2 f3 f4 f5 (nI (cf_c q)) ac tr ++ tl) s) n = some (hx_ap n h (rnB n mc li fe g1 g2 g3 f4 f5 (nI (cf_c q)) 0 0 ++ tl) s) ∧ (∀ j, j < 24 → g1 j = 0) ∧ (∀ j, j < 10 → g2 j = if j = q.1 then 1 else 0) ∧ ∀ j, j < 5 → g3 j = 0 := by
  have up : ∀ (g : Nat → Int32) (k : Nat), (∀ j, j < k → g j = 0) → ∀ j, j < k + 1 → upd g k 0 j = 0 := fun g k hg j hj => by
    by_cases c : j = k
    · rw [c, pk_us]
    · rw [pk_un c]; exact hg j (by omega)
  obtain ⟨z, ⟨g1, zz, hz1⟩, z1⟩ := gx_lq (F := fun f (z : HX × Int32) => f_X4_clear_b2 D f z.1 n z.2) (I := fun k z => ∃ g, z = (hx_ap n h (rnB n mc li fe g f2 f3 f4 f5 (nI (cf_c q)) ac tr ++ tl) s, nI k) ∧ ∀ j, j < k → g j = 0) 24 (by
    intro f k z hk hI
    obtain ⟨g, rfl, hg⟩ := hI
    refine ⟨_, ⟨upd g k 0, rfl, up g k hg⟩, ?_⟩
    have e3 : ¬ (24 : Int32) ≤ nI k := nI_ge hk (by decide)
    simp [f_X4_clear_b2, rnB, ap_new, ap_pv, ap_pv0, ap_gv, ap_gv0, ap_is, ap_is0, ap_len, ap_len0, hx_gi_r, hx_gr_r, hx_pr, hx_pi, gx_b2, gx_bx, Nat.add_assoc, va_rf_s, va_rf_n, hx_okr_n, ap_okr, e3, ap_si (x := nI k) (k := k) rfl (by omega), hk, gx_c1]) 24 0 gx_fuel (hx_ap n h (rnB n mc li fe f1 f2 f3 f4 f5 (nI (cf_c q)) ac tr ++ tl) s, 0) (by omega) (by rw [pl_fl]; omega) ⟨f1, rfl, fun j h => by omega⟩
  subst zz
  obtain ⟨z, ⟨g2, zz, hz2⟩, z2⟩ := gx_lq (F := fun f (z : HX × Int32) => f_X4_clear_b23 D f z.1 n z.2) (I := fun k z => ∃ g, z = (hx_ap n h (rnB n mc li fe g1 g f3 f4 f5 (nI (cf_c q)) ac tr ++ tl) s, nI k) ∧ ∀ j, j < k → g j = 0) 10 (by
    intro f k z hk hI
    obtain ⟨g, rfl, hg⟩ := hI
    refine ⟨_, ⟨upd g k 0, rfl, up g k hg⟩, ?_⟩
    have e3 : ¬ (10 : Int32) ≤ nI k := nI_ge hk (by decide)
    simp [f_X4_clear_b23, rnB, ap_new, ap_pv, ap_pv0, ap_gv, ap_gv0, ap_is, ap_is0, ap_len, ap_len0, hx_gi_r, hx_gr_r, hx_pr, hx_pi, gx_b2, gx_bx, Nat.add_assoc, va_rf_s, va_rf_n, hx_okr_n, ap_okr, e3, ap_si (x := nI k) (k := k) rfl (by omega), hk, gx_c1]) 10 0 gx_fuel (hx_ap n h (rnB n mc li fe g1 f2 f3 f4 f5 (nI (cf_c q)) ac tr ++ tl) s, 0) (by omega) (by rw [pl_fl]; omega) ⟨f2, rfl, fun j h => by omega⟩
  subst zz
  obtain ⟨z, ⟨g3, zz, hz3⟩, z3⟩ := gx_lq (F := fun f (z : HX × Int32) => f_X4_clear_b44 D f z.1 n z.2) (I := fun k z => ∃ g, z = (hx_ap n h (rnB n mc li fe g1 g2 g f4 f5 (nI (cf_c q)) ac tr ++ tl) s, nI k) ∧ ∀ j, j < k → g j = 0) 5 (by
    intro f k z hk hI
    obtain ⟨g, rfl, hg⟩ := hI
    refine ⟨_, ⟨upd g k 0, rfl, up g k hg⟩, ?_⟩
    have e3 : ¬ (5 : Int32) ≤ nI k := nI_ge hk (by decide)
    simp [f_X4_clear_b44, rnB, ap_new, ap_pv, ap_pv0, ap_gv, ap_gv0, ap_is, ap_is0, ap_len, ap_len0, hx_gi_r, hx_gr_r, hx_pr, hx_pi, gx_b2, gx_bx, Nat.add_assoc, va_rf_s, va_rf_n, hx_okr_n, ap_okr, e3, ap_si (x := nI k) (k := k) rfl (by omega), hk, gx_c1]) 5 0 gx_fuel (hx_ap n h (rnB n mc li fe g1 g2 f3 f4 f5 (nI (cf_c q)) ac tr ++ tl) s, 0) (by omega) (by rw [pl_fl]; omega) ⟨f3, rfl, fun j h => by omega⟩
  subst zz
  obtain ⟨u1, hu1⟩ : ∃ g, gx_fuel - 24 = g + 1 := ⟨gx_fuel - 25, by rw [pl_fl]⟩
  obtain ⟨u2, hu2⟩ : ∃ g, gx_fuel - 10 = g + 1 := ⟨gx_fuel - 11, by rw [pl_fl]⟩
  obtain ⟨u3, hu3⟩ : ∃ g, gx_fuel - 5 = g + 1 := ⟨gx_fuel - 6, by rw [pl_fl]⟩
  rw [hu1] at z1
  rw [hu2] at z2
  rw [hu3] at z3
  have q1 := hq.1
  refine ⟨g1, upd g2 q.1 1, g3, ?_, hz1, fun j hj => ?_, hz3⟩
  · unfold f_X4_clear
    have e1 : hx_is (hx_ap n h (rnB n mc li fe f1 f2 f3 f4 f5 (nI (cf_c q)) ac tr ++ tl) s) n [11] = some () := by
      simp [rnB, ap_new, ap_pv, ap_pv0, ap_gv, ap_gv0, ap_is, ap_is0, ap_len, ap_len0, hx_gi_r, hx_gr_r, hx_pr, hx_pi, gx_b2, gx_bx, Nat.add_assoc, va_rf_s, va_rf_n, hx_okr_n, ap_okr]
    have s1 : f_X4_clear_b2 D gx_fuel (hx_ap n h (rnB n mc li fe f1 f2 f3 f4 f5 (nI (cf_c q)) ac tr ++ tl) s) n 0 = _ := z1
    have s2 : f_X4_clear_b23 D gx_fuel (hx_ap n h (rnB n mc li fe g1 f2 f3 f4 f5 (nI (cf_c q)) ac tr ++ tl) s) n 0 = _ := z2
    have s3 : f_X4_clear_b44 D gx_fuel (hx_ap n h (rnB n mc li fe g1 g2 f3 f4 f5 (nI (cf_c q)) ac tr ++ tl) s) n 0 = _ := z3
    rw [e1, Option.bind_some, s1]
    simp only [f_X4_clear_b2, if_pos (show (24 : Int32) ≤ nI 24 by decide), f_X4_clear_b21, s2, f_X4_clear_b23, if_pos (show (10 : Int32) ≤ nI 10 by decide), f_X4_clear_b42, s3, f_X4_clear_b44, if_pos (show (5 : Int32) ≤ nI 5 by decide)]
    simp [f_X4_clear_b62, f_X4_state, rnB, ap_new, ap_pv, ap_pv0, ap_gv, ap_gv0, ap_is, ap_is0, ap_len, ap_len0, hx_gi_r, hx_gr_r, hx_pr, hx_pi, gx_b2, gx_bx, Nat.add_assoc, va_rf_s, va_rf_n, hx_okr_n, ap_okr, c_state hq, ap_si (x := nI q.1) (k := q.1) rfl (by omega), q1]
  · by_cases c : j = q.1
    · rw [c, pk_us, if_pos rfl]
    · rw [pk_un c, if_neg c]; exact hz2 j hj
