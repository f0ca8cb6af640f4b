/-! the component's searches, whole -/
set_option maxRecDepth 100000
theorem hx_isb_ob {h : HX} {a ci : Nat} {fs : List Value} {cis : List Nat} (H : hx_ob h a ci fs) : hx_isb h a cis = decide (ci ∈ cis) := by
  obtain ⟨b, e⟩ := H
  unfold hx_isb hx_is
  rw [e]
  simp only
  by_cases c : ci ∈ cis
  · rw [if_pos c, decide_eq_true c]; rfl
  · rw [if_neg c, decide_eq_false c]; rfl
/-- what a search needs -/
def cs_mx (D : gx_D) (h : HX) (x de fi qu : Nat) (fs : List Value) (F : DF) (R : RN) : Prop :=
  h.2.2 x = some (true, .inr (9, fs)) ∧ fs.length = 15 ∧ (fs[9]? = some (va_rf (some de)) ∧ fs[10]? = some (va_rf (some fi)) ∧ fs[11]? = some (va_rf (some qu))) ∧
  (∃ d r, fs[5]? = some (va_rf (some d)) ∧ fs[6]? = some (va_rf (some r)) ∧ hx_df D (hzf h) d F ∧ hx_rn D (hzf h) r R) ∧
  ((∃ f, h.2.2 de = some (true, .inl (0, 10000, .inl f))) ∧ (∃ f, h.2.2 fi = some (true, .inl (0, 10000, .inl f))) ∧ ∃ f, h.2.2 qu = some (true, .inl (0, 10000, .inl f))) ∧
  (x < h.1 ∧ de < h.1 ∧ fi < h.1 ∧ qu < h.1 ∧ de ≠ fi ∧ de ≠ qu ∧ fi ≠ qu) ∧ df_ok F ∧ gx_apt D ∧ gx_apt2 D ∧ cf_ok R.cf
/-- nothing lies above the top -/
def wfI (h h1 : HX) : Prop := (∀ q, h.1 ≤ q → h.2.2 q = none) → ∀ q, h1.1 ≤ q → h1.2.2 q = none
/-- what a search leaves -/
def cs_post (h h1 : HX) (x de fi qu : Nat) (fs : List Value) (fnd dl : Int32) (kc ks : Nat) : Prop :=
  (h.1 ≤ h1.1 ∧ h1.1 ≤ h.1 + kc ∧ h.2.1 ≤ h1.2.1 ∧ h1.2.1 ≤ h.2.1 + ks ∧ wfI h h1) ∧ (∀ z, z < h.1 → z ≠ x → z ≠ de → z ≠ fi → z ≠ qu → h1.2.2 z = h.2.2 z) ∧ h1.2.2 x = some (true, .inr (9, cs_x fs fnd dl)) ∧
  (∃ f, h1.2.2 de = some (true, .inl (0, 10000, .inl f))) ∧ (∃ f, h1.2.2 fi = some (true, .inl (0, 10000, .inl f))) ∧ ∃ f, h1.2.2 qu = some (true, .inl (0, 10000, .inl f))
theorem cs_mx.ne {D : gx_D} {h : HX} {x de fi qu : Nat} {fs : List Value} {F : DF} {R : RN} (H : cs_mx D h x de fi qu fs F R) : x ≠ de ∧ x ≠ fi ∧ x ≠ qu := by
  obtain ⟨hx, _, _, _, ⟨⟨f1, h1⟩, ⟨f2, h2⟩, ⟨f3, h3⟩⟩, _⟩ := H
  refine ⟨fun e => ?_, fun e => ?_, fun e => ?_⟩
  · rw [e, h1] at hx; cases hx
  · rw [e, h2] at hx; cases hx
  · rw [e, h3] at hx; cases hx
theorem zf_sub_of {h h1 : HX} (h0 : h.1 ≤ h1.1) (k : ∀ z c, z < h.1 → h.2.2 z = some c → c.1 = false → h1.2.2 z = some c) : hx_sub (hzf h) (hzf h1) := by
  intro a c e
  obtain ⟨c1, c2, c3⟩ := hzf_eq e
  obtain ⟨b, x⟩ := c
  simp only at c2
  subst c2
  exact hzf_of (Nat.lt_of_lt_of_le c1 h0) (k a _ c1 c3 rfl)
/-- a new search -/
theorem c_new {D : gx_D} {h : HX} {x de fi qu : Nat} {fs : List Value} {F : DF} {R : RN} (H : cs_mx D h x de fi qu fs F R) :
    ∃ h2 h4, hx_new h 3 25 gx_df25 = some (h.1, h2) ∧ f_X21_init D h2 h.1 (some x) = some h4 ∧ h4.1 = h.1 + 1 ∧ h4.2.1 = h.2.1 + 3 ∧ h4.2.2 h.1 = some (true, .inr (25, [.int 0, .int 0, va_rf (some x)])) ∧ (∃ f, h4.2.2 de = some (true, .inl (0, 10000, .inl f)) ∧ ∀ k, k < 10000 → f k = -1) ∧ ∀ z, z ≠ h.1 → z ≠ de → h4.2.2 z = h.2.2 z := by
  obtain ⟨hx, hl, ⟨f9, f10, f11⟩, _, ⟨⟨u1, hde⟩, ⟨u2, hfi⟩, ⟨u3, hqu⟩⟩, ⟨l1, l2, l3, l4, d1, d2, d3⟩, _⟩ := id H
  obtain ⟨n1, n2, n3⟩ := H.ne
  obtain ⟨h2, e2, c2⟩ := hx_new_e (h := h) (n := 3) (ci := 25) (fs := gx_df25)
  refine ⟨h2, ?_⟩
  obtain ⟨h3, e3, c3⟩ := hx_pv_e (cis := [25]) (k := 2) (v := va_rf (some x)) c2.2.2.1 (by decide) (by decide)
  have x3 : h3.2.2 x = some (true, .inr (9, fs)) := by rw [c3.2.2.2 x (by omega), c2.2.2.2 x (by omega), hx]
  have de3 : h3.2.2 de = some (true, .inl (0, 10000, .inl u1)) := by rw [c3.2.2.2 de (by omega), c2.2.2.2 de (by omega), hde]
  obtain ⟨s', k1, k2⟩ := gx_lq (F := fun f (s : HX × Int32) => f_X21_init_b11 D f s.1 (some x) s.2) (I := fun i s => s.2 = nI i ∧ s.1.1 = h3.1 ∧ s.1.2.1 = h3.2.1 ∧ (∀ z, z ≠ de → s.1.2.2 z = h3.2.2 z) ∧ ∃ f, s.1.2.2 de = some (true, .inl (0, 10000, .inl f)) ∧ ∀ k, k < i → f k = -1) 10000 (by
    intro f i s hi hI
    obtain ⟨s1, s2⟩ := s
    obtain ⟨i1, i2, i3, i4, g, i5, i6⟩ := hI
    simp only at i1 i2 i3 i4 i5
    subst i1
    obtain ⟨h6, e6, c6⟩ := hx_si_e (x := -1) i5 hi (by decide)
    have x1 : s1.2.2 x = some (true, .inr (9, fs)) := by rw [i4 x n1, x3]
    refine ⟨(h6, nI (i + 1)), ⟨rfl, by simp only; rw [c6.1, i2], by simp only; rw [c6.2.1, i3], fun z hz => by simp only; rw [c6.2.2.2 z hz, i4 z hz], _, c6.2.2.1, fun k hk => ?_⟩, ?_⟩
    · by_cases c : k = i
      · rw [c, pk_us]
      · rw [pk_un c]; exact i6 k (by omega)
    · simp only [f_X21_init_b11, if_neg (show ¬ (10000 : Int32) ≤ nI i from nI_ge hi (by decide)), Option.bind_some, (hx_ob.mk x1).gr (show 9 ∈ [9] by decide) f9, e6, gx_c1]) 10000 0 gx_fuel (h3, 0) (by omega) (by rw [pl_fl]; omega) ⟨rfl, rfl, rfl, fun _ _ => rfl, u1, de3, fun k h => by omega⟩
  obtain ⟨s1, s2⟩ := s'
  obtain ⟨i1, i2, i3, i4, g, i5, i6⟩ := k1
  simp only at i1 i2 i3 i4 i5
  subst i1
  refine ⟨s1, e2, ?_, by rw [i2, c3.1, c2.1], by rw [i3, c3.2.1, c2.2.1], ?_, ⟨g, i5, i6⟩, fun z z1 z2 => by rw [i4 z z2, c3.2.2.2 z z1, c2.2.2.2 z z1]⟩
  · unfold f_X21_init hx_pr
    rw [e3, Option.bind_some]
    have k2' : f_X21_init_b11 D gx_fuel h3 (some x) 0 = f_X21_init_b11 D (gx_fuel - 10000) s1 (some x) (nI 10000) := k2
    obtain ⟨g, hg⟩ : ∃ g, gx_fuel - 10000 = g + 1 := ⟨189999, by rw [pl_fl]⟩
    rw [k2', hg]
    simp only [f_X21_init_b11, if_pos (show (10000 : Int32) ≤ nI 10000 by decide)]
  · rw [i4 h.1 (by omega), c3.2.2.1]
    rfl
theorem c_fx {D : gx_D} {h : HX} {x de fi qu : Nat} {fs : List Value} {F : DF} {R : RN} (H : cs_mx D h x de fi qu fs F R) {fs' : List Value} (hl : fs'.length = 15) (h9 : fs'[9]? = fs[9]?) (h10 : fs'[10]? = fs[10]?) (h11 : fs'[11]? = fs[11]?) : cs_fx x h.1 de fi qu fs' := by
  obtain ⟨hx, _, ⟨f9, f10, f11⟩, _, _, ⟨l1, l2, l3, l4, d1, d2, d3⟩, _⟩ := id H
  obtain ⟨n1, n2, n3⟩ := H.ne
  refine ⟨hl, by rw [h9, f9], by rw [h10, f10], by rw [h11, f11], by omega, n1, n2, n3, by omega, by omega, by omega, d1, d2, d3⟩
theorem cs_x_self {fs : List Value} {fnd dl : Int32} (h1 : fs[12]? = some (.int fnd)) (h2 : fs[13]? = some (.int dl)) : cs_x fs fnd dl = fs := by
  unfold cs_x
  apply List.ext_getElem?
  intro k
  by_cases c : k = 13
  · subst c
    have := (List.getElem?_eq_some_iff.1 h2).1
    rw [List.getElem?_set_self (by rw [List.length_set]; omega), h2]
  · rw [List.getElem?_set_ne (fun e => c e.symm)]
    by_cases c2 : k = 12
    · subst c2
      have := (List.getElem?_eq_some_iff.1 h1).1
      rw [List.getElem?_set_self (by omega), h1]
    · rw [List.getElem?_set_ne (fun e => c2 e.symm)]
theorem cs_x_len {fs : List Value} {fnd dl : Int32} : (cs_x fs fnd dl).length = fs.length := by
  unfold cs_x
  rw [List.length_set, List.length_set]
theorem cs_x_x {fs : List Value} {a b c d : Int32} : cs_x (cs_x fs a b) c d = cs_x fs c d := by
  unfold cs_x
  apply List.ext_getElem?
  intro k
  by_cases e1 : k = 13
  · subst e1
    by_cases l : 13 < fs.length
    · rw [List.getElem?_set_self (by simp only [List.length_set]; omega), List.getElem?_set_self (by simp only [List.length_set]; omega)]
    · rw [List.getElem?_eq_none (by simp only [List.length_set]; omega), List.getElem?_eq_none (by simp only [List.length_set]; omega)]
  · rw [List.getElem?_set_ne (fun e => e1 e.symm), List.getElem?_set_ne (fun e => e1 e.symm)]
    by_cases e2 : k = 12
    · subst e2
      by_cases l : 12 < fs.length
      · rw [List.getElem?_set_self (by simp only [List.length_set]; omega), List.getElem?_set_self (by omega)]
      · rw [List.getElem?_eq_none (by simp only [List.length_set]; omega), List.getElem?_eq_none (by simp only [List.length_set]; omega)]
    · rw [List.getElem?_set_ne (fun e => e2 e.symm), List.getElem?_set_ne (fun e => e2 e.symm), List.getElem?_set_ne (fun e => e1 e.symm), List.getElem?_set_ne (fun e => e2 e.symm)]
/-- a search begins: at h4 the visitor has been made too (v), x may have changed at 12, 13 -/
theorem c_begin {D : gx_D} {h h4 : HX} {x de fi qu : Nat} {fs : List Value} {F : DF} {R : RN} {fnd dl : Int32} (H : cs_mx D h x de fi qu fs F R) (l : h.1 ≤ h4.1) (hx4 : h4.2.2 x = some (true, .inr (9, cs_x fs fnd dl))) (ha : h4.2.2 h.1 = some (true, .inr (25, [.int 0, .int 0, va_rf (some x)]))) (hd : ∃ f, h4.2.2 de = some (true, .inl (0, 10000, .inl f)) ∧ ∀ k, k < 10000 → f k = -1) (hz : ∀ z, z < h.1 → z ≠ x → z ≠ de → h4.2.2 z = h.2.2 z) :
    cs_vm D h4 x h.1 de fi qu fs F R ∧ cs_ok h4 h4 x h.1 de fi qu fs [] [] 0 fnd dl := by
  obtain ⟨hx, hl, ⟨f9, f10, f11⟩, ⟨d, r, f5, f6, hdf, hrn⟩, ⟨⟨u1, hde⟩, ⟨u2, hfi⟩, ⟨u3, hqu⟩⟩, ⟨l1, l2, l3, l4, d1, d2, d3⟩, hF, hap, hne, hcf⟩ := id H
  obtain ⟨n1, n2, n3⟩ := H.ne
  obtain ⟨f, hd1, hd2⟩ := hd
  have fi4 := (hz fi l3 (fun e => n2 e.symm) (fun e => d1 e.symm)).trans hfi
  have qu4 := (hz qu l4 (fun e => n3 e.symm) (fun e => d2 e.symm)).trans hqu
  have sub : hx_sub (hzf h) (hzf h4) := zf_sub_of l fun z c hlt hc hb => by
    rw [hz z hlt (fun e => by rw [e, hx] at hc; rw [← Option.some.inj hc] at hb; cases hb) (fun e => by rw [e, hde] at hc; rw [← Option.some.inj hc] at hb; cases hb), hc]
  refine ⟨⟨c_fx H hl rfl rfl rfl, ⟨⟨_, hx4⟩, ⟨_, ha⟩, ⟨_, hd1⟩, ⟨_, fi4⟩, ⟨_, qu4⟩⟩, ⟨d, r, f5, f6, hdf.sub sub, hrn.sub sub⟩, hF, hap, hne⟩, ⟨rfl, rfl, fun _ _ _ _ _ _ => rfl⟩, hx4, ha, ⟨Nat.le_refl _, List.Pairwise.nil, fun y hy => (by cases hy)⟩, f, u2, u3, hd1, fi4, qu4, fun k q hk => (by simp at hk), fun y hy => (by cases hy), fun q hq _ => hd2 _ (cf_c_lt hq)⟩
theorem c_end {D : gx_D} {h h4 h1 : HX} {x de fi qu : Nat} {fs : List Value} {F : DF} {R : RN} {fnd dl b : Int32} {S : List CF} {M : List EN} {kc ks : Nat} (H : cs_mx D h x de fi qu fs F R) (l : h.1 ≤ h4.1 ∧ h4.1 ≤ h.1 + kc ∧ h.2.1 ≤ h4.2.1 ∧ h4.2.1 ≤ h.2.1 + ks) (hz : ∀ z, z < h.1 → z ≠ x → z ≠ de → h4.2.2 z = h.2.2 z) (hw : h.1 < h4.1 ∧ ∀ z, h4.1 ≤ z → h4.2.2 z = h.2.2 z) (O : cs_ok h4 h1 x h.1 de fi qu fs S M b fnd dl) : cs_post h h1 x de fi qu fs fnd dl kc ks := by
  obtain ⟨⟨s1, s2, s3⟩, hx, ha, g, fd, ff, fq, hde, hfi, hqu, k⟩ := O
  have ww : wfI h h1 := fun w z hz => by
    obtain ⟨_, _, _, _, _, ⟨l1, l2, l3, l4, _⟩, _⟩ := H
    rw [s3 z (by omega) (by omega) (by omega) (by omega) (by omega), hw.2 z (by omega), w z (by omega)]
  refine ⟨by rw [s1, s2]; exact ⟨l.1, l.2.1, l.2.2.1, l.2.2.2, ww⟩, fun z z0 z1 z2 z3 z4 => ?_, hx, ⟨fd, hde⟩, ⟨ff, hfi⟩, ⟨fq, hqu⟩⟩
  rw [s3 z z1 (by omega) z2 z3 z4, hz z z0 z1 z2]
theorem cs_post.mx {D : gx_D} {h h1 : HX} {x de fi qu : Nat} {fs : List Value} {F : DF} {R : RN} {fnd dl : Int32} {kc ks : Nat} (H : cs_mx D h x de fi qu fs F R) (P : cs_post h h1 x de fi qu fs fnd dl kc ks) : cs_mx D h1 x de fi qu (cs_x fs fnd dl) F R := by
  obtain ⟨hx, hl, ⟨f9, f10, f11⟩, ⟨d, r, f5, f6, hdf, hrn⟩, ⟨⟨u1, hde⟩, ⟨u2, hfi⟩, ⟨u3, hqu⟩⟩, ⟨l1, l2, l3, l4, d1, d2, d3⟩, hF⟩ := H
  obtain ⟨⟨p1, p2, p3, p4⟩, q1, q2, q3⟩ := P
  have sub : hx_sub (hzf h) (hzf h1) := zf_sub_of p1 fun z c hlt hc hb => by
    rw [q1 z hlt (fun e => by rw [e, hx] at hc; rw [← Option.some.inj hc] at hb; cases hb) (fun e => by rw [e, hde] at hc; rw [← Option.some.inj hc] at hb; cases hb) (fun e => by rw [e, hfi] at hc; rw [← Option.some.inj hc] at hb; cases hb) (fun e => by rw [e, hqu] at hc; rw [← Option.some.inj hc] at hb; cases hb), hc]
  exact ⟨q2, by rw [cs_x_len, hl], by rw [cs_x_at (by decide) (by decide), cs_x_at (by decide) (by decide), cs_x_at (by decide) (by decide)]; exact ⟨f9, f10, f11⟩, ⟨d, r, by rw [cs_x_at (by decide) (by decide)]; exact f5, by rw [cs_x_at (by decide) (by decide)]; exact f6, hdf.sub sub, hrn.sub sub⟩, q3, ⟨by omega, by omega, by omega, by omega, d1, d2, d3⟩, hF⟩
theorem cs_post.tr {h h1 h2 : HX} {x de fi qu : Nat} {fs : List Value} {a b c d : Int32} {k1 k2 s1 s2 : Nat} (P : cs_post h h1 x de fi qu fs a b k1 s1) (Q : cs_post h1 h2 x de fi qu (cs_x fs a b) c d k2 s2) : cs_post h h2 x de fi qu fs c d (k1 + k2) (s1 + s2) := by
  obtain ⟨⟨p1, p2, p3, p4, pw⟩, q1, q2, q3⟩ := P
  obtain ⟨⟨p1', p2', p3', p4', pw'⟩, q1', q2', q3'⟩ := Q
  rw [cs_x_x] at q2'
  exact ⟨⟨by omega, by omega, by omega, by omega, fun w => pw' (pw w)⟩, fun z z0 z1 z2 z3 z4 => by rw [q1' z (by omega) z1 z2 z3 z4, q1 z z0 z1 z2 z3 z4], q2', q3'⟩
/-- the number of configurations that can be reached -/
theorem c_reach {D : gx_D} {h : HX} {x de fi qu : Nat} {fs : List Value} {F : DF} {R : RN} {fnd dl : Int32} (H : cs_mx D h x de fi qu fs F R) (e12 : fs[12]? = some (.int fnd)) (e13 : fs[13]? = some (.int dl)) : ∃ h1, f_X1_reachableCount D h x = some (nI (bfA (nxN F.ts R.iv) F.en.length R.cf).length, h1) ∧ cs_post h h1 x de fi qu fs fnd dl 2 4 := by
  obtain ⟨hx, hl, _, _, _, ⟨l1, l2, l3, l4, d1, d2, d3⟩, hF, hap, hne, hcf⟩ := id H
  obtain ⟨h2, h4, e2, e4, a1, a2, a3, a4, a5⟩ := c_new H
  obtain ⟨n1, n2, n3⟩ := H.ne
  have hE : F.en.length ≤ 8 := hF.2.1.2
  have hnx := nxN_nxok (R := R) hF.trs
  obtain ⟨h6, e6, c6⟩ := hx_new_e (h := h4) (n := 1) (ci := 26) (fs := gx_df26)
  obtain ⟨h8, e8, c8⟩ := hx_pv_e (cis := [26]) (k := 0) (v := va_rf (some x)) c6.2.2.1 (by decide) (by decide)
  have old : ∀ z, z ≠ h4.1 → h8.2.2 z = h4.2.2 z := fun z hz => by rw [c8.2.2.2 z hz, c6.2.2.2 z hz]
  have hz : ∀ z, z < h.1 → z ≠ x → z ≠ de → h8.2.2 z = h.2.2 z := fun z z0 z1 z2 => by rw [old z (by omega), a5 z (by omega) z2]
  obtain ⟨f, a4a, a4b⟩ := a4
  obtain ⟨V, O⟩ := c_begin (h4 := h8) (fnd := fnd) (dl := dl) H (by rw [c8.1, c6.1, a1]; omega) (by rw [old x (by omega), a5 x (by omega) n1, hx, cs_x_self e12 e13]) (by rw [old _ (by omega), a3]) ⟨f, by rw [old de (by omega), a4a], a4b⟩ hz
  have hv : ∀ {h' S M b fnd dl}, cs_ok h8 h' x h.1 de fi qu fs S M b fnd dl → hx_ob h' h4.1 26 (gx_df26.set 0 (va_rf (some x))) := fun O' => hx_ob.mk (b := true) (by rw [O'.1.2.2 h4.1 (by omega) (by omega) (by omega) (by omega) (by omega)]; exact c8.2.2.1)
  obtain ⟨n, h1, r1, r2, r3, r4, r5⟩ := c_inBreadth (v := h4.1) (dn := fun _ => false) (uf := fun _ y => y) (ud := fun _ y => y) V hcf O rfl (fun k16 h' S M b fnd dl O' => by
      have o := hv O'
      rw [hx_isb_ob o, if_pos (by decide)]
      unfold f_X37_isDone
      rw [o.is (by decide)]
      rfl) (fun k16 h' S M b fnd dl q O' hq => by
      have o := hv O'
      refine ⟨h', O', ?_⟩
      rw [hx_isb_ob o, if_pos (by decide)]
      unfold f_X22_visit
      rw [o.is (by decide)]
      rfl)
  have fo : ∀ m, foN (fun _ y => y) (fun _ y => y) (bfA (nxN F.ts R.iv) F.en.length R.cf) fnd dl m = (fnd, dl) := fun m => by
    induction m with
    | zero => rfl
    | succ m ih =>
      rw [foN_s, ih]
      split <;> rfl
  rw [fo] at r2
  have r5 : (bfs (nxN F.ts R.iv) F.en.length R.cf n).length ≤ n := by
    rcases r5 with c | c
    · exact c
    · cases c
  refine ⟨h1, ?_, c_end H ⟨by rw [c8.1, c6.1, a1]; omega, by rw [c8.1, c6.1, a1]; omega, by rw [c8.2.1, c6.2.1, a2]; omega, by rw [c8.2.1, c6.2.1, a2]; omega⟩ hz ⟨by rw [c8.1, c6.1, a1]; omega, fun z z1 => by rw [c8.1, c6.1] at z1; rw [old z (by omega), a5 z (by omega) (by omega)]⟩ r2⟩
  unfold f_X1_reachableCount f_X22_init hx_pr
  simp only [(hx_ob.mk hx).is (show 9 ∈ [9] by decide), Option.bind_some, gx_b2, e2, e4, e6, e8, r1]
  rw [bfA_end hE hnx hcf r5]
  have e : (bfs (nxN F.ts R.iv) F.en.length R.cf n).length = n := by omega
  rw [e]
/-- what a finder has found -/
def fnU (P : CF → Bool) (q : CF) (y : Int32) : Int32 := if P q = true then nI (cf_c q) else y
theorem fo_find {P : CF → Bool} {L : List EN} {dl : Int32} {ud : CF → Int32 → Int32} (hL : ∀ y, y ∈ L → cf_ok y.1) : ∀ (n : Nat), n ≤ L.length → (∀ j, j < n → (foN (fnU P) ud L (-1) dl j).1 = -1) → ((foN (fnU P) ud L (-1) dl n).1 = -1 ∧ ∀ j y, j < n → L[j]? = some y → P y.1 = false) ∨ ∃ k y, n = k + 1 ∧ L[k]? = some y ∧ bfF L P = some k ∧ (foN (fnU P) ud L (-1) dl n).1 = nI (cf_c y.1)
  | 0, _, _ => Or.inl ⟨rfl, fun j y h => by omega⟩
  | n + 1, hn, hj => by
    have hlt : n < L.length := by omega
    have hy := List.getElem?_eq_getElem hlt
    rcases fo_find hL n (by omega) (fun j h => hj j (by omega)) with ⟨h1, h2⟩ | ⟨k, y, rfl, h2, h3, h4⟩
    · rw [foN_s, hy]
      simp only
      cases c : P L[n].1 with
      | true =>
        refine Or.inr ⟨n, L[n], rfl, hy, List.findIdx?_eq_some_iff_getElem.2 ⟨hlt, c, fun j hj => ?_⟩, ?_⟩
        · rw [h2 j _ hj (List.getElem?_eq_getElem (by omega))]
          exact Bool.false_ne_true
        · unfold fnU
          rw [if_pos c]
      | false =>
        refine Or.inl ⟨?_, fun j y hj hy' => ?_⟩
        · unfold fnU
          rw [if_neg (by rw [c]; exact Bool.false_ne_true)]
          exact h1
        · by_cases e : j = n
          · subst e
            rw [hy] at hy'
            cases hy'
            exact c
          · exact h2 j y (by omega) hy'
    · have := hj (k + 1) (by omega)
      rw [h4] at this
      exact absurd this (oI_ne (by have := cf_c_lt (hL y (List.mem_of_getElem? h2)); omega))
/-- a finder of class ci at v: field 0 is the machine -/
def fn_at (D : gx_D) (hs : HX) (x a de fi qu v : Nat) (fs : List Value) (P : CF → Bool) : Prop := v ≠ x ∧ v ≠ a ∧ v ≠ de ∧ v ≠ fi ∧ v ≠ qu ∧ ∃ ci vs, hs.2.2 v = some (true, .inr (ci, vs)) ∧ (ci = 27 ∨ ci = 28 ∨ ci = 30) ∧ vs[0]? = some (va_rf (some x)) ∧ ∀ h S M b fnd dl q, cs_ok hs h x a de fi qu fs S M b fnd dl → cf_ok q → (ci = 27 → f_X24_isSought D h v (nI (cf_c q)) = some (P q)) ∧ (ci = 28 → f_X25_isSought D h v (nI (cf_c q)) = some (P q)) ∧ (ci = 30 → f_X27_isSought D h v (nI (cf_c q)) = some (P q))
theorem fn_done {D : gx_D} {hs : HX} {x a de fi qu v : Nat} {fs : List Value} {P : CF → Bool} (X : cs_fx x a de fi qu fs) (Fn : fn_at D hs x a de fi qu v fs P) : vis_done D hs x a de fi qu v fs fun fnd => !decide (fnd = -1) := by
  obtain ⟨v1, v2, v3, v4, v5, ci, vs, hv, hci, hv0, hs'⟩ := Fn
  intro k16 h S M b fnd dl O
  have o : hx_ob h v ci vs := hx_ob.mk (b := true) (by rw [O.1.2.2 v v1 v2 v3 v4 v5]; exact hv)
  have ox : hx_ob h x 9 (cs_x fs fnd dl) := hx_ob.mk O.2.1
  have m : ci ∈ [27, 28, 30] := by rcases hci with rfl | rfl | rfl <;> decide
  rw [hx_isb_ob o, hx_isb_ob o, decide_eq_true m, decide_eq_false (by rcases hci with rfl | rfl | rfl <;> decide), if_neg Bool.false_ne_true, if_pos rfl]
  unfold f_X23_isDone
  rw [o.is m, Option.bind_some, o.gr m hv0, Option.bind_some, Option.bind_some, ox.gi (show 9 ∈ [9] by decide) (cs_x_12 X.1), Option.bind_some]
  show _ = f_X21_inBreadth_b33 D k16 h a (some v) (!decide (fnd = -1))
  by_cases c : fnd = -1
  · rw [if_pos c, decide_eq_true c]; rfl
  · rw [if_neg c, decide_eq_false c]; rfl
theorem cs_found {hs h : HX} {x a de fi qu : Nat} {fs : List Value} {S : List CF} {M : List EN} {b fnd fnd' dl : Int32} (X : cs_fx x a de fi qu fs) (H : cs_ok hs h x a de fi qu fs S M b fnd dl) : ∃ h1, hx_pi h x [9] 12 fnd' = some h1 ∧ cs_ok hs h1 x a de fi qu fs S M b fnd' dl := by
  obtain ⟨X1, X2, X3, X4, n1, n2, n3, n4, n5, n6, n7, n8, n9, n10⟩ := X
  obtain ⟨⟨s1, s2, s3⟩, hx, ha, g, fd, ff, fq, hde, hfi, hqu, k⟩ := H
  obtain ⟨h1, e1, c1⟩ := hx_pv_e (cis := [9]) (k := 12) (v := .int fnd') hx (by decide) (by rw [cs_x_len]; omega)
  refine ⟨h1, e1, ⟨c1.1.trans s1, c1.2.1.trans s2, fun z z1 z2 z3 z4 z5 => ?_⟩, ?_, ?_, g, fd, ff, fq, ?_, ?_, ?_, k⟩
  · rw [c1.2.2.2 z z1, s3 z z1 z2 z3 z4 z5]
  · rw [c1.2.2.1]
    unfold cs_x
    rw [List.set_comm _ _ (by decide), List.set_set]
  · rw [c1.2.2.2 a (fun e => n1 e.symm), ha]
  · rw [c1.2.2.2 de (fun e => n2 e.symm), hde]
  · rw [c1.2.2.2 fi (fun e => n3 e.symm), hfi]
  · rw [c1.2.2.2 qu (fun e => n4 e.symm), hqu]
theorem cs_dead {hs h : HX} {x a de fi qu : Nat} {fs : List Value} {S : List CF} {M : List EN} {b fnd dl dl' : Int32} (X : cs_fx x a de fi qu fs) (H : cs_ok hs h x a de fi qu fs S M b fnd dl) : ∃ h1, hx_pi h x [9] 13 dl' = some h1 ∧ cs_ok hs h1 x a de fi qu fs S M b fnd dl' := by
  obtain ⟨X1, X2, X3, X4, n1, n2, n3, n4, n5, n6, n7, n8, n9, n10⟩ := X
  obtain ⟨⟨s1, s2, s3⟩, hx, ha, g, fd, ff, fq, hde, hfi, hqu, k⟩ := H
  obtain ⟨h1, e1, c1⟩ := hx_pv_e (cis := [9]) (k := 13) (v := .int dl') hx (by decide) (by rw [cs_x_len]; omega)
  refine ⟨h1, e1, ⟨c1.1.trans s1, c1.2.1.trans s2, fun z z1 z2 z3 z4 z5 => ?_⟩, ?_, ?_, g, fd, ff, fq, ?_, ?_, ?_, k⟩
  · rw [c1.2.2.2 z z1, s3 z z1 z2 z3 z4 z5]
  · rw [c1.2.2.1]
    unfold cs_x
    rw [List.set_set]
  · rw [c1.2.2.2 a (fun e => n1 e.symm), ha]
  · rw [c1.2.2.2 de (fun e => n2 e.symm), hde]
  · rw [c1.2.2.2 fi (fun e => n3 e.symm), hfi]
  · rw [c1.2.2.2 qu (fun e => n4 e.symm), hqu]
theorem fn_visit {D : gx_D} {hs : HX} {x a de fi qu v : Nat} {fs : List Value} {P : CF → Bool} (X : cs_fx x a de fi qu fs) (Fn : fn_at D hs x a de fi qu v fs P) : vis_visit D hs x a de fi qu v fs (fnU P) fun _ y => y := by
  obtain ⟨v1, v2, v3, v4, v5, ci, vs, hv, hci, hv0, hs'⟩ := Fn
  intro k16 h S M b fnd dl q O hq
  have o : hx_ob h v ci vs := hx_ob.mk (b := true) (by rw [O.1.2.2 v v1 v2 v3 v4 v5]; exact hv)
  have m : ci ∈ [27, 28, 30] := by rcases hci with rfl | rfl | rfl <;> decide
  obtain ⟨s1, s2, s3⟩ := hs' h S M b fnd dl q O hq
  have b5 : ∃ h1, cs_ok hs h1 x a de fi qu fs S M b (fnU P q fnd) dl ∧ f_X23_visit_b5 D h v (nI (cf_c q)) (P q) = some h1 := by
    unfold f_X23_visit_b5 fnU
    cases P q with
    | true =>
      obtain ⟨h1, e1, e2⟩ := cs_found (fnd' := nI (cf_c q)) X O
      refine ⟨h1, e2, ?_⟩
      rw [if_pos rfl, o.gr m hv0, Option.bind_some, Option.bind_some, e1]
      rfl
    | false => exact ⟨h, O, rfl⟩
  obtain ⟨h1, e1, e2⟩ := b5
  refine ⟨h1, e1, ?_⟩
  have vis : f_X23_visit D h v (nI (cf_c q)) = some h1 := by
    unfold f_X23_visit
    rw [o.is m, Option.bind_some, hx_isb_ob o, hx_isb_ob o, hx_isb_ob o]
    rcases hci with rfl | rfl | rfl
    · rw [decide_eq_true (by decide), if_pos rfl, s1 rfl, Option.bind_some, e2]
    · rw [decide_eq_false (by decide), if_neg Bool.false_ne_true, decide_eq_true (by decide), if_pos rfl, s2 rfl, Option.bind_some, e2]
    · rw [decide_eq_false (by decide), if_neg Bool.false_ne_true, decide_eq_false (by decide), if_neg Bool.false_ne_true, decide_eq_true (by decide), if_pos rfl, s3 rfl, Option.bind_some, e2]
  rw [hx_isb_ob o, hx_isb_ob o, decide_eq_true m, decide_eq_false (by rcases hci with rfl | rfl | rfl <;> decide), if_neg Bool.false_ne_true, if_pos rfl, vis, Option.bind_some]
/-- a finder's search, over -/
theorem c_find {D : gx_D} {hs : HX} {x a de fi qu v : Nat} {fs : List Value} {F : DF} {R : RN} {dl : Int32} {P : CF → Bool} (V : cs_vm D hs x a de fi qu fs F R) (hq0 : cf_ok R.cf) (O : cs_ok hs hs x a de fi qu fs [] [] 0 (-1) dl) (Fn : fn_at D hs x a de fi qu v fs P) :
    ∃ n h1 S M b, f_X21_inBreadth D hs a (some v) = some (nI n, h1) ∧ ((bfF (bfA (nxN F.ts R.iv) F.en.length R.cf) P = none ∧ cs_ok hs h1 x a de fi qu fs S M b (-1) dl) ∨ ∃ k y, bfF (bfA (nxN F.ts R.iv) F.en.length R.cf) P = some k ∧ (bfA (nxN F.ts R.iv) F.en.length R.cf)[k]? = some y ∧ y ∈ M ∧ cs_ok hs h1 x a de fi qu fs S M b (nI (cf_c y.1)) dl) := by
  have hF : df_ok F := V.2.2.2.1
  have hE : F.en.length ≤ 8 := hF.2.1.2
  have hnx := nxN_nxok (R := R) hF.trs
  obtain ⟨n, h1, r1, r2, r3, r4, r5⟩ := c_inBreadth V hq0 O rfl (fn_done V.1 Fn) (fn_visit V.1 Fn)
  have hud : ∀ m, (foN (fnU P) (fun _ y => y) (bfA (nxN F.ts R.iv) F.en.length R.cf) (-1) dl m).2 = dl := fun m => by
    induction m with
    | zero => rfl
    | succ m ih =>
      rw [foN_s]
      split
      · exact ih
      · exact ih
  rw [hud] at r2
  have pre := bfA_pre (b := n) hE hnx hq0
  have ok : ∀ y, y ∈ bfA (nxN F.ts R.iv) F.en.length R.cf → cf_ok y.1 := bfs_ok hnx hq0 10000
  refine ⟨n, h1, (bfs (nxN F.ts R.iv) F.en.length R.cf n).map (fun y : EN => y.1), bfs (nxN F.ts R.iv) F.en.length R.cf n, nI n, r1, ?_⟩
  rcases fo_find (P := P) (dl := dl) (ud := fun _ y => y) ok n (Nat.le_trans r4 pre.length_le) (fun j hj => by
    have := r3 j hj
    simp only [Bool.not_eq_false', decide_eq_true_eq] at this
    exact this) with ⟨e1, e2⟩ | ⟨k, y, rfl, e2, e3, e4⟩
  · rw [e1] at r2 r5
    have r5 : (bfs (nxN F.ts R.iv) F.en.length R.cf n).length ≤ n := by
      rcases r5 with c | c
      · exact c
      · simp at c
    refine Or.inl ⟨List.findIdx?_eq_none_iff.2 fun z hz => ?_, r2⟩
    rw [bfA_end hE hnx hq0 r5] at hz e2
    obtain ⟨j, hj, rfl⟩ := List.getElem_of_mem hz
    exact e2 j _ (by omega) (List.getElem?_eq_getElem hj)
  · rw [e4] at r2
    refine Or.inr ⟨k, y, e3, e2, ?_, r2⟩
    obtain ⟨t, ht⟩ := pre
    rw [← ht, List.getElem?_append_left (by omega)] at e2
    exact List.mem_of_getElem? e2
