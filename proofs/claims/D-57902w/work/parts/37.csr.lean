/-! the component's search -/
set_option maxRecDepth 100000
def labI (y : EN) : Int32 := if y.2.1 = 0 then -1 else nI y.2.2.1
def cs_fx (x a de fi qu : Nat) (fs : List Value) : Prop := fs.length = 15 ∧ fs[9]? = some (va_rf (some de)) ∧ fs[10]? = some (va_rf (some fi)) ∧ fs[11]? = some (va_rf (some qu)) ∧ x ≠ a ∧ x ≠ de ∧ x ≠ fi ∧ x ≠ qu ∧ a ≠ de ∧ a ≠ fi ∧ a ≠ qu ∧ de ≠ fi ∧ de ≠ qu ∧ fi ≠ qu
def cs_x (fs : List Value) (fnd dl : Int32) : List Value := (fs.set 12 (.int fnd)).set 13 (.int dl)
theorem cs_x_at {fs : List Value} {fnd dl : Int32} {k : Nat} (h : k ≠ 12) (h2 : k ≠ 13) : (cs_x fs fnd dl)[k]? = fs[k]? := by
  unfold cs_x
  rw [List.getElem?_set_ne (fun e => h2 e.symm), List.getElem?_set_ne (fun e => h e.symm)]
theorem cs_x_12 {fs : List Value} {fnd dl : Int32} (h : fs.length = 15) : (cs_x fs fnd dl)[12]? = some (.int fnd) := by
  unfold cs_x
  rw [List.getElem?_set_ne (by decide), List.getElem?_set_self (by omega)]
theorem cs_x_13 {fs : List Value} {fnd dl : Int32} (h : fs.length = 15) : (cs_x fs fnd dl)[13]? = some (.int dl) := by
  unfold cs_x
  rw [List.getElem?_set_self (by rw [List.length_set]; omega)]
def cs_ok (hs h : HX) (x a de fi qu : Nat) (fs : List Value) (S : List CF) (M : List EN) (b fnd dl : Int32) : Prop :=
  (h.1 = hs.1 ∧ h.2.1 = hs.2.1 ∧ ∀ z, z ≠ x → z ≠ a → z ≠ de → z ≠ fi → z ≠ qu → h.2.2 z = hs.2.2 z) ∧
  h.2.2 x = some (true, .inr (9, cs_x fs fnd dl)) ∧
  h.2.2 a = some (true, .inr (25, [.int b, .int (nI S.length), va_rf (some x)])) ∧
  (S.length ≤ M.length ∧ (M.map (·.1)).Nodup ∧ ∀ y, y ∈ M → cf_ok y.1 ∧ y.2.1 < M.length) ∧
  ∃ fd ff fq : Nat → Int32, h.2.2 de = some (true, .inl (0, 10000, .inl fd)) ∧ h.2.2 fi = some (true, .inl (0, 10000, .inl ff)) ∧ h.2.2 qu = some (true, .inl (0, 10000, .inl fq)) ∧
  (∀ (k : Nat) (q : CF), S[k]? = some q → fq k = nI (cf_c q)) ∧ (∀ y, y ∈ M → fd (cf_c y.1) = nI y.2.1 ∧ ff (cf_c y.1) = labI y) ∧ ∀ q, cf_ok q → q ∉ M.map (·.1) → fd (cf_c q) = -1
theorem en_lt {M : List EN} {q : CF} (h1 : (M.map (·.1)).Nodup) (h2 : ∀ y, y ∈ M → cf_ok y.1) (hq : cf_ok q) (h : q ∉ M.map (·.1)) : M.length < 10000 := by
  have := nodup_le 10000 (((M.map (·.1)) ++ [q]).map cf_c) (by
    refine List.pairwise_iff_getElem.2 fun i j hi hj hij e => ?_
    rw [List.getElem_map, List.getElem_map] at e
    have ok : ∀ p, p ∈ (M.map (·.1)) ++ [q] → cf_ok p := fun p hp => by
      rcases List.mem_append.1 hp with c | c
      · obtain ⟨y, hy, rfl⟩ := List.mem_map.1 c
        exact h2 y hy
      · rw [List.mem_singleton.1 c]; exact hq
    have e := cf_c_inj (ok _ (List.getElem_mem _)) (ok _ (List.getElem_mem _)) e
    have nd : ((M.map (·.1)) ++ [q]).Nodup := List.nodup_append.2 ⟨h1, List.pairwise_singleton _ q, fun a ha b hb e => by
      rw [List.mem_singleton.1 hb] at e
      subst e
      exact h ha⟩
    exact (List.pairwise_iff_getElem.1 nd) i j _ _ hij e) (by
    intro x hx
    obtain ⟨p, hp, rfl⟩ := List.mem_map.1 hx
    rcases List.mem_append.1 hp with c | c
    · obtain ⟨y, hy, rfl⟩ := List.mem_map.1 c
      exact cf_c_lt (h2 y hy)
    · rw [List.mem_singleton.1 c]; exact cf_c_lt hq)
  simp only [List.length_map, List.length_append, List.length_singleton] at this
  omega
theorem hx_ch.ob {h h1 : HX} {a q ci : Nat} {b : Bool} {e : gx_E} {fs : List Value} (c : hx_ch h h1 a e) (n : q ≠ a) (H : h.2.2 q = some (b, .inr (ci, fs))) : h1.2.2 q = some (b, .inr (ci, fs)) := by rw [c.2.2.2 q n, H]
theorem c_mark {D : gx_D} {hs h : HX} {x a de fi qu : Nat} {fs : List Value} {S : List CF} {M : List EN} {b fnd dl lab : Int32} {y : EN} (X : cs_fx x a de fi qu fs) (H : cs_ok hs h x a de fi qu fs S M b fnd dl) (hy : cf_ok y.1) (hm : y.1 ∉ M.map (·.1)) (hd : y.2.1 ≤ M.length) (hl : lab = labI y) : ∃ h1, f_X21_mark D h a (nI (cf_c y.1)) (nI y.2.1) lab = some h1 ∧ cs_ok hs h1 x a de fi qu fs (S ++ [y.1]) (M ++ [y]) b fnd dl := by
  obtain ⟨X1, X2, X3, X4, n1, n2, n3, n4, n5, n6, n7, n8, n9, n10⟩ := X
  obtain ⟨⟨s1, s2, s3⟩, hx, ha, ⟨g1, g2, g3⟩, fd, ff, fq, hde, hfi, hqu, k1, k2, k3⟩ := H
  have lt := en_lt g2 (fun y hy => (g3 y hy).1) hy hm
  have cl := cf_c_lt hy
  obtain ⟨h5, e5, c5⟩ := hx_si_e (x := nI y.2.1) hde cl (by decide)
  have x5 : h5.2.2 x = _ := (c5.2.2.2 x n2).trans hx
  have a5 : h5.2.2 a = _ := (c5.2.2.2 a n5).trans ha
  obtain ⟨h10, e10, c10⟩ := hx_si_e (x := lab) ((c5.2.2.2 fi (fun e => n8 e.symm)).trans hfi) cl (by decide)
  have x10 : h10.2.2 x = _ := (c10.2.2.2 x n3).trans x5
  have a10 : h10.2.2 a = _ := (c10.2.2.2 a n6).trans a5
  obtain ⟨h16, e16, c16⟩ := hx_si_e (x := nI (cf_c y.1)) (((c10.2.2.2 qu (fun e => n10 e.symm)).trans (c5.2.2.2 qu (fun e => n9 e.symm))).trans hqu) (show S.length < 10000 by omega) (by decide)
  have a16 : h16.2.2 a = _ := (c16.2.2.2 a n7).trans a10
  obtain ⟨h18, e18, c18⟩ := hx_pv_e (cis := [25]) (k := 1) (v := .int (nI S.length + 1)) a16 (by decide) (by simp)
  refine ⟨h18, ?_, ?_⟩
  · unfold f_X21_mark
    have q9 := (hx_ob.mk hx).gr (show 9 ∈ [9] by decide) (k := 9) (by rw [cs_x_at (by decide) (by decide)]; exact X2)
    have q10 := (hx_ob.mk x5).gr (show 9 ∈ [9] by decide) (k := 10) (by rw [cs_x_at (by decide) (by decide)]; exact X3)
    have q11 := (hx_ob.mk x10).gr (show 9 ∈ [9] by decide) (k := 11) (by rw [cs_x_at (by decide) (by decide)]; exact X4)
    simp only [(hx_ob.mk ha).is (show 25 ∈ [25] by decide), (hx_ob.mk ha).gr (show 25 ∈ [25] by decide) (k := 2) rfl, Option.bind_some, q9, e5, (hx_ob.mk a5).gr (show 25 ∈ [25] by decide) (k := 2) rfl, q10, e10, (hx_ob.mk a10).gr (show 25 ∈ [25] by decide) (k := 2) rfl, q11, (hx_ob.mk a10).gi (show 25 ∈ [25] by decide) (k := 1) rfl, e16, (hx_ob.mk a16).gi (show 25 ∈ [25] by decide) (k := 1) rfl, hx_pi, e18]
  · refine ⟨⟨by rw [c18.1, c16.1, c10.1, c5.1, s1], by rw [c18.2.1, c16.2.1, c10.2.1, c5.2.1, s2], fun z z1 z2 z3 z4 z5 => ?_⟩, ?_, ?_, ⟨?_, ?_, ?_⟩, upd fd (cf_c y.1) (nI y.2.1), upd ff (cf_c y.1) lab, upd fq S.length (nI (cf_c y.1)), ?_, ?_, ?_, ?_, ?_, ?_⟩
    · rw [c18.2.2.2 z z2, c16.2.2.2 z z5, c10.2.2.2 z z4, c5.2.2.2 z z3, s3 z z1 z2 z3 z4 z5]
    · rw [c18.2.2.2 x n1, c16.2.2.2 x n4, x10]
    · rw [c18.2.2.1, List.length_append, List.length_singleton, ← nI_1]
      rfl
    · simp only [List.length_append, List.length_singleton]
      omega
    · rw [List.map_append]
      exact List.nodup_append.2 ⟨g2, List.pairwise_singleton _ _, fun p hp r hr e => by
        rw [List.mem_singleton.1 hr] at e
        subst e
        exact hm hp⟩
    · intro z hz
      simp only [List.length_append, List.length_singleton]
      rcases List.mem_append.1 hz with c | c
      · have := g3 z c
        exact ⟨this.1, by omega⟩
      · rw [List.mem_singleton.1 c]
        exact ⟨hy, by omega⟩
    · rw [c18.2.2.2 de (fun e => n5 e.symm), c16.2.2.2 de n9, c10.2.2.2 de n8, c5.2.2.1]
    · rw [c18.2.2.2 fi (fun e => n6 e.symm), c16.2.2.2 fi n10, c10.2.2.1]
    · rw [c18.2.2.2 qu (fun e => n7 e.symm), c16.2.2.1]
    · intro k q hk
      by_cases c : k < S.length
      · rw [List.getElem?_append_left c] at hk
        rw [pk_un (by omega)]
        exact k1 k q hk
      · rw [List.getElem?_append_right (by omega)] at hk
        obtain ⟨c2, c3⟩ := List.getElem?_eq_some_iff.1 hk
        simp only [List.length_singleton] at c2
        have c4 : k = S.length := by omega
        subst c4
        simp only [Nat.sub_self, List.getElem_singleton] at c3
        rw [pk_us, c3]
    · intro z hz
      rcases List.mem_append.1 hz with c | c
      · have ne : cf_c z.1 ≠ cf_c y.1 := fun e => hm (by
          rw [← cf_c_inj (g3 z c).1 hy e]
          exact List.mem_map.2 ⟨z, c, rfl⟩)
        rw [pk_un ne, pk_un ne]
        exact k2 z c
      · rw [List.mem_singleton.1 c, pk_us, pk_us]
        exact ⟨rfl, hl⟩
    · intro q hq hn
      rw [List.map_append] at hn
      have n1 : q ∉ M.map (·.1) := fun h => hn (List.mem_append.2 (Or.inl h))
      have n2 : q ≠ y.1 := fun e => hn (List.mem_append.2 (Or.inr (by rw [e]; exact List.mem_singleton.2 rfl)))
      rw [pk_un (fun e => n2 (cf_c_inj hq hy e))]
      exact k3 q hq n1
/-- the new entries that one entry leads to -/
def xsN (nx : CF → Nat → Option CF) (M : List EN) (y : EN) (cd : Nat) : Nat → List EN
  | 0 => []
  | e + 1 => match nx y.1 e with
    | none => xsN nx M y cd e
    | some p => if p ∈ (M ++ xsN nx M y cd e).map (·.1) then xsN nx M y cd e else xsN nx M y cd e ++ [(p, y.2.1 + 1, if y.2.1 = 0 then e else y.2.2.1, cd + e)]
theorem xsN_bxs {nx : CF → Nat → Option CF} {L : List EN} {b : Nat} {y : EN} (hy : L[b]? = some y) : ∀ e, bxs nx L b e = L ++ xsN nx L y (10 * b) e
  | 0 => by simp [bxs, xsN]
  | e + 1 => by
    unfold bxs xsN
    rw [xsN_bxs hy e]
    unfold bxN
    have hb := (List.getElem?_eq_some_iff.1 hy).1
    rw [List.getElem?_append_left hb, hy]
    simp only
    cases nx y.1 e with
    | none => rfl
    | some p =>
      simp only
      by_cases c : p ∈ (L ++ xsN nx L y (10 * b) e).map (·.1)
      · rw [if_pos c, if_pos c]
      · rw [if_neg c, if_neg c, List.append_assoc]
def cs_tr (hs : HX) (x a de fi qu : Nat) : Prop := (∃ e, hs.2.2 x = some (true, e)) ∧ (∃ e, hs.2.2 a = some (true, e)) ∧ (∃ e, hs.2.2 de = some (true, e)) ∧ (∃ e, hs.2.2 fi = some (true, e)) ∧ ∃ e, hs.2.2 qu = some (true, e)
theorem cs_sub {hs h : HX} {x a de fi qu : Nat} {fs : List Value} {S : List CF} {M : List EN} {b fnd dl : Int32} (T : cs_tr hs x a de fi qu) (H : cs_ok hs h x a de fi qu fs S M b fnd dl) : hx_sub (hzf hs) h := by
  intro z c e
  obtain ⟨c1, c2, c3⟩ := hzf_eq e
  obtain ⟨⟨e1, t1⟩, ⟨e2, t2⟩, ⟨e3, t3⟩, ⟨e4, t4⟩, ⟨e5, t5⟩⟩ := T
  have k : ∀ q v, hs.2.2 q = some (true, v) → z ≠ q := fun q v hq hz => by
    rw [hz, hq] at c3
    rw [← Option.some.inj c3] at c2
    cases c2
  rw [H.1.2.2 z (k x _ t1) (k a _ t2) (k de _ t3) (k fi _ t4) (k qu _ t5), c3]
/-- what a search needs to know of the machine -/
def cs_vm (D : gx_D) (hs : HX) (x a de fi qu : Nat) (fs : List Value) (F : DF) (R : RN) : Prop := cs_fx x a de fi qu fs ∧ cs_tr hs x a de fi qu ∧ (∃ d r, fs[5]? = some (va_rf (some d)) ∧ fs[6]? = some (va_rf (some r)) ∧ hx_df D (hzf hs) d F ∧ hx_rn D (hzf hs) r R) ∧ df_ok F ∧ gx_apt D ∧ gx_apt2 D
theorem cs_vm.at {D : gx_D} {hs h : HX} {x a de fi qu : Nat} {fs : List Value} {F : DF} {R : RN} {S : List CF} {M : List EN} {b fnd dl : Int32} (V : cs_vm D hs x a de fi qu fs F R) (H : cs_ok hs h x a de fi qu fs S M b fnd dl) : hx_vm D h x F R := by
  obtain ⟨X, T, ⟨d, r, f5, f6, hd, hr⟩, _⟩ := V
  have s := cs_sub T H
  exact ⟨d, r, cs_x fs fnd dl, hx_ob.mk H.2.1, by rw [cs_x_at (by decide) (by decide)]; exact f5, by rw [cs_x_at (by decide) (by decide)]; exact f6, hd.sub s, hr.sub s⟩
theorem labI_of {y : EN} {p : CF} {e c : Nat} : nI (if y.2.1 = 0 then e else y.2.2.1) = labI (p, y.2.1 + 1, if y.2.1 = 0 then e else y.2.2.1, c) := by
  show _ = if y.2.1 + 1 = 0 then (-1 : Int32) else _
  rw [if_neg (Nat.succ_ne_zero _)]
theorem c_expand {D : gx_D} {hs h : HX} {x a de fi qu : Nat} {fs : List Value} {F : DF} {R : RN} {S : List CF} {M : List EN} {b fnd dl : Int32} {y : EN} (V : cs_vm D hs x a de fi qu fs F R) (H : cs_ok hs h x a de fi qu fs S M b fnd dl) (hy : y ∈ M) (cd : Nat) :
    ∃ h1, f_X21_expand D h a (nI (cf_c y.1)) = some h1 ∧ cs_ok hs h1 x a de fi qu fs (S ++ (xsN (nxN F.ts R.iv) M y cd F.en.length).map (·.1)) (M ++ xsN (nxN F.ts R.iv) M y cd F.en.length) b fnd dl := by
  obtain ⟨X, T, ⟨d, r, f5, f6, hd, hr⟩, hF, hap, hne⟩ := id V
  have hE : F.en.length ≤ 8 := hF.2.1.2
  have hyo : cf_ok y.1 := (H.2.2.2.1.2.2 y hy).1
  unfold f_X21_expand
  rw [(hx_ob.mk H.2.2.1).is (by decide), Option.bind_some]
  obtain ⟨s', h1, h2⟩ := gx_lq (F := fun f (s : HX × Int32) => f_X21_expand_b2 D f s.1 a (nI (cf_c y.1)) s.2) (I := fun e s => s.2 = nI e ∧ cs_ok hs s.1 x a de fi qu fs (S ++ (xsN (nxN F.ts R.iv) M y cd e).map (·.1)) (M ++ xsN (nxN F.ts R.iv) M y cd e) b fnd dl) F.en.length (by
    intro f e s he hI
    obtain ⟨s1, s2⟩ := s
    obtain ⟨hs2, H1⟩ := hI
    simp only at hs2 H1
    subst hs2
    have W := V.at H1
    obtain ⟨d', r', fs', w1, w2, w3, ⟨ls, le, lv, lt, w4, w5, w6, w7, w8⟩, w9⟩ := id W
    have nx1 := (f_verdict hap hne W hF.trs hyo (show e < 2 ^ 31 by omega)).2
    obtain ⟨X1, X2, X3, X4, n1, n2, n3, n4, n5, n6, n7, n8, n9, n10⟩ := id X
    obtain ⟨_, hx, ha, ⟨g1, g2, g3⟩, fd, ff, fq, hde, hfi, hqu, k1, k2, k3⟩ := id H1
    have q9 := (hx_ob.mk hx).gr (show 9 ∈ [9] by decide) (k := 9) (by rw [cs_x_at (by decide) (by decide)]; exact X2)
    have q10 := (hx_ob.mk hx).gr (show 9 ∈ [9] by decide) (k := 10) (by rw [cs_x_at (by decide) (by decide)]; exact X3)
    have ar := (hx_ob.mk ha).gr (show 25 ∈ [25] by decide) (k := 2) rfl
    have cy := cf_c_lt hyo
    have hyM : y ∈ M ++ xsN (nxN F.ts R.iv) M y cd e := List.mem_append.2 (Or.inl hy)
    have ky := k2 y hyM
    simp only [f_X21_expand_b2, f_X21_expand_b97, f_X21_expand_b77, ar, Option.bind_some, w1.gr (show 9 ∈ [9] by decide) w2, w4.gr (show 10 ∈ [10] by decide) (k := 1) rfl, w6.len, if_neg (nI_ge he (show F.en.length < 2 ^ 31 by omega)), nx1, q9, q10, gx_c1]
    unfold xsN
    cases e1 : nxN F.ts R.iv y.1 e with
    | none =>
      refine ⟨(s1, nI (e + 1)), ⟨rfl, H1⟩, ?_⟩
      simp only [if_pos oC_nn]
    | some p =>
      have hp := nxN_ok hF.trs hyo e1
      have cp := cf_c_lt hp
      simp only [if_neg (oC_sne hp)]
      simp only [show oC (some p) = nI (cf_c p) from rfl, (hx_oi.mk hde).ai cp (by decide), (hx_oi.mk hde).ai cy (by decide), (hx_oi.mk hfi).ai cy (by decide), Option.bind_some, ky.1, ky.2]
      by_cases c : p ∈ (M ++ xsN (nxN F.ts R.iv) M y cd e).map (·.1)
      · obtain ⟨z, hz, rfl⟩ := List.mem_map.1 c
        have lz := (g3 z hz).2
        have lM := en_len (L := M ++ xsN (nxN F.ts R.iv) M y cd e) (fun i j u v hi hj huv => by
          obtain ⟨i1, rfl⟩ := List.getElem?_eq_some_iff.1 hi
          obtain ⟨j1, rfl⟩ := List.getElem?_eq_some_iff.1 hj
          refine Classical.byContradiction fun hn => ?_
          have pw := List.pairwise_iff_getElem.1 g2
          rcases Nat.lt_or_gt_of_ne hn with c | c
          · exact pw i j (by rw [List.length_map]; exact i1) (by rw [List.length_map]; exact j1) c (by rw [List.getElem_map, List.getElem_map]; exact huv)
          · exact pw j i (by rw [List.length_map]; exact j1) (by rw [List.length_map]; exact i1) c (by rw [List.getElem_map, List.getElem_map]; exact huv.symm)) (fun z hz => (g3 z hz).1)
        refine ⟨(s1, nI (e + 1)), ⟨rfl, by rw [if_pos c]; exact H1⟩, ?_⟩
        rw [(k2 z hz).1, if_neg (oI_ne (by omega))]
      · have lM := en_lt g2 (fun z hz => (g3 z hz).1) hp c
        have ly := (g3 y hyM).2
        have dd : nI y.2.1 + 1 = nI (y.2.1 + 1) := nI_1 _
        obtain ⟨h1, m1, m2⟩ := c_mark (D := D) (y := (p, y.2.1 + 1, if y.2.1 = 0 then e else y.2.2.1, cd + e)) X H1 hp c (by show y.2.1 + 1 ≤ _; omega) labI_of
        refine ⟨(h1, nI (e + 1)), ⟨rfl, ?_⟩, ?_⟩
        · rw [if_neg c, ← List.append_assoc, List.map_append, ← List.append_assoc]
          exact m2
        · rw [if_pos (k3 p hp c), dd]
          by_cases c0 : y.2.1 = 0
          · rw [if_pos (by rw [c0]; rfl)]
            rw [if_pos c0] at m1
            rw [m1, Option.bind_some]
          · rw [if_neg (nI_ne0 (by omega) (by omega)), show labI y = nI y.2.2.1 from if_neg c0]
            rw [if_neg c0] at m1
            rw [m1, Option.bind_some]) F.en.length 0 gx_fuel (h, 0) (by omega) (by rw [pl_fl]; omega) ⟨rfl, by simpa [xsN] using H⟩
  obtain ⟨s1, s2⟩ := s'
  obtain ⟨e2, H1⟩ := h1
  simp only at e2 H1
  subst e2
  refine ⟨s1, ?_, H1⟩
  obtain ⟨g, hg⟩ : ∃ g, gx_fuel - F.en.length = g + 1 := ⟨gx_fuel - F.en.length - 1, by rw [pl_fl]; omega⟩
  obtain ⟨d', r', fs', w1, w2, w3, ⟨ls, le, lv, lt, w4, w5, w6, w7, w8⟩, w9⟩ := V.at H1
  have ar := (hx_ob.mk H1.2.2.1).gr (show 25 ∈ [25] by decide) (k := 2) rfl
  rw [hg] at h2
  simp only at h2
  rw [h2]
  simp only [f_X21_expand_b2, ar, Option.bind_some, w1.gr (show 9 ∈ [9] by decide) w2, w4.gr (show 10 ∈ [10] by decide) (k := 1) rfl, w6.len, if_pos (nI_le (Nat.le_refl F.en.length) (show F.en.length < 2 ^ 31 by omega))]
