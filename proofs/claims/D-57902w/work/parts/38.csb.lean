/-! the component's search in breadth, with a visitor -/
set_option maxRecDepth 100000
def foN (uf ud : CF → Int32 → Int32) (L : List EN) (f0 d0 : Int32) : Nat → Int32 × Int32
  | 0 => (f0, d0)
  | i + 1 => match L[i]? with
    | none => foN uf ud L f0 d0 i
    | some y => (uf y.1 (foN uf ud L f0 d0 i).1, ud y.1 (foN uf ud L f0 d0 i).2)
theorem foN_s {uf ud : CF → Int32 → Int32} {L : List EN} {f0 d0 : Int32} {i : Nat} : foN uf ud L f0 d0 (i + 1) = match L[i]? with
  | none => foN uf ud L f0 d0 i
  | some y => (uf y.1 (foN uf ud L f0 d0 i).1, ud y.1 (foN uf ud L f0 d0 i).2) := rfl
def vis_done (D : gx_D) (hs : HX) (x a de fi qu v : Nat) (fs : List Value) (dn : Int32 → Bool) : Prop := ∀ k16 h S M b fnd dl, cs_ok hs h x a de fi qu fs S M b fnd dl → (if hx_isb h v [26, 29] = true then
    (f_X37_isDone D h v).bind fun b16 =>
    f_X21_inBreadth_b33 D k16 h a (some v) b16
    else
    if hx_isb h v [27, 28, 30] = true then
    (f_X23_isDone D h v).bind fun b46 =>
    f_X21_inBreadth_b33 D k16 h a (some v) b46
    else
    none) = f_X21_inBreadth_b33 D k16 h a (some v) (dn fnd)
def vis_visit (D : gx_D) (hs : HX) (x a de fi qu v : Nat) (fs : List Value) (uf ud : CF → Int32 → Int32) : Prop := ∀ k16 h S M b fnd dl q, cs_ok hs h x a de fi qu fs S M b fnd dl → cf_ok q → ∃ h1, cs_ok hs h1 x a de fi qu fs S M b (uf q fnd) (ud q dl) ∧ (if hx_isb h v [26] = true then
    (f_X22_visit D h v (nI (cf_c q))).bind fun u31 =>
    f_X21_inBreadth_b66 D k16 h a (some v) (nI (cf_c q))
    else
    if hx_isb h v [27, 28, 30] = true then
    (f_X23_visit D h v (nI (cf_c q))).bind fun h34 =>
    f_X21_inBreadth_b66 D k16 h34 a (some v) (nI (cf_c q))
    else
    if hx_isb h v [29] = true then
    (f_X26_visit D h v (nI (cf_c q))).bind fun h37 =>
    f_X21_inBreadth_b66 D k16 h37 a (some v) (nI (cf_c q))
    else
    none) = f_X21_inBreadth_b66 D k16 h1 a (some v) (nI (cf_c q))
theorem cs_begin {hs h : HX} {x a de fi qu : Nat} {fs : List Value} {S : List CF} {M : List EN} {b b' fnd dl : Int32} (X : cs_fx x a de fi qu fs) (H : cs_ok hs h x a de fi qu fs S M b fnd dl) : ∃ h1, hx_pi h a [25] 0 b' = some h1 ∧ cs_ok hs h1 x a de fi qu fs S M b' fnd dl := by
  obtain ⟨X1, X2, X3, X4, n1, n2, n3, n4, n5, n6, n7, n8, n9, n10⟩ := X
  obtain ⟨⟨s1, s2, s3⟩, hx, ha, g, fd, ff, fq, hde, hfi, hqu, k⟩ := H
  obtain ⟨h1, e1, c1⟩ := hx_pv_e (cis := [25]) (k := 0) (v := .int b') ha (by decide) (by simp)
  refine ⟨h1, e1, ⟨c1.1.trans s1, c1.2.1.trans s2, fun z z1 z2 z3 z4 z5 => ?_⟩, ?_, c1.2.2.1, g, fd, ff, fq, ?_, ?_, ?_, k⟩
  · rw [c1.2.2.2 z z2, s3 z z1 z2 z3 z4 z5]
  · rw [c1.2.2.2 x n1, hx]
  · rw [c1.2.2.2 de (fun e => n5 e.symm), hde]
  · rw [c1.2.2.2 fi (fun e => n6 e.symm), hfi]
  · rw [c1.2.2.2 qu (fun e => n7 e.symm), hqu]
theorem nxN_nxok {F : DF} {R : RN} (h : tr_oks F.ts) : nx_ok (nxN F.ts R.iv) := fun _ _ _ hq e => nxN_ok h hq e
theorem c_inBreadth {D : gx_D} {hs h : HX} {x a de fi qu v : Nat} {fs : List Value} {F : DF} {R : RN} {b0 f0 d0 : Int32} {uf ud : CF → Int32 → Int32} {dn : Int32 → Bool} (V : cs_vm D hs x a de fi qu fs F R) (hq0 : cf_ok R.cf) (H : cs_ok hs h x a de fi qu fs [] [] b0 f0 d0) (hb0 : b0 = 0)
    (A : vis_done D hs x a de fi qu v fs dn) (B : vis_visit D hs x a de fi qu v fs uf ud) :
    ∃ n h1, f_X21_inBreadth D h a (some v) = some (nI n, h1) ∧ cs_ok hs h1 x a de fi qu fs ((bfs (nxN F.ts R.iv) F.en.length R.cf n).map (fun y : EN => y.1)) (bfs (nxN F.ts R.iv) F.en.length R.cf n) (nI n) (foN uf ud (bfA (nxN F.ts R.iv) F.en.length R.cf) f0 d0 n).1 (foN uf ud (bfA (nxN F.ts R.iv) F.en.length R.cf) f0 d0 n).2 ∧
      (∀ j, j < n → dn (foN uf ud (bfA (nxN F.ts R.iv) F.en.length R.cf) f0 d0 j).1 = false) ∧ n ≤ (bfs (nxN F.ts R.iv) F.en.length R.cf n).length ∧ ((bfs (nxN F.ts R.iv) F.en.length R.cf n).length ≤ n ∨ dn (foN uf ud (bfA (nxN F.ts R.iv) F.en.length R.cf) f0 d0 n).1 = true) := by
  obtain ⟨X, T, ⟨d, r, f5, f6, hd, hr⟩, hF, hap, hne⟩ := id V
  have hE : F.en.length ≤ 8 := hF.2.1.2
  have hnx := nxN_nxok (R := R) hF.trs
  obtain ⟨d', r', fs', w1, w2, w3, w4, ⟨i, a1, a2, a3, a4, a5, ge, gt, w5, w6⟩⟩ := V.at H
  obtain ⟨h7, m1, m2⟩ := c_mark (D := D) (y := (R.cf, 0, 0, 0)) (lab := -1) X H hq0 (by simp) (by simp) rfl
  unfold f_X21_inBreadth
  rw [(hx_ob.mk H.2.2.1).is (by decide), Option.bind_some, (hx_ob.mk H.2.2.1).gr (show 25 ∈ [25] by decide) (k := 2) rfl, Option.bind_some, Option.bind_some, w1.gr (show 9 ∈ [9] by decide) w3, Option.bind_some, Option.bind_some, w5.gi (show 11 ∈ [11] by decide) (k := 6) rfl, Option.bind_some, show (0 : Int32) = nI 0 from rfl, m1, Option.bind_some]
  subst hb0
  obtain ⟨rr, e1, n, h1, e2, e3⟩ := gx_lp (F := fun f (s : HX) => f_X21_inBreadth_b16 D f s a (some v))
    (I := fun i s => cs_ok hs s x a de fi qu fs ((bfs (nxN F.ts R.iv) F.en.length R.cf i).map (fun y : EN => y.1)) (bfs (nxN F.ts R.iv) F.en.length R.cf i) (nI i) (foN uf ud (bfA (nxN F.ts R.iv) F.en.length R.cf) f0 d0 i).1 (foN uf ud (bfA (nxN F.ts R.iv) F.en.length R.cf) f0 d0 i).2 ∧ (∀ j, j < i → dn (foN uf ud (bfA (nxN F.ts R.iv) F.en.length R.cf) f0 d0 j).1 = false) ∧ i ≤ (bfs (nxN F.ts R.iv) F.en.length R.cf i).length)
    (Q := fun rr => ∃ n h1, rr = (nI n, h1) ∧ cs_ok hs h1 x a de fi qu fs ((bfs (nxN F.ts R.iv) F.en.length R.cf n).map (fun y : EN => y.1)) (bfs (nxN F.ts R.iv) F.en.length R.cf n) (nI n) (foN uf ud (bfA (nxN F.ts R.iv) F.en.length R.cf) f0 d0 n).1 (foN uf ud (bfA (nxN F.ts R.iv) F.en.length R.cf) f0 d0 n).2 ∧
      (∀ j, j < n → dn (foN uf ud (bfA (nxN F.ts R.iv) F.en.length R.cf) f0 d0 j).1 = false) ∧ n ≤ (bfs (nxN F.ts R.iv) F.en.length R.cf n).length ∧ ((bfs (nxN F.ts R.iv) F.en.length R.cf n).length ≤ n ∨ dn (foN uf ud (bfA (nxN F.ts R.iv) F.en.length R.cf) f0 d0 n).1 = true)) 10000 (by
    intro f i s hi hI
    obtain ⟨H1, h2, h3⟩ := hI
    have lL := bfs_len hE hnx hq0 i
    have g0 := (hx_ob.mk H1.2.2.1).gi (show 25 ∈ [25] by decide) (k := 0) rfl
    have g1 := (hx_ob.mk H1.2.2.1).gi (show 25 ∈ [25] by decide) (k := 1) rfl
    rw [List.length_map] at g1
    by_cases c : (bfs (nxN F.ts R.iv) F.en.length R.cf i).length ≤ i
    · refine Or.inr ⟨(nI i, s), ?_, i, s, rfl, H1, h2, h3, Or.inl c⟩
      simp only [f_X21_inBreadth_b16, g0, g1, Option.bind_some, if_pos (nI_le c (show i < 2 ^ 31 by omega)), f_X21_inBreadth_b74]
    · have hlt : i < (bfs (nxN F.ts R.iv) F.en.length R.cf i).length := by omega
      have hAi : (bfA (nxN F.ts R.iv) F.en.length R.cf)[i]? = some (bfs (nxN F.ts R.iv) F.en.length R.cf i)[i] := pre_get (bfA_pre hE hnx hq0) (List.getElem?_eq_getElem hlt)
      cases cd : dn (foN uf ud (bfA (nxN F.ts R.iv) F.en.length R.cf) f0 d0 i).1 with
      | true =>
        refine Or.inr ⟨(nI i, s), ?_, i, s, rfl, H1, h2, h3, Or.inr cd⟩
        simp only [f_X21_inBreadth_b16, g0, g1, Option.bind_some, if_neg (nI_ge hlt (show (bfs (nxN F.ts R.iv) F.en.length R.cf i).length < 2 ^ 31 by omega))]
        rw [A (f_X21_inBreadth_b16 D f) s _ _ _ _ _ H1, cd]
        simp only [f_X21_inBreadth_b33, if_true, f_X21_inBreadth_b74, g0, Option.bind_some]
      | false =>
        refine Or.inl ?_
        have hmem : (bfs (nxN F.ts R.iv) F.en.length R.cf i)[i] ∈ bfs (nxN F.ts R.iv) F.en.length R.cf i := List.getElem_mem hlt
        have hyo := bfs_ok hnx hq0 i _ hmem
        obtain ⟨X1, X2, X3, X4, n1, n2, n3, n4, n5, n6, n7, n8, n9, n10⟩ := id X
        obtain ⟨_, hx, ha, ⟨p1, p2, p3⟩, fd, ff, fq, hde, hfi, hqu, k1, k2, k3⟩ := id H1
        have q11 := (hx_ob.mk hx).gr (show 9 ∈ [9] by decide) (k := 11) (by rw [cs_x_at (by decide) (by decide)]; exact X4)
        have qv := k1 i (bfs (nxN F.ts R.iv) F.en.length R.cf i)[i].1 (by rw [List.getElem?_map, List.getElem?_eq_getElem hlt]; rfl)
        obtain ⟨h25, b1, b2⟩ := cs_begin (b' := nI (i + 1)) X H1
        obtain ⟨h34, v1, v2⟩ := B (f_X21_inBreadth_b16 D f) h25 _ _ _ _ _ _ b2 hyo
        obtain ⟨h30, x1, x2⟩ := c_expand V v1 hmem (10 * i)
        have eL : bfs (nxN F.ts R.iv) F.en.length R.cf i ++ xsN (nxN F.ts R.iv) (bfs (nxN F.ts R.iv) F.en.length R.cf i) (bfs (nxN F.ts R.iv) F.en.length R.cf i)[i] (10 * i) F.en.length = bfs (nxN F.ts R.iv) F.en.length R.cf (i + 1) := (xsN_bxs (List.getElem?_eq_getElem hlt) F.en.length).symm
        rw [← List.map_append, eL] at x2
        have fo : foN uf ud (bfA (nxN F.ts R.iv) F.en.length R.cf) f0 d0 (i + 1) = (uf (bfs (nxN F.ts R.iv) F.en.length R.cf i)[i].1 (foN uf ud (bfA (nxN F.ts R.iv) F.en.length R.cf) f0 d0 i).1, ud (bfs (nxN F.ts R.iv) F.en.length R.cf i)[i].1 (foN uf ud (bfA (nxN F.ts R.iv) F.en.length R.cf) f0 d0 i).2) := by
          rw [foN_s, hAi]
        refine ⟨h30, ⟨by rw [fo]; exact x2, fun j hj => ?_, ?_⟩, ?_⟩
        · by_cases cj : j = i
          · rw [cj]; exact cd
          · exact h2 j (by omega)
        · have := (bfs_pre (nx := nxN F.ts R.iv) (nE := F.en.length) (q0 := R.cf) i 1).length_le
          omega
        · simp only [f_X21_inBreadth_b16, g0, g1, Option.bind_some, if_neg (nI_ge hlt (show (bfs (nxN F.ts R.iv) F.en.length R.cf i).length < 2 ^ 31 by omega))]
          rw [A (f_X21_inBreadth_b16 D f) s _ _ _ _ _ H1, cd]
          simp only [f_X21_inBreadth_b33, Bool.false_eq_true, if_false, (hx_ob.mk ha).gr (show 25 ∈ [25] by decide) (k := 2) rfl, q11, (hx_oi.mk hqu).ai (show i < 10000 by omega) (by decide), qv, gx_c1, b1, g0, Option.bind_some]
          rw [v2]
          simp only [f_X21_inBreadth_b66, x1, Option.bind_some]) (by
    intro f s hI
    obtain ⟨H1, h2, h3⟩ := hI
    have lL := bfs_len hE hnx hq0 10000
    have g0 := (hx_ob.mk H1.2.2.1).gi (show 25 ∈ [25] by decide) (k := 0) rfl
    have g1 := (hx_ob.mk H1.2.2.1).gi (show 25 ∈ [25] by decide) (k := 1) rfl
    rw [List.length_map] at g1
    refine ⟨(nI 10000, s), ?_, 10000, s, rfl, H1, h2, h3, Or.inl lL⟩
    simp only [f_X21_inBreadth_b16, g0, g1, Option.bind_some, if_pos (nI_le lL (show 10000 < 2 ^ 31 by decide)), f_X21_inBreadth_b74]) 10000 0 gx_fuel h7 (by omega) (by rw [pl_fl]; omega) ⟨m2, fun j h => by omega, Nat.zero_le _⟩
  exact ⟨n, h1, by rw [e1, e2], e3⟩
