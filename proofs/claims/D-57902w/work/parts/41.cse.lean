/-! sums; the component's search in depth; isConsistent -/
set_option maxRecDepth 100000
def sumI (g : Nat → Int32) : Nat → Int32
  | 0 => 0
  | n + 1 => sumI g n + g n
theorem sumI_ext {g g' : Nat → Int32} : ∀ n, (∀ k, k < n → g k = g' k) → sumI g n = sumI g' n
  | 0, _ => rfl
  | n + 1, h => by
    unfold sumI
    rw [sumI_ext n (fun k hk => h k (by omega)), h n (by omega)]
theorem sumI_cut {g : Nat → Int32} {m : Nat} (h : ∀ k, m ≤ k → g k = 0) : ∀ n, m ≤ n → sumI g n = sumI g m
  | 0, hn => by
    have : m = 0 := by omega
    rw [this]
  | n + 1, hn => by
    by_cases c : m = n + 1
    · rw [c]
    · show sumI g n + g n = _
      rw [sumI_cut h n (by omega), h n (by omega)]
      exact Int32.add_zero _
/-- a loop that adds -/
theorem gx_sum {ρ : Type} {F : Nat → Int32 → Int32 → ρ} {g : Nat → Int32} (n : Nat) (hn : n < 10000) (step : ∀ f i a, i < n → F (f + 1) (nI i) a = F f (nI (i + 1)) (a + g i)) : ∃ f, F gx_fuel 0 0 = F (f + 1) (nI n) (sumI g n) := by
  obtain ⟨s', h1, h2⟩ := gx_lq (F := fun f (s : Int32 × Int32) => F f s.1 s.2) (I := fun i s => s = (nI i, sumI g i)) n (fun f i s hi hI => ⟨_, rfl, by
    rw [hI]
    exact step f i _ hi⟩) n 0 gx_fuel (0, 0) (by omega) (by rw [pl_fl]; omega) rfl
  refine ⟨gx_fuel - n - 1, ?_⟩
  rw [h1] at h2
  rw [show gx_fuel - n - 1 + 1 = gx_fuel - n by rw [pl_fl]; omega]
  exact h2
def accB (R : RN) : Bool := decide (sumI R.tk 24 = R.ac) && decide (sumI R.vi 10 = R.ac + 1)
theorem hx_ar5.ai {h : HX} {a n k : Nat} {f : Nat → Int32} (H : hx_ar5 h a n f) (hk : k < n) (hn : n < 2 ^ 31) : hx_ai h a 0 (nI k) = some (f k) := by
  obtain ⟨g, h1, h2⟩ := H
  rw [h1.ai hk hn, h2 k hk]
theorem hx_ar5.len {h : HX} {a n : Nat} {f : Nat → Int32} (H : hx_ar5 h a n f) : hx_len h a = some (nI n) := by
  obtain ⟨g, h1, h2⟩ := H
  exact h1.len
theorem f_accounts {D : gx_D} {h : HX} {x : Nat} {F : DF} {R : RN} (H : hx_vm D h x F R) (hR : R.rj 0 = 0) : f_X1_areAccountsConsistent D h x = some (accB R) := by
  obtain ⟨d, r, fs, h1, h2, h3, h4, ⟨i, a1, a2, a3, a4, a5, ge, gt, h9, h10, h11, h12, h13, h14⟩⟩ := H
  unfold f_X1_areAccountsConsistent
  simp only [h1.is (show 9 ∈ [9] by decide), h1.gr (show 9 ∈ [9] by decide) h3, h9.gr (show 11 ∈ [11] by decide) (k := 1) rfl, Option.bind_some, h11.len]
  obtain ⟨f, e1⟩ := gx_sum (F := fun f i acc => f_X1_areAccountsConsistent_b19 D f h x acc 0 (some a1) (nI 24) i) (g := R.tk) 24 (by decide) (fun f i a hi => by
    simp only [f_X1_areAccountsConsistent_b19, if_neg (nI_ge hi (show 24 < 2 ^ 31 by decide)), Option.bind_some, h11.ai hi (by decide), gx_c1])
  rw [e1]
  simp only [f_X1_areAccountsConsistent_b19, if_pos (nI_le (Nat.le_refl 24) (show 24 < 2 ^ 31 by decide)), f_X1_areAccountsConsistent_b43, h1.gr (show 9 ∈ [9] by decide) h3, h9.gr (show 11 ∈ [11] by decide) (k := 2) rfl, Option.bind_some, h12.len]
  obtain ⟨f', e2⟩ := gx_sum (F := fun f i acc => f_X1_areAccountsConsistent_b58 D f h x (sumI R.tk 24) acc (some a2) (nI 10) i) (g := R.vi) 10 (by decide) (fun f i a hi => by
    simp only [f_X1_areAccountsConsistent_b58, if_neg (nI_ge hi (show 10 < 2 ^ 31 by decide)), Option.bind_some, h12.ai hi (by decide), gx_c1])
  rw [e2]
  simp only [f_X1_areAccountsConsistent_b58, if_pos (nI_le (Nat.le_refl 10) (show 10 < 2 ^ 31 by decide)), f_X1_areAccountsConsistent_b82, h1.gr (show 9 ∈ [9] by decide) h3, h9.gi (show 11 ∈ [11] by decide) (k := 7) rfl, h9.gr (show 11 ∈ [11] by decide) (k := 3) rfl, Option.bind_some, show (0 : Int32) = nI 0 from rfl, h13.ai (show 0 < 5 by decide) (by decide), hR]
  unfold accB
  by_cases c1 : sumI R.tk 24 = R.ac
  · by_cases c2 : sumI R.vi 10 = R.ac + 1
    · rw [if_pos c1, if_pos c2, decide_eq_true c1, decide_eq_true c2]; rfl
    · rw [if_pos c1, if_neg c2, decide_eq_true c1, decide_eq_false c2]; rfl
  · rw [if_neg c1, decide_eq_false c1]; rfl
/-- a search in depth, on its own -/
def xsT (nx : CF → Nat → Option CF) (T : List CF) (q : CF) : Nat → List CF
  | 0 => []
  | e + 1 => match nx q e with
    | none => xsT nx T q e
    | some p => if p ∈ T ++ xsT nx T q e then xsT nx T q e else xsT nx T q e ++ [p]
theorem xsN_T {nx : CF → Nat → Option CF} {M : List EN} {y : EN} {cd : Nat} : ∀ e, (xsN nx M y cd e).map (fun y : EN => y.1) = xsT nx (M.map (fun y : EN => y.1)) y.1 e
  | 0 => rfl
  | e + 1 => by
    have ih := xsN_T (nx := nx) (M := M) (y := y) (cd := cd) e
    unfold xsN xsT
    cases nx y.1 e with
    | none => exact ih
    | some p =>
      simp only
      rw [List.map_append, ← ih]
      by_cases c : p ∈ M.map (fun y : EN => y.1) ++ (xsN nx M y cd e).map (fun y : EN => y.1)
      · rw [if_pos c, if_pos c]
      · rw [if_neg c, if_neg c, List.map_append]
        rfl
def dfs (nx : CF → Nat → Option CF) (nE : Nat) (q0 : CF) : Nat → List CF × List CF
  | 0 => ([q0], [q0])
  | n + 1 => match (dfs nx nE q0 n).1.getLast? with
    | none => dfs nx nE q0 n
    | some q => ((dfs nx nE q0 n).1.dropLast ++ xsT nx (dfs nx nE q0 n).2 q nE, (dfs nx nE q0 n).2 ++ xsT nx (dfs nx nE q0 n).2 q nE)
def dfN (nx : CF → Nat → Option CF) (nE : Nat) (q0 : CF) : Nat := (dfs nx nE q0 10000).2.length
theorem dfs_end {nx : CF → Nat → Option CF} {nE : Nat} {q0 : CF} {n : Nat} (h : (dfs nx nE q0 n).1 = []) : ∀ m, dfs nx nE q0 (n + m) = dfs nx nE q0 n
  | 0 => rfl
  | m + 1 => by
    show (match (dfs nx nE q0 (n + m)).1.getLast? with
      | none => _
      | some q => _) = _
    rw [dfs_end h m, h]
    exact dfs_end h m
theorem dfs_N {nx : CF → Nat → Option CF} {nE : Nat} {q0 : CF} {n : Nat} (hn : n ≤ 10000) (h : (dfs nx nE q0 n).1 = []) : dfN nx nE q0 = (dfs nx nE q0 n).2.length := by
  obtain ⟨m, e⟩ : ∃ m, 10000 = n + m := ⟨10000 - n, by omega⟩
  unfold dfN
  rw [e, dfs_end h m]
def dfs_I (nx : CF → Nat → Option CF) (nE : Nat) (q0 : CF) (n : Nat) : Prop := (dfs nx nE q0 n).1.length + n = (dfs nx nE q0 n).2.length ∧ (dfs nx nE q0 n).2.length ≤ 10000 ∧ (∀ q, q ∈ (dfs nx nE q0 n).1 → q ∈ (dfs nx nE q0 n).2) ∧ (dfs nx nE q0 n).2.Nodup ∧ ∀ q, q ∈ (dfs nx nE q0 n).2 → cf_ok q
theorem cf_len {T : List CF} (h1 : T.Nodup) (h2 : ∀ q, q ∈ T → cf_ok q) : T.length ≤ 10000 := by
  have := nodup_le 10000 (T.map cf_c) (by
    refine List.pairwise_iff_getElem.2 fun i j hi hj hij e => ?_
    rw [List.getElem_map, List.getElem_map] at e
    exact (List.pairwise_iff_getElem.1 h1) i j _ _ hij (cf_c_inj (h2 _ (List.getElem_mem _)) (h2 _ (List.getElem_mem _)) e)) (by
    intro x hx
    obtain ⟨p, hp, rfl⟩ := List.mem_map.1 hx
    exact cf_c_lt (h2 p hp))
  rwa [List.length_map] at this
theorem xsT_I {nx : CF → Nat → Option CF} {T : List CF} {q : CF} (hn : nx_ok nx) (hq : cf_ok q) (h1 : T.Nodup) (h2 : ∀ q, q ∈ T → cf_ok q) : ∀ e, (T ++ xsT nx T q e).Nodup ∧ ∀ p, p ∈ T ++ xsT nx T q e → cf_ok p
  | 0 => by simpa [xsT] using ⟨h1, fun a b c d => h2 (a, b, c, d)⟩
  | e + 1 => by
    have ih := xsT_I (e := e) hn hq h1 h2
    unfold xsT
    cases e1 : nx q e with
    | none => exact ih
    | some p =>
      simp only
      by_cases c : p ∈ T ++ xsT nx T q e
      · rw [if_pos c]; exact ih
      · rw [if_neg c, ← List.append_assoc]
        refine ⟨List.nodup_append.2 ⟨ih.1, List.pairwise_singleton _ _, fun a ha b hb e => ?_⟩, fun z hz => ?_⟩
        · rw [List.mem_singleton.1 hb] at e
          rw [e] at ha
          exact c ha
        · rcases List.mem_append.1 hz with c2 | c2
          · exact ih.2 z c2
          · rw [List.mem_singleton.1 c2]
            exact hn _ _ _ hq e1
theorem dfs_inv {nx : CF → Nat → Option CF} {nE : Nat} {q0 : CF} (hn : nx_ok nx) (hq : cf_ok q0) : ∀ n, (dfs nx nE q0 n).1 = [] ∨ dfs_I nx nE q0 n
  | 0 => Or.inr ⟨rfl, by simp [dfs], fun q h => h, List.pairwise_singleton _ _, fun q h => by rw [List.mem_singleton.1 h]; exact hq⟩
  | n + 1 => by
    rcases dfs_inv (nE := nE) hn hq n with c | ⟨h1, h2, h3, h4, h5⟩
    · left
      have := dfs_end c 1
      rw [this, c]
    · cases e : (dfs nx nE q0 n).1.getLast? with
      | none =>
        left
        have c := List.getLast?_eq_none_iff.1 e
        have := dfs_end c 1
        rw [this, c]
      | some q =>
        right
        have hm : q ∈ (dfs nx nE q0 n).1 := List.mem_of_getLast? e
        obtain ⟨n1, n2⟩ := xsT_I hn (h5 q (h3 q hm)) h4 h5 nE
        have ed : dfs nx nE q0 (n + 1) = ((dfs nx nE q0 n).1.dropLast ++ xsT nx (dfs nx nE q0 n).2 q nE, (dfs nx nE q0 n).2 ++ xsT nx (dfs nx nE q0 n).2 q nE) := by
          show (match (dfs nx nE q0 n).1.getLast? with
            | none => _
            | some q => _) = _
          rw [e]
        have hl : 0 < (dfs nx nE q0 n).1.length := List.length_pos_of_mem hm
        refine ⟨?_, ?_, ?_, ?_, ?_⟩
        · rw [ed]
          simp only [List.length_append, List.length_dropLast]
          omega
        · rw [ed]; exact cf_len n1 n2
        · rw [ed]
          intro p hp
          rcases List.mem_append.1 hp with c | c
          · exact List.mem_append.2 (Or.inl (h3 p ((List.dropLast_sublist _).mem c)))
          · exact List.mem_append.2 (Or.inr c)
        · rw [ed]; exact n1
        · rw [ed]; exact n2
theorem c_inDepth {D : gx_D} {hs h : HX} {x a de fi qu : Nat} {fs : List Value} {F : DF} {R : RN} {fnd dl : Int32} (V : cs_vm D hs x a de fi qu fs F R) (hq0 : cf_ok R.cf) (H : cs_ok hs h x a de fi qu fs [] [] 0 fnd dl) :
    ∃ h1 S M b, f_X21_inDepth D h a = some (nI (dfN (nxN F.ts R.iv) F.en.length R.cf), h1) ∧ cs_ok hs h1 x a de fi qu fs S M b fnd dl := by
  obtain ⟨X, T, ⟨d, r, f5, f6, hd, hr⟩, hF, hap, hne⟩ := id V
  have hE : F.en.length ≤ 8 := hF.2.1.2
  have hnx := nxN_nxok (R := R) hF.trs
  obtain ⟨d', r', fs', w1, w2, w3, w4, ⟨i, a1, a2, a3, a4, a5, ge, gt, w5, w6⟩⟩ := V.at H
  obtain ⟨h7, m1, m2⟩ := c_mark (D := D) (y := (R.cf, 0, 0, 0)) (lab := -1) X H hq0 (by simp) (by simp) rfl
  unfold f_X21_inDepth
  rw [(hx_ob.mk H.2.2.1).is (by decide), Option.bind_some, (hx_ob.mk H.2.2.1).gr (show 25 ∈ [25] by decide) (k := 2) rfl, Option.bind_some, Option.bind_some, w1.gr (show 9 ∈ [9] by decide) w3, Option.bind_some, Option.bind_some, w5.gi (show 11 ∈ [11] by decide) (k := 6) rfl, Option.bind_some, show f_X21_mark D h a (nI (cf_c R.cf)) 0 (-1) = some h7 from m1, Option.bind_some]
  obtain ⟨rr, e1, h1, S, M, b, e2, e3⟩ := gx_lp (F := fun f (s : HX × Int32) => f_X21_inDepth_b18 D f s.1 a s.2)
    (I := fun n s => s.2 = nI n ∧ dfs_I (nxN F.ts R.iv) F.en.length R.cf n ∧ ∃ M, M.map (fun y : EN => y.1) = (dfs (nxN F.ts R.iv) F.en.length R.cf n).2 ∧ cs_ok hs s.1 x a de fi qu fs (dfs (nxN F.ts R.iv) F.en.length R.cf n).1 M 0 fnd dl)
    (Q := fun rr => ∃ h1 S M b, rr = (nI (dfN (nxN F.ts R.iv) F.en.length R.cf), h1) ∧ cs_ok hs h1 x a de fi qu fs S M b fnd dl) 10000 (by
    intro f n s hn hI
    obtain ⟨s1, s2⟩ := s
    obtain ⟨i1, i2, M, i3, i4⟩ := hI
    simp only at i1 i4
    subst i1
    obtain ⟨j1, j2, j3, j4, j5⟩ := id i2
    have g1 := (hx_ob.mk i4.2.2.1).gi (show 25 ∈ [25] by decide) (k := 1) rfl
    cases e : (dfs (nxN F.ts R.iv) F.en.length R.cf n).1.getLast? with
    | none =>
      have c := List.getLast?_eq_none_iff.1 e
      rw [c] at g1 j1
      refine Or.inr ⟨(nI n, s1), ?_, s1, _, M, 0, ?_, i4⟩
      · simp only [f_X21_inDepth_b18, g1, Option.bind_some, List.length_nil, if_pos (show nI 0 ≤ 0 by decide)]
      · rw [dfs_N (by omega) c, ← j1, List.length_nil, Nat.zero_add]
    | some q =>
      have hm : q ∈ (dfs (nxN F.ts R.iv) F.en.length R.cf n).1 := List.mem_of_getLast? e
      have hl : 0 < (dfs (nxN F.ts R.iv) F.en.length R.cf n).1.length := List.length_pos_of_mem hm
      have hsp : (dfs (nxN F.ts R.iv) F.en.length R.cf n).1 = (dfs (nxN F.ts R.iv) F.en.length R.cf n).1.dropLast ++ [q] := by
        obtain ⟨ys, hys⟩ := List.getLast?_eq_some_iff.1 e
        rw [hys, List.dropLast_concat]
      have ed : dfs (nxN F.ts R.iv) F.en.length R.cf (n + 1) = ((dfs (nxN F.ts R.iv) F.en.length R.cf n).1.dropLast ++ xsT (nxN F.ts R.iv) (dfs (nxN F.ts R.iv) F.en.length R.cf n).2 q F.en.length, (dfs (nxN F.ts R.iv) F.en.length R.cf n).2 ++ xsT (nxN F.ts R.iv) (dfs (nxN F.ts R.iv) F.en.length R.cf n).2 q F.en.length) := by
        show (match (dfs (nxN F.ts R.iv) F.en.length R.cf n).1.getLast? with
          | none => _
          | some q => _) = _
        rw [e]
      have hmM : q ∈ M.map (fun y : EN => y.1) := by rw [i3]; exact j3 q hm
      obtain ⟨y, hy, rfl⟩ := List.mem_map.1 hmM
      obtain ⟨X1, X2, X3, X4, n1, n2, n3, n4, n5, n6, n7, n8, n9, n10⟩ := id X
      obtain ⟨⟨s1', s2', s3'⟩, hx, ha, ⟨p1, p2, p3⟩, fd, ff, fq, hde, hfi, hqu, k1, k2, k3⟩ := id i4
      have ld : (dfs (nxN F.ts R.iv) F.en.length R.cf n).1.dropLast.length = (dfs (nxN F.ts R.iv) F.en.length R.cf n).1.length - 1 := List.length_dropLast
      obtain ⟨h11, e11, c11⟩ := hx_pv_e (cis := [25]) (k := 1) (v := .int (nI (dfs (nxN F.ts R.iv) F.en.length R.cf n).1.dropLast.length)) ha (by decide) (by simp)
      have O11 : cs_ok hs h11 x a de fi qu fs (dfs (nxN F.ts R.iv) F.en.length R.cf n).1.dropLast M 0 fnd dl := by
        refine ⟨⟨c11.1.trans s1', c11.2.1.trans s2', fun z z1 z2 z3 z4 z5 => ?_⟩, ?_, c11.2.2.1, ⟨by omega, p2, p3⟩, fd, ff, fq, ?_, ?_, ?_, fun k p hk => ?_, k2, k3⟩
        · rw [c11.2.2.2 z z2, s3' z z1 z2 z3 z4 z5]
        · rw [c11.2.2.2 x n1, hx]
        · rw [c11.2.2.2 de (fun e => n5 e.symm), hde]
        · rw [c11.2.2.2 fi (fun e => n6 e.symm), hfi]
        · rw [c11.2.2.2 qu (fun e => n7 e.symm), hqu]
        · refine k1 k p ?_
          rw [hsp, List.getElem?_append_left (List.getElem?_eq_some_iff.1 hk).1]
          exact hk
      obtain ⟨h19, x1, x2⟩ := c_expand V O11 hy 0
      rw [xsN_T, i3] at x2
      have qv := k1 ((dfs (nxN F.ts R.iv) F.en.length R.cf n).1.length - 1) y.1 (by rw [← List.getLast?_eq_getElem?]; exact e)
      have q11 := (hx_ob.mk O11.2.1).gr (show 9 ∈ [9] by decide) (k := 11) (by rw [cs_x_at (by decide) (by decide)]; exact X4)
      refine Or.inl ⟨(h19, nI (n + 1)), ⟨rfl, ?_, M ++ xsN (nxN F.ts R.iv) M y 0 F.en.length, ?_, ?_⟩, ?_⟩
      · rcases dfs_inv (nE := F.en.length) hnx hq0 (n + 1) with c | c
        · rw [ed] at c
          simp only [List.append_eq_nil_iff] at c
          obtain ⟨n1', n2'⟩ := xsT_I hnx (j5 _ (j3 _ hm)) j4 j5 F.en.length
          refine ⟨?_, ?_, ?_, ?_, ?_⟩
          · rw [ed]
            simp only [List.length_append, c.2, List.length_nil]
            omega
          · rw [ed]; exact cf_len n1' n2'
          · rw [ed]
            intro p hp
            rcases List.mem_append.1 hp with c | c
            · exact List.mem_append.2 (Or.inl (j3 p ((List.dropLast_sublist _).mem c)))
            · exact List.mem_append.2 (Or.inr c)
          · rw [ed]; exact n1'
          · rw [ed]; exact n2'
        · exact c
      · rw [List.map_append, xsN_T, i3, ed]
      · rw [ed]; exact x2
      · have e11' : hx_pi s1 a [25] 1 (nI (dfs (nxN F.ts R.iv) F.en.length R.cf n).1.length - 1) = some h11 := by
          rw [show nI (dfs (nxN F.ts R.iv) F.en.length R.cf n).1.length - 1 = nI (dfs (nxN F.ts R.iv) F.en.length R.cf n).1.dropLast.length by rw [ld]; exact pk_sub (b := 1) hl]
          exact e11
        have hq' : hx_ai h11 qu 0 (nI (dfs (nxN F.ts R.iv) F.en.length R.cf n).1.dropLast.length) = some (nI (cf_c y.1)) := by
          rw [hx_oi.ai (f := fq) (n := 10000) (hx_oi.mk (b := true) (by rw [c11.2.2.2 qu (fun e => n7 e.symm), hqu])) (by omega) (by decide), ld, qv]
        simp only [f_X21_inDepth_b18, g1, Option.bind_some, if_neg (show ¬ nI (dfs (nxN F.ts R.iv) F.en.length R.cf n).1.length ≤ 0 from nI_nle hl (by omega)), e11', (hx_ob.mk O11.2.2.1).gr (show 25 ∈ [25] by decide) (k := 2) rfl, (hx_ob.mk O11.2.2.1).gi (show 25 ∈ [25] by decide) (k := 1) rfl, q11, hq', x1, gx_c1]) (by
    intro f s hI
    obtain ⟨s1, s2⟩ := s
    obtain ⟨i1, i2, M, i3, i4⟩ := hI
    simp only at i1 i4
    subst i1
    obtain ⟨j1, j2, j3, j4, j5⟩ := id i2
    have g1 := (hx_ob.mk i4.2.2.1).gi (show 25 ∈ [25] by decide) (k := 1) rfl
    have c : (dfs (nxN F.ts R.iv) F.en.length R.cf 10000).1 = [] := List.length_eq_zero_iff.1 (by omega)
    rw [c] at g1 j1
    refine ⟨(nI 10000, s1), ?_, s1, _, M, 0, ?_, i4⟩
    · simp only [f_X21_inDepth_b18, g1, Option.bind_some, List.length_nil, if_pos (show nI 0 ≤ 0 by decide)]
    · rw [dfs_N (Nat.le_refl _) c, ← j1, List.length_nil, Nat.zero_add]) 10000 0 gx_fuel (h7, 0) (by omega) (by rw [pl_fl]; omega) ⟨rfl, (dfs_inv hnx hq0 0).resolve_left (by simp [dfs]), [(R.cf, 0, 0, 0)], rfl, m2⟩
  exact ⟨h1, S, M, b, by rw [show f_X21_inDepth_b18 D gx_fuel h7 a 0 = some rr from e1, e2], e3⟩
def conB (F : DF) (R : RN) : Bool := (brk R.iv R.cf).isNone && (accB R && decide (dfN (nxN F.ts R.iv) F.en.length R.cf = (bfA (nxN F.ts R.iv) F.en.length R.cf).length))
theorem c_isConsistent {D : gx_D} {h : HX} {x de fi qu : Nat} {fs : List Value} {F : DF} {R : RN} {fnd dl : Int32} (H : cs_mx D h x de fi qu fs F R) (e12 : fs[12]? = some (.int fnd)) (e13 : fs[13]? = some (.int dl)) (hR : R.rj 0 = 0) :
    ∃ h1, f_X1_isConsistent D h x = some (conB F R, h1) ∧ cs_post h h1 x de fi qu fs fnd dl 3 7 := by
  obtain ⟨hx, hl, ⟨f9, f10, f11⟩, ⟨d, r, f5, f6, hdf, hrn⟩, ars, ⟨l1, l2, l3, l4, d1, d2, d3⟩, hF, hap, hne, hcf⟩ := id H
  obtain ⟨n1, n2, n3⟩ := H.ne
  have hE : F.en.length ≤ 8 := hF.2.1.2
  have hnx := nxN_nxok (R := R) hF.trs
  have hdf' := hdf.sub hzf_sub
  have hrn' := hrn.sub hzf_sub
  have W : hx_vm D h x F R := ⟨d, r, fs, hx_ob.mk hx, f5, f6, hdf', hrn'⟩
  obtain ⟨i, a1, a2, a3, a4, a5, ge, gt, h9, h10, h11⟩ := id hrn'
  have br := f_broken hap h9 rfl h10 hcf
  have self : cs_post h h x de fi qu fs fnd dl 3 7 := ⟨⟨Nat.le_refl _, by omega, Nat.le_refl _, by omega, fun w => w⟩, fun _ _ _ _ _ _ => rfl, by rw [cs_x_self e12 e13]; exact hx, ars⟩
  unfold f_X1_isConsistent
  simp only [(hx_ob.mk hx).is (show 9 ∈ [9] by decide), Option.bind_some, (hx_ob.mk hx).gr (show 9 ∈ [9] by decide) f6, h9.gi (show 11 ∈ [11] by decide) (k := 6) rfl, br]
  unfold conB
  cases e1 : brk R.iv R.cf with
  | some j =>
    have hj := brk_lt e1
    have := h10.cap
    refine ⟨h, ?_, self⟩
    rw [if_neg (oI_sne (by omega))]
    rfl
  | none =>
    rw [if_pos oI_nn]
    unfold f_X1_isConsistent_b23
    rw [if_pos rfl, f_accounts W hR, Option.bind_some]
    cases e2 : accB R with
    | false => exact ⟨h, rfl, self⟩
    | true =>
      rw [if_pos rfl]
      obtain ⟨h2, h4, e2, e4, b1, b2, b3, b4, b5⟩ := c_new H
      obtain ⟨f, b4a, b4b⟩ := b4
      have hz : ∀ z, z < h.1 → z ≠ x → z ≠ de → h4.2.2 z = h.2.2 z := fun z z0 z1 z2 => b5 z (by omega) z2
      obtain ⟨V, O⟩ := c_begin (h4 := h4) (fnd := fnd) (dl := dl) H (by rw [b1]; omega) (by rw [b5 x (by omega) n1, hx, cs_x_self e12 e13]) b3 ⟨f, b4a, b4b⟩ hz
      obtain ⟨h19, S, M, b, g1, g2⟩ := c_inDepth V hcf O
      have P1 := c_end (kc := 1) (ks := 3) H ⟨by rw [b1]; omega, by rw [b1]; omega, by rw [b2]; omega, by rw [b2]; omega⟩ hz ⟨by rw [b1]; omega, fun z z1 => by rw [b1] at z1; rw [b5 z (by omega) (by omega)]⟩ g2
      obtain ⟨h22, g3, g4⟩ := c_reach (P1.mx H) (cs_x_12 hl) (cs_x_13 hl)
      have P2 := P1.tr g4
      have big := bfs_len hE hnx hcf 10000
      have bigd : dfN (nxN F.ts R.iv) F.en.length R.cf ≤ 10000 := by
        unfold dfN
        rcases dfs_inv (nE := F.en.length) hnx hcf 10000 with c | c
        · have := (xsT_I hnx hcf (T := []) List.Pairwise.nil (fun q h => by cases h) 0)
          have key : ∀ n, (dfs (nxN F.ts R.iv) F.en.length R.cf n).2.length ≤ 10000 := fun n => by
            induction n with
            | zero => simp [dfs]
            | succ n ih =>
              rcases dfs_inv (nE := F.en.length) hnx hcf (n + 1) with c | c
              · rcases dfs_inv (nE := F.en.length) hnx hcf n with c2 | c2
                · rw [dfs_end c2 1]; exact ih
                · obtain ⟨j1, j2, j3, j4, j5⟩ := c2
                  show (match (dfs (nxN F.ts R.iv) F.en.length R.cf n).1.getLast? with
                    | none => dfs (nxN F.ts R.iv) F.en.length R.cf n
                    | some q => ((dfs (nxN F.ts R.iv) F.en.length R.cf n).1.dropLast ++ xsT (nxN F.ts R.iv) (dfs (nxN F.ts R.iv) F.en.length R.cf n).2 q F.en.length, (dfs (nxN F.ts R.iv) F.en.length R.cf n).2 ++ xsT (nxN F.ts R.iv) (dfs (nxN F.ts R.iv) F.en.length R.cf n).2 q F.en.length)).2.length ≤ 10000
                  cases e : (dfs (nxN F.ts R.iv) F.en.length R.cf n).1.getLast? with
                  | none => exact ih
                  | some q =>
                    obtain ⟨n1', n2'⟩ := xsT_I hnx (j5 _ (j3 _ (List.mem_of_getLast? e))) j4 j5 F.en.length
                    exact cf_len n1' n2'
              · exact c.2.1
          exact key 10000
        · exact c.2.1
      have hiff : (nI (dfN (nxN F.ts R.iv) F.en.length R.cf) = nI (bfA (nxN F.ts R.iv) F.en.length R.cf).length) ↔ dfN (nxN F.ts R.iv) F.en.length R.cf = (bfA (nxN F.ts R.iv) F.en.length R.cf).length := nI_eq (by omega) (by unfold bfA; omega)
      simp only [e2, e4, gx_b2, Option.bind_some, g1, g3]
      refine ⟨h22, ?_, P2⟩
      by_cases c : dfN (nxN F.ts R.iv) F.en.length R.cf = (bfA (nxN F.ts R.iv) F.en.length R.cf).length
      · rw [if_pos (hiff.2 c), decide_eq_true c]; rfl
      · rw [if_neg (fun h => c (hiff.1 h)), decide_eq_false c]; rfl
