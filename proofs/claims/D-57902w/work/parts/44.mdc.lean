/-! the model's calls that search -/
set_option maxRecDepth 100000
/-- what a model's call needs: definition and run lie in w -/
def mM (s : MS) (F : DF) (R : RN) : Prop := m_df (s.2 0) F ∧ m_rn (s.2 0) R ∧ df_ok F ∧ rn_ok F R
theorem mM.V {s : MS} {F : DF} {R : RN} (H : mM s F R) : mV s F R := ⟨H.1.2.2.2.1, H.2.2.1.2.2.2.1, H.2.2.1.trs, H.2.1.1, H.2.2.2.1, H.2.2.2.2.1, H.1.2.1, H.2.2.1.2.1.2⟩
theorem mM.cf {s : MS} {F : DF} {R : RN} (H : mM s F R) : cf_ok R.cf := H.2.2.2.2.2.1
theorem mM.q {a b : MS} {F : DF} {R : RN} (H : mM a F R) (h : ms_q a b) : mM b F R := by
  unfold mM
  rw [h.w]
  exact H
theorem mM.p {s : MS} {F : DF} {R : RN} {k : Nat} {x : Int32} (H : mM s F R) : mM (ms_p s k x) F R := H
theorem m_reach {D : gx_D} {b : HX} {o : Nat} {s : MS} {F : DF} {R : RN} (H : mM s F R) : ∃ s', f_X9_reachableCount D b o s = some (nI (bfA (nxN F.ts R.iv) F.en.length R.cf).length, s') ∧ ms_q (ms_p s 6 0) s' := by
  obtain ⟨s', e1, e2⟩ := m_searches (D := D) (b := b) (o := o) (s := ms_p s 6 0) H.V H.cf
  unfold f_X9_reachableCount ms_pf
  rw [Option.bind_some, m_here (s := ms_p s 6 0) H.2.1, Option.bind_some, e1, Option.bind_some, e2.2.1]
  exact ⟨s', rfl, e2.1⟩
theorem m_isReachable {D : gx_D} {b : HX} {o st : Nat} {s : MS} {F : DF} {R : RN} (H : mM s F R) (hst : st < F.sn.length) : ∃ s', f_X9_isReachable D b o s (nI st) = some ((bfSt F R st).isSome, s') ∧ ms_q (ms_p s 6 0) s' := by
  have hl := H.2.2.1.1.2
  obtain ⟨s', e1, e2⟩ := m_stepsBetween (D := D) (b := b) (o := o) (s := ms_p s 6 0) (st := st) H.V H.cf (by omega)
  unfold f_X9_isReachable ms_pf gx_b2
  rw [Option.bind_some, m_no (x := 0) (m := 0) rfl (by decide) (show (ms_p s 6 0).2 0 0 = _ from H.1.1), ixB_n (by omega) hst, Option.bind_some]
  simp only [Bool.not_true, Bool.false_eq_true, if_false, if_true]
  rw [m_here (s := ms_p s 6 0) H.2.1, Option.bind_some, e1, Option.bind_some, bfG_dep]
  refine ⟨s', ?_, e2⟩
  unfold bfSt
  cases e : bfG (bfA (nxN F.ts R.iv) F.en.length R.cf) fun q => decide (q.1 = st) with
  | none => rw [if_pos (by rfl)]; rfl
  | some y =>
    rw [Option.map_some, if_neg]
    · rfl
    · refine oI_sne ?_
      have hd : bfD (bfA (nxN F.ts R.iv) F.en.length R.cf) (fun q => decide (q.1 = st)) = some y.2.1 := by rw [bfG_dep, e]; rfl
      have := m_searches (D := D) (b := b) (o := o) (s := s) H.V H.cf
      obtain ⟨s'', _, M⟩ := this
      have hm : y ∈ bfA (nxN F.ts R.iv) F.en.length R.cf := by
        unfold bfG at e
        cases e5 : bfF (bfA (nxN F.ts R.iv) F.en.length R.cf) (fun q => decide (q.1 = st)) with
        | none => rw [e5] at e; cases e
        | some k => rw [e5] at e; exact List.mem_of_getElem? e
      have h1 := (M.2.2.2.2.2.2 y hm).2
      have h2 := M.len
      omega
theorem m_stepsTo {D : gx_D} {b : HX} {o st : Nat} {s : MS} {F : DF} {R : RN} (H : mM s F R) (hst : st < F.sn.length) : ∃ s', f_X9_stepsTo D b o s (nI st) = some (oI ((bfSt F R st).map (fun y : EN => y.2.1)), s') ∧ ms_q (ms_p s 6 0) s' := by
  have hl := H.2.2.1.1.2
  obtain ⟨s', e1, e2⟩ := m_stepsBetween (D := D) (b := b) (o := o) (s := ms_p s 6 0) (st := st) H.V H.cf (by omega)
  unfold f_X9_stepsTo ms_pf gx_b2
  rw [Option.bind_some, m_no (x := 0) (m := 0) rfl (by decide) (show (ms_p s 6 0).2 0 0 = _ from H.1.1), ixB_n (by omega) hst, Option.bind_some]
  simp only [Bool.not_true, Bool.false_eq_true, if_false, if_true]
  rw [m_here (s := ms_p s 6 0) H.2.1, Option.bind_some, e1, Option.bind_some, bfG_dep]
  exact ⟨s', rfl, e2⟩
theorem bf_mem {L : List EN} {P : CF → Bool} {y : EN} (e : bfG L P = some y) : y ∈ L := by
  unfold bfG at e
  cases e5 : bfF L P with
  | none => rw [e5] at e; cases e
  | some k => rw [e5] at e; exact List.mem_of_getElem? e
theorem m_firstEventTo {D : gx_D} {b : HX} {o st : Nat} {s : MS} {F : DF} {R : RN} (H : mM s F R) (hst : st < F.sn.length) : ∃ s', f_X9_firstEventTo D b o s (nI st) = some ((match bfSt F R st with
      | none => -1
      | some y => labI y), s') ∧ ms_q (ms_p s 6 0) s' := by
  have hl := H.2.2.1.1.2
  obtain ⟨s'', _, M⟩ := m_searches (D := D) (b := b) (o := o) (s := s) H.V H.cf
  have ml := M.len
  obtain ⟨s', e1, e2⟩ := m_stepsBetween (D := D) (b := b) (o := o) (s := ms_p s 6 0) (st := st) H.V H.cf (by omega)
  unfold f_X9_firstEventTo ms_pf gx_b2
  rw [Option.bind_some, m_no (x := 0) (m := 0) rfl (by decide) (show (ms_p s 6 0).2 0 0 = _ from H.1.1), ixB_n (by omega) hst, Option.bind_some]
  simp only [Bool.not_true, Bool.false_eq_true, if_false, if_true]
  rw [m_here (s := ms_p s 6 0) H.2.1, Option.bind_some, e1, Option.bind_some, bfG_dep]
  unfold bfSt
  cases e : bfG (bfA (nxN F.ts R.iv) F.en.length R.cf) fun q => decide (q.1 = st) with
  | none => exact ⟨s', if_neg (show ¬ (0 : Int32) < -1 by decide), e2⟩
  | some y =>
    have hd := (M.2.2.2.2.2.2 y (bf_mem e)).2
    rw [Option.map_some]
    show ∃ s'_1, (if 0 < nI y.2.1 then _ else _) = some (labI y, s'_1) ∧ _
    unfold labI
    by_cases c : y.2.1 = 0
    · rw [if_pos c, if_neg (show ¬ (0 : Int32) < nI y.2.1 by rw [c]; decide)]
      exact ⟨s', rfl, e2⟩
    · rw [if_neg c, if_pos (show (0 : Int32) < nI y.2.1 from nI_lt (a := 0) (by omega) (by omega))]
      obtain ⟨s3, f1, f2⟩ := m_first (D := D) (b := b) (o := o) (s := s') (H.q (a := ms_p s 6 0) e2).V (H.q (a := ms_p s 6 0) e2).2.1 H.cf (show st < 2 ^ 31 by omega) e (by omega) (by omega)
      exact ⟨s3, f1, e2.tr f2⟩
/-- a loop of the model over the line of a search, which seeks -/
theorem m_line {D : gx_D} {ρ : Type} {s0 s : MS} {L : List EN} {P : CF → Bool} {F : Nat → MS → Int32 → Option (ρ × MS)} {res : EN → ρ} {no : ρ} (H : mS s0 s L) (hl : L.length < 20000)
    (step : ∀ f i z (hi : i < L.length), mS s0 z L → ∃ z', mS s0 z' L ∧ F (f + 1) z (nI i) = if P L[i].1 = true then some (res L[i], z') else F f z' (nI (i + 1)))
    (stop : ∀ f z, mS s0 z L → F (f + 1) z (nI L.length) = some (no, z)) : ∃ z, F gx_fuel s 0 = some ((match bfG L P with
      | none => no
      | some y => res y), z) ∧ ms_q s0 z := by
  obtain ⟨r, e1, z, e2, e3⟩ := gx_lp (F := fun f (z : MS × Int32) => F f z.1 z.2) (I := fun i z => z.2 = nI i ∧ mS s0 z.1 L ∧ ∀ j (hj : j < L.length), j < i → P L[j].1 = false) (Q := fun r => ∃ z, r = ((match bfG L P with
      | none => no
      | some y => res y), z) ∧ ms_q s0 z) L.length (by
    intro f i z hi hI
    obtain ⟨z1, z2⟩ := z
    obtain ⟨i1, i2, i3⟩ := hI
    simp only at i1 i2
    subst i1
    obtain ⟨z', s1, s2⟩ := step f i z1 hi i2
    simp only
    rw [s2]
    cases c : P L[i].1 with
    | true =>
      refine Or.inr ⟨_, rfl, z', ?_, s1.1⟩
      rw [bfG_at hi c i3]
    | false =>
      refine Or.inl ⟨(z', nI (i + 1)), ⟨rfl, s1, fun j hj hji => ?_⟩, rfl⟩
      by_cases c2 : j = i
      · subst c2; exact c
      · exact i3 j hj (by omega)) (by
    intro f z hI
    obtain ⟨z1, z2⟩ := z
    obtain ⟨i1, i2, i3⟩ := hI
    simp only at i1 i2
    subst i1
    refine ⟨_, stop f z1 i2, z1, ?_, i2.1⟩
    rw [bfG_no (fun j hj => i3 j hj hj)]) L.length 0 gx_fuel (s, 0) (by omega) (by rw [pl_fl]; omega) ⟨rfl, H, fun j _ h => by omega⟩
  exact ⟨z, by rw [show F gx_fuel s 0 = some r from e1, e2], e3⟩
theorem canP_eq {F : DF} {R : RN} {k : Nat} {q : CF} (hk : k < F.ts.length) : canP F R k q = (decide (chN F.ts q F.ts[k].2.1 = some k) && (nxN F.ts R.iv q F.ts[k].2.1).isSome) := by
  unfold canP
  rw [List.getElem?_eq_getElem hk]
theorem b59_s {D : gx_D} {b : HX} {o n : Nat} {h : MS} {v1 v2 : Int32} : f_X9_isConsistent_b59 D b o (n + 1) h v1 v2 = if (4 : Int32) < v2 then f_X9_isConsistent_b82 D b o h v1 else (ms_ai h 0 ((12 : Int32) + v2)).bind fun x27 => (f_X9_isConsistent_b59 D b o n) h ((v1 + x27)) ((v2 + (1 : Int32))) := by rw [f_X9_isConsistent_b59]
theorem m_canBeTaken {D : gx_D} {b : HX} {o k : Nat} {s : MS} {F : DF} {R : RN} (H : mM s F R) (hk : k < F.ts.length) : ∃ s', f_X9_canBeTaken D b o s (nI k) = some ((bfG (bfA (nxN F.ts R.iv) F.en.length R.cf) (canP F R k)).isSome, s') ∧ ms_q (ms_p s 6 0) s' := by
  have hl := H.2.2.1.2.2.2.1
  obtain ⟨s1, e1, M⟩ := m_searches (D := D) (b := b) (o := o) (s := ms_p s 6 0) H.V H.cf
  have ml := M.len
  unfold f_X9_canBeTaken ms_pf gx_b2
  rw [Option.bind_some, m_no (x := 3) (m := 3) rfl (by decide) (show (ms_p s 6 0).2 0 3 = _ from H.1.2.2.2.1.1), ixB_n (by omega) hk, Option.bind_some]
  simp only [Bool.not_true, Bool.false_eq_true, if_false, if_true]
  rw [m_here (s := ms_p s 6 0) H.2.1, Option.bind_some, e1, Option.bind_some]
  obtain ⟨z, r1, r2⟩ := m_line (D := D) (P := canP F R k) (F := fun f z x => f_X9_canBeTaken_b26 D b o f z (nI k) x) (res := fun _ => true) (no := false) M (by omega) (fun f i z hi Hz => by
    have hy := List.getElem?_eq_getElem hi
    have hm := List.getElem_mem hi
    obtain ⟨yo, yd⟩ := Hz.2.2.2.2.2.2 _ hm
    have Mz : mM z F R := H.q (a := ms_p s 6 0) Hz.1
    have ht := (Mz.1.2.2.2.1).2 k _ (List.getElem?_eq_getElem hk)
    have ho := (Mz.2.2.1.trs _ (List.getElem_mem hk)).2.1
    have hv := Mz.V.vd (D := D) (b := b) (o := o) (e := F.ts[k].2.1) yo (by omega)
    refine ⟨_, Hz.vd (ts := F.ts) (q := (bfA (nxN F.ts R.iv) F.en.length R.cf)[i].1) (e := F.ts[k].2.1), ?_⟩
    simp only [f_X9_canBeTaken_b26, f_X9_canBeTaken_b63, Hz.2.1, if_neg (nI_ge hi (show (bfA (nxN F.ts R.iv) F.en.length R.cf).length < 2 ^ 31 by omega)), ms_ai_n (s := z) (j := 5) (k := i) (by decide) rfl (show i < 10000 by omega), Hz.2.2.1 i _ hy, Option.bind_some, m_of (s := z) (k := k) (x := 1) (c := 1) rfl (by omega), ht.2.1, gx_b2, hv, gx_c1]
    rw [canP_eq hk]
    have h7 : (vdS F.ts (bfA (nxN F.ts R.iv) F.en.length R.cf)[i].1 F.ts[k].2.1 z).1 7 = oI (chN F.ts (bfA (nxN F.ts R.iv) F.en.length R.cf)[i].1 F.ts[k].2.1) := ms_p1
    have hiff : (oI (chN F.ts (bfA (nxN F.ts R.iv) F.en.length R.cf)[i].1 F.ts[k].2.1) = nI k) ↔ chN F.ts (bfA (nxN F.ts R.iv) F.en.length R.cf)[i].1 F.ts[k].2.1 = some k := by
      cases e : chN F.ts (bfA (nxN F.ts R.iv) F.en.length R.cf)[i].1 F.ts[k].2.1 with
      | none => exact ⟨fun h => absurd h.symm (oI_ne (by omega)), fun h => by cases h⟩
      | some j =>
        have := chN_lt e
        show nI j = nI k ↔ _
        rw [nI_eq (by omega) (by omega)]
        exact ⟨fun h => by rw [h], fun h => Option.some.inj h⟩
    rw [h7]
    by_cases c1 : (nxN F.ts R.iv (bfA (nxN F.ts R.iv) F.en.length R.cf)[i].1 F.ts[k].2.1).isSome = true
    · rw [if_pos (vdN_0.2 c1), c1, Bool.and_true]
      by_cases c2 : chN F.ts (bfA (nxN F.ts R.iv) F.en.length R.cf)[i].1 F.ts[k].2.1 = some k
      · rw [if_pos (hiff.2 c2), decide_eq_true c2, if_pos rfl]
      · rw [if_neg (fun h => c2 (hiff.1 h)), decide_eq_false c2, if_neg Bool.false_ne_true]
    · rw [if_neg (fun h => c1 (vdN_0.1 h)), Bool.eq_false_iff.2 c1, Bool.and_false, if_neg Bool.false_ne_true]) (fun f z Hz => by
    simp only [f_X9_canBeTaken_b26, Hz.2.1, if_pos (nI_le (Nat.le_refl (bfA (nxN F.ts R.iv) F.en.length R.cf).length) (show (bfA (nxN F.ts R.iv) F.en.length R.cf).length < 2 ^ 31 by omega))])
  refine ⟨z, ?_, r2⟩
  rw [show f_X9_canBeTaken_b26 D b o gx_fuel s1 (nI k) 0 = _ from r1]
  cases bfG (bfA (nxN F.ts R.iv) F.en.length R.cf) (canP F R k) <;> rfl
theorem m_stepsToDeadlock {D : gx_D} {b : HX} {o : Nat} {s : MS} {F : DF} {R : RN} (H : mM s F R) : ∃ s', f_X9_stepsToDeadlock D b o s = some (oI ((bfG (bfA (nxN F.ts R.iv) F.en.length R.cf) (stuckN F R)).map (fun y : EN => y.2.1)), s') ∧ ms_q (ms_p s 6 0) s' := by
  obtain ⟨s1, e1, M⟩ := m_searches (D := D) (b := b) (o := o) (s := ms_p s 6 0) H.V H.cf
  have ml := M.len
  unfold f_X9_stepsToDeadlock ms_pf
  rw [Option.bind_some, m_here (s := ms_p s 6 0) H.2.1, Option.bind_some, e1, Option.bind_some]
  obtain ⟨z, r1, r2⟩ := m_line (D := D) (P := stuckN F R) (F := fun f z x => f_X9_stepsToDeadlock_b15 D b o f z x) (res := fun y => nI y.2.1) (no := -1) M (by omega) (fun f i z hi Hz => by
    have hy := List.getElem?_eq_getElem hi
    have hm := List.getElem_mem hi
    obtain ⟨yo, yd⟩ := Hz.2.2.2.2.2.2 _ hm
    have Mz : mM z F R := H.q (a := ms_p s 6 0) Hz.1
    obtain ⟨u, v, hv⟩ := m_stuck' (D := D) (b := b) (o := o) Mz.V yo
    refine ⟨_, Hz.p7 (x := u) (y := v), ?_⟩
    simp only [f_X9_stepsToDeadlock_b15, f_X9_stepsToDeadlock_b36, Hz.2.1, if_neg (nI_ge hi (show (bfA (nxN F.ts R.iv) F.en.length R.cf).length < 2 ^ 31 by omega)), ms_ai_n (s := z) (j := 5) (k := i) (by decide) rfl (show i < 10000 by omega), ms_ai_n (s := ms_p (ms_p z 8 u) 7 v) (j := 5) (k := i) (by decide) rfl (show i < 10000 by omega), Hz.2.2.1 i _ hy, Option.bind_some, gx_b2, hv, gx_c1, ms_p2, ms_ai_n (s := ms_p (ms_p z 8 u) 7 v) (j := 4) (by decide) rfl (cf_m_lt yo), Hz.2.2.2.1 _ hm]) (fun f z Hz => by
    simp only [f_X9_stepsToDeadlock_b15, Hz.2.1, if_pos (nI_le (Nat.le_refl (bfA (nxN F.ts R.iv) F.en.length R.cf).length) (show (bfA (nxN F.ts R.iv) F.en.length R.cf).length < 2 ^ 31 by omega))])
  refine ⟨z, ?_, r2⟩
  rw [show f_X9_stepsToDeadlock_b15 D b o gx_fuel s1 0 = _ from r1]
  cases bfG (bfA (nxN F.ts R.iv) F.en.length R.cf) (stuckN F R) <;> rfl
theorem m_deadlockCount {D : gx_D} {b : HX} {o : Nat} {s : MS} {F : DF} {R : RN} (H : mM s F R) : ∃ s', f_X9_deadlockCount D b o s = some (nI (dlN F R (bfA (nxN F.ts R.iv) F.en.length R.cf)), s') ∧ ms_q (ms_p s 6 0) s' := by
  obtain ⟨s1, e1, M⟩ := m_searches (D := D) (b := b) (o := o) (s := ms_p s 6 0) H.V H.cf
  have ml := M.len
  unfold f_X9_deadlockCount ms_pf
  rw [Option.bind_some, m_here (s := ms_p s 6 0) H.2.1, Option.bind_some, e1, Option.bind_some]
  obtain ⟨z, r1, r2⟩ := gx_lq (F := fun f (z : MS × Int32 × Int32) => f_X9_deadlockCount_b17 D b o f z.1 z.2.1 z.2.2) (I := fun i z => z.2 = (nI (dlN F R ((bfA (nxN F.ts R.iv) F.en.length R.cf).take i)), nI i) ∧ mS (ms_p s 6 0) z.1 (bfA (nxN F.ts R.iv) F.en.length R.cf)) (bfA (nxN F.ts R.iv) F.en.length R.cf).length (by
    intro f i z hi hI
    obtain ⟨z1, z2⟩ := z
    obtain ⟨i1, Hz⟩ := hI
    simp only at i1 Hz
    subst i1
    have hy := List.getElem?_eq_getElem hi
    have hm := List.getElem_mem hi
    obtain ⟨yo, yd⟩ := Hz.2.2.2.2.2.2 _ hm
    have Mz : mM z1 F R := H.q (a := ms_p s 6 0) Hz.1
    obtain ⟨u, v, hv⟩ := m_stuck' (D := D) (b := b) (o := o) Mz.V yo
    refine ⟨(ms_p (ms_p z1 8 u) 7 v, nI (dlN F R ((bfA (nxN F.ts R.iv) F.en.length R.cf).take (i + 1))), nI (i + 1)), ⟨rfl, Hz.p7⟩, ?_⟩
    simp only [f_X9_deadlockCount_b17, Hz.2.1, if_neg (nI_ge hi (show (bfA (nxN F.ts R.iv) F.en.length R.cf).length < 2 ^ 31 by omega)), ms_ai_n (s := z1) (j := 5) (k := i) (by decide) rfl (show i < 10000 by omega), Hz.2.2.1 i _ hy, Option.bind_some, gx_b2, hv, gx_c1]
    rw [List.take_succ_eq_append_getElem hi]
    unfold dlN f_X9_one
    rw [List.filter_append, List.length_append]
    cases c : stuckN F R (bfA (nxN F.ts R.iv) F.en.length R.cf)[i].1 with
    | true => simp [c, nI_1]
    | false => simp [c]) (bfA (nxN F.ts R.iv) F.en.length R.cf).length 0 gx_fuel (s1, 0, 0) (by omega) (by rw [pl_fl]; omega) ⟨rfl, M⟩
  obtain ⟨z1, z2⟩ := z
  obtain ⟨i1, Hz⟩ := r1
  simp only at i1 Hz
  subst i1
  obtain ⟨g, hg⟩ : ∃ g, gx_fuel - (bfA (nxN F.ts R.iv) F.en.length R.cf).length = g + 1 := ⟨gx_fuel - (bfA (nxN F.ts R.iv) F.en.length R.cf).length - 1, by rw [pl_fl]; omega⟩
  rw [hg] at r2
  refine ⟨z1, ?_, Hz.1⟩
  rw [show f_X9_deadlockCount_b17 D b o gx_fuel s1 0 0 = _ from r2]
  simp only [f_X9_deadlockCount_b17, Hz.2.1, if_pos (nI_le (Nat.le_refl (bfA (nxN F.ts R.iv) F.en.length R.cf).length) (show (bfA (nxN F.ts R.iv) F.en.length R.cf).length < 2 ^ 31 by omega)), List.take_length]
theorem m_sum {D : gx_D} {b : HX} {o from' many n : Nat} {s : MS} {x y : Int32} {g : Nat → Int32} (hx : x = nI from') (hy : y = nI many) (hm : many < 504) (hw : s.2 0 many = nI n) (hn : from' + n ≤ 504) (hg : ∀ k, k < n → s.2 0 (from' + k) = g k) : f_X9_sumOf D b o s x y = some (sumI g n) := by
  subst hx hy
  unfold f_X9_sumOf
  obtain ⟨f, e1⟩ := gx_sum (F := fun f i acc => f_X9_sumOf_b5 D b o f s (nI from') (nI many) acc i) (g := g) n (by omega) (fun f i a hi => by
    simp only [f_X9_sumOf_b5, ms_w (s := s) (x := nI many) (k := many) rfl hm, hw, Option.bind_some, if_neg (nI_ge hi (show n < 2 ^ 31 by omega)), nI_add, ms_w (s := s) (x := nI (from' + i)) (k := from' + i) rfl (by omega), hg i hi, gx_c1])
  rw [e1]
  simp only [f_X9_sumOf_b5, ms_w (s := s) (x := nI many) (k := many) rfl hm, hw, Option.bind_some, if_pos (nI_le (Nat.le_refl n) (show n < 2 ^ 31 by omega))]
theorem m_accB {R : RN} {F : DF} (h : rn_ok F R) (hF : df_ok F) : sumI R.tk 24 = sumI R.tk F.ts.length ∧ sumI R.vi 10 = sumI R.vi F.sn.length := ⟨sumI_cut h.2.2.2.2.1 24 hF.2.2.2.1, sumI_cut h.2.2.2.2.2.1 10 hF.1.2⟩
theorem m_isConsistent {D : gx_D} {b : HX} {o : Nat} {s : MS} {F : DF} {R : RN} (H : mM s F R) : ∃ s', f_X9_isConsistent D b o s = some (conB F R, s') ∧ ms_q (ms_p s 6 0) s' := by
  obtain ⟨hdf, hrn, hF, hR⟩ := id H
  obtain ⟨q1, q2, q3, q4, q5, q6, q7, q8, q9, q10⟩ := id hrn
  have hacc := m_accB hR hF
  have sT := m_sum (D := D) (b := b) (o := o) (s := ms_p s 6 0) (x := 69) (y := 3) (from' := 69) (many := 3) (n := F.ts.length) (g := R.tk) rfl rfl (by decide) hdf.2.2.2.1.1 (by have := hF.2.2.2.1; omega) (fun k hk => q10 k (by have := hF.2.2.2.1; omega))
  have sV := m_sum (D := D) (b := b) (o := o) (s := ms_p s 6 0) (x := 59) (y := 0) (from' := 59) (many := 0) (n := F.sn.length) (g := R.vi) rfl rfl (by decide) hdf.1 (by have := hF.1.2; omega) (fun k hk => q9 k (by have := hF.1.2; omega))
  have ac : ms_ai (ms_p s 6 0) 0 12 = some R.ac := by rw [ms_w (x := 12) (k := 12) rfl (by decide)]; exact congrArg some q4
  unfold f_X9_isConsistent ms_pf
  rw [Option.bind_some, m_here (s := ms_p s 6 0) hrn, Option.bind_some, m_broken (s := ms_p s 6 0) q1 hR.1 hR.2.1 H.cf, Option.bind_some, sT, Option.bind_some, ac, Option.bind_some, sV, Option.bind_some, Option.bind_some]
  unfold conB accB
  rw [hacc.1, hacc.2]
  cases e : brk R.iv R.cf with
  | some j => exact ⟨_, by rw [if_neg (oI_sne (by have := brk_lt e; have := hR.1; omega))]; rfl, ms_q.rf⟩
  | none =>
    rw [if_pos oI_nn]
    by_cases c1 : sumI R.tk F.ts.length = R.ac
    · rw [if_pos c1, decide_eq_true c1]
      by_cases c2 : sumI R.vi F.sn.length = R.ac + 1
      · rw [if_pos c2, decide_eq_true c2]
        obtain ⟨s1, e1, M⟩ := m_searches (D := D) (b := b) (o := o) (s := ms_p s 6 0) H.V H.cf
        have ml := M.len
        have Mz : mM s1 F R := H.q (a := ms_p s 6 0) M.1
        obtain ⟨s2, e2, M2⟩ := m_deepCount (D := D) (b := b) (o := o) (s := s1) Mz.V Mz.2.1 H.cf
        have hr : ∀ k, 1 ≤ k → k < 5 → ∀ x, x = nI (12 + k) → ms_ai (ms_p s 6 0) 0 x = some (R.rj k) := fun k k1 k2 x hx => by
          rw [ms_w hx (by omega)]
          exact congrArg some (q5 k k1 k2)
        obtain ⟨g, hg⟩ : ∃ g, gx_fuel = g + 1 + 1 + 1 + 1 + 1 := ⟨199995, by rw [pl_fl]⟩
        rw [hg, b59_s, if_neg (by decide), hr 1 (by decide) (by decide) _ (by decide), Option.bind_some, b59_s, if_neg (by decide), hr 2 (by decide) (by decide) _ (by decide), Option.bind_some, b59_s, if_neg (by decide), hr 3 (by decide) (by decide) _ (by decide), Option.bind_some, b59_s, if_neg (by decide), hr 4 (by decide) (by decide) _ (by decide), Option.bind_some, b59_s, if_pos (by decide)]
        unfold f_X9_isConsistent_b82 gx_b2
        rw [m_here (s := ms_p s 6 0) hrn, Option.bind_some, e1, Option.bind_some, ms_w (s := s1) (x := 17) (k := 17) rfl (by decide), Mz.2.1.2.2.2.2.2.1, Option.bind_some, if_pos (by rw [Int32.zero_add]), e2, Option.bind_some]
        simp only
        rw [M.2.1]
        have key : ∀ n, (dfs (nxN F.ts R.iv) F.en.length R.cf n).2.length ≤ 10000 := by
          intro n
          have hnx : nx_ok (nxN F.ts R.iv) := fun _ _ _ hq e => nxN_ok hF.trs hq e
          have hk : ∀ n, (dfs (nxN F.ts R.iv) F.en.length R.cf n).2.Nodup ∧ (∀ q, q ∈ (dfs (nxN F.ts R.iv) F.en.length R.cf n).2 → cf_ok q) ∧ ∀ q, q ∈ (dfs (nxN F.ts R.iv) F.en.length R.cf n).1 → cf_ok q := fun n => by
            induction n with
            | zero => exact ⟨List.pairwise_singleton _ _, fun q h => by rw [List.mem_singleton.1 h]; exact H.cf, fun q h => by rw [List.mem_singleton.1 h]; exact H.cf⟩
            | succ n ih =>
              obtain ⟨i1, i2, i3⟩ := ih
              show (match (dfs (nxN F.ts R.iv) F.en.length R.cf n).1.getLast? with
                | none => dfs (nxN F.ts R.iv) F.en.length R.cf n
                | some q => ((dfs (nxN F.ts R.iv) F.en.length R.cf n).1.dropLast ++ xsT (nxN F.ts R.iv) (dfs (nxN F.ts R.iv) F.en.length R.cf n).2 q F.en.length, (dfs (nxN F.ts R.iv) F.en.length R.cf n).2 ++ xsT (nxN F.ts R.iv) (dfs (nxN F.ts R.iv) F.en.length R.cf n).2 q F.en.length)).2.Nodup ∧ (∀ q, q ∈ (match (dfs (nxN F.ts R.iv) F.en.length R.cf n).1.getLast? with
                | none => dfs (nxN F.ts R.iv) F.en.length R.cf n
                | some q => ((dfs (nxN F.ts R.iv) F.en.length R.cf n).1.dropLast ++ xsT (nxN F.ts R.iv) (dfs (nxN F.ts R.iv) F.en.length R.cf n).2 q F.en.length, (dfs (nxN F.ts R.iv) F.en.length R.cf n).2 ++ xsT (nxN F.ts R.iv) (dfs (nxN F.ts R.iv) F.en.length R.cf n).2 q F.en.length)).2 → cf_ok q) ∧ ∀ q, q ∈ (match (dfs (nxN F.ts R.iv) F.en.length R.cf n).1.getLast? with
                | none => dfs (nxN F.ts R.iv) F.en.length R.cf n
                | some q => ((dfs (nxN F.ts R.iv) F.en.length R.cf n).1.dropLast ++ xsT (nxN F.ts R.iv) (dfs (nxN F.ts R.iv) F.en.length R.cf n).2 q F.en.length, (dfs (nxN F.ts R.iv) F.en.length R.cf n).2 ++ xsT (nxN F.ts R.iv) (dfs (nxN F.ts R.iv) F.en.length R.cf n).2 q F.en.length)).1 → cf_ok q
              cases e : (dfs (nxN F.ts R.iv) F.en.length R.cf n).1.getLast? with
              | none => exact ⟨i1, i2, i3⟩
              | some q =>
                obtain ⟨n1, n2⟩ := xsT_I hnx (i3 q (List.mem_of_getLast? e)) i1 i2 F.en.length
                refine ⟨n1, n2, fun p hp => ?_⟩
                rcases List.mem_append.1 hp with c | c
                · exact i3 p ((List.dropLast_sublist _).mem c)
                · exact n2 p (List.mem_append.2 (Or.inr c))
          exact cf_len (hk n).1 (hk n).2.1
        have hd : dfN (nxN F.ts R.iv) F.en.length R.cf ≤ 10000 := key 10000
        have hiff : (nI (bfA (nxN F.ts R.iv) F.en.length R.cf).length = nI (dfN (nxN F.ts R.iv) F.en.length R.cf)) ↔ dfN (nxN F.ts R.iv) F.en.length R.cf = (bfA (nxN F.ts R.iv) F.en.length R.cf).length := by
          rw [nI_eq (by omega) (by omega)]
          exact ⟨fun h => h.symm, fun h => h.symm⟩
        refine ⟨s2, ?_, M.1.tr M2⟩
        by_cases c : dfN (nxN F.ts R.iv) F.en.length R.cf = (bfA (nxN F.ts R.iv) F.en.length R.cf).length
        · rw [if_pos (hiff.2 c), decide_eq_true c]; rfl
        · rw [if_neg (fun h => c (hiff.1 h)), decide_eq_false c]; rfl
      · rw [if_neg c2, decide_eq_false c2]
        exact ⟨_, by rw [Bool.and_false]; rfl, ms_q.rf⟩
    · rw [if_neg c1, decide_eq_false c1]
      exact ⟨_, rfl, ms_q.rf⟩
