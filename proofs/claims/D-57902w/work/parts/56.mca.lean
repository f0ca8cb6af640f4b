/-! the model's calls that change the run -/
set_option maxRecDepth 100000
set_option linter.unusedSimpArgs false
/-- what a change of the run leaves of the model's state -/
def mR (s s' : MS) : Prop := (∀ q, q ≠ 0 → s'.2 q = s.2 q) ∧ ∀ q, q ≠ 7 → q ≠ 8 → s'.1 q = s.1 q
theorem mR.mw {s : MS} {w : Nat → Int32} : mR s (mw s w) := ⟨fun _ hq => if_neg hq, fun _ _ _ => rfl⟩
theorem m_setsValue {D : gx_D} {b : HX} {o v y : Nat} {s : MS} {F : DF} {R : RN} (H : mM s F R) (hv : v < 3) (hy : y < 10) : ∃ s', f_X9_setsValue D b o s (nI v) (nI y) = some (nI (cf_val R.cf v), s') ∧ m_df (s'.2 0) F ∧ m_rn (s'.2 0) (rnSet R v y) ∧ mR s s' := by
  obtain ⟨hdf, hrn, hF, hR⟩ := id H
  obtain ⟨q1, q2, q3, q4, q5, q6, q7, q8, q9, q10⟩ := id hrn
  have hl := hR.1
  have ht := hR.2.2.2.2.2.2.2
  have S0 : s = mw s (s.2 0) := mw_s
  have i6 : (6 : Int32) + nI v = nI (6 + v) := by rw [show (6 : Int32) = nI 6 from rfl, nI_add]
  refine ⟨mw s (upd (s.2 0) (6 + v) (nI y)), ?_, ?_, ?_, mR.mw⟩
  · unfold f_X9_setsValue
    rw [i6]
    have r := mw_r (s := s) (w := s.2 0) (k := 6 + v) rfl (by omega)
    have w := mw_w (s := s) (w := s.2 0) (k := 6 + v) (y := nI y) rfl (by omega)
    rw [← S0] at r w
    rw [r, Option.bind_some, w, Option.bind_some, q3 v hv]
  · rw [mw_2]
    exact m_df_ext hdf hF (fun i hi h => by rw [pk_un (by omega)])
  · rw [mw_2]
    have un : ∀ i, i ≠ 6 + v → upd (s.2 0) (6 + v) (nI y) i = s.2 0 i := fun i h => pk_un h
    have cs : ∀ j, j < 3 → cf_val (cf_set R.cf v y) j = if j = v then y else cf_val R.cf j := fun j hj => by
      have a : v = 0 ∨ v = 1 ∨ v = 2 := by omega
      have b : j = 0 ∨ j = 1 ∨ j = 2 := by omega
      rcases a with rfl | rfl | rfl <;> rcases b with rfl | rfl | rfl <;> rfl
    refine ⟨m_ivs_ext q1 hl (fun i hi => un i (by omega)), ?_, fun j hj => ?_, by rw [un _ (by omega)]; exact q4, fun j h1 h2 => by rw [un _ (by omega)]; exact q5 j h1 h2, by rw [un _ (by omega)]; exact q6, by rw [un _ (by omega)]; exact q7, fun j hj => ?_, fun j hj => by rw [un _ (by omega)]; exact q9 j hj, fun j hj => by rw [un _ (by omega)]; exact q10 j hj⟩
    · rw [un _ (by omega)]
      show _ = nI (cf_set R.cf v y).1
      rw [show (cf_set R.cf v y).1 = R.cf.1 by unfold cf_set; split <;> rfl]
      exact q2
    · show _ = nI (cf_val (cf_set R.cf v y) j)
      rw [cs j hj]
      by_cases c : j = v
      · rw [c, pk_us, if_pos rfl]
      · rw [un _ (by omega), if_neg c]
        exact q3 j hj
    · have hj : j < R.tr.length := hj
      rw [un _ (by omega), un _ (by omega)]
      exact q8 j hj
theorem m_resets {D : gx_D} {b : HX} {o : Nat} {s : MS} {F : DF} {R : RN} (H : mM s F R) : ∃ s', f_X9_resets D b o s = some (nI R.cf.1, s') ∧ m_df (s'.2 0) F ∧ m_rn (s'.2 0) (rnRst F R) ∧ mR s s' := by
  obtain ⟨hdf, hrn, hF, hR⟩ := id H
  obtain ⟨q1, q2, q3, q4, q5, q6, q7, q8, q9, q10⟩ := id hrn
  have hini := hF.2.2.2.2.2.2.2.2
  have hl := hR.1
  have S0 : s = mw s (s.2 0) := mw_s
  have d7 := hdf.2.2.2.2.2.2.2
  obtain ⟨g, hg⟩ : ∃ g, gx_fuel = g + 1 + 1 + 1 + 1 := ⟨199996, by rw [pl_fl]⟩
  have u : ∀ (T : MS) (f : Nat) (z : Int32), f_X9_goesToStart_b9 D b o (f + 1) T z = if (3 : Int32) ≤ z then f_X9_goesToStart_b38 D b o T else (ms_ai T 0 ((9 : Int32) + z)).bind fun x5 => (ms_si T 0 ((6 : Int32) + z) x5).bind fun h6 => (f_X9_goesToStart_b9 D b o f) h6 (z + 1) := fun T f z => by rw [f_X9_goesToStart_b9]
  obtain ⟨w1, hw1⟩ : ∃ w1, w1 = upd (upd (upd (upd (upd (s.2 0) 5 0) 6 (nI (cf_val F.ini 0))) 7 (nI (cf_val F.ini 1))) 8 (nI (cf_val F.ini 2))) 18 0 := ⟨_, rfl⟩
  have un : ∀ i, i ≠ 5 → i ≠ 6 → i ≠ 7 → i ≠ 8 → i ≠ 18 → w1 i = s.2 0 i := fun i h1 h2 h3 h4 h5 => by rw [hw1, pk_un h5, pk_un h4, pk_un h3, pk_un h2, pk_un h1]
  refine ⟨mw s w1, ?_, ?_, ?_, mR.mw⟩
  · have r5 := mw_r (s := s) (w := s.2 0) (x := 5) (k := 5) rfl (by decide)
    have w5 := mw_w (s := s) (w := s.2 0) (x := 5) (y := 0) (k := 5) rfl (by decide)
    rw [← S0] at r5 w5
    unfold f_X9_resets f_X9_goesToStart
    rw [r5, Option.bind_some, w5, Option.bind_some, hg, u, if_neg (by decide), mw_r (x := 9 + 0) (k := 9) rfl (by decide), Option.bind_some, pk_un (by decide), show s.2 0 9 = nI (cf_val F.ini 0) from d7 0 (by decide), mw_w (x := 6 + 0) (k := 6) rfl (by decide), Option.bind_some, u, if_neg (by decide), mw_r (x := 9 + (0 + 1)) (k := 10) rfl (by decide), Option.bind_some, pk_un (by decide), pk_un (by decide), show s.2 0 10 = nI (cf_val F.ini 1) from d7 1 (by decide), mw_w (x := 6 + (0 + 1)) (k := 7) rfl (by decide), Option.bind_some, u, if_neg (by decide), mw_r (x := 9 + (0 + 1 + 1)) (k := 11) rfl (by decide), Option.bind_some, pk_un (by decide), pk_un (by decide), pk_un (by decide), show s.2 0 11 = nI (cf_val F.ini 2) from d7 2 (by decide), mw_w (x := 6 + (0 + 1 + 1)) (k := 8) rfl (by decide), Option.bind_some, u, if_pos (by decide)]
    unfold f_X9_goesToStart_b38
    rw [mw_w (x := 18) (k := 18) rfl (by decide), Option.bind_some, Option.bind_some, ← hw1, q2]
  · rw [mw_2]
    exact m_df_ext hdf hF (fun i hi h => un i (by omega) (by omega) (by omega) (by omega) (by omega))
  · rw [mw_2]
    refine ⟨m_ivs_ext q1 hl (fun i hi => un i (by omega) (by omega) (by omega) (by omega) (by omega)), ?_, fun j hj => ?_, by rw [un 12 (by decide) (by decide) (by decide) (by decide) (by decide)]; exact q4, fun j h1 h2 => by rw [un _ (by omega) (by omega) (by omega) (by omega) (by omega)]; exact q5 j h1 h2, by rw [un 17 (by decide) (by decide) (by decide) (by decide) (by decide)]; exact q6, by rw [hw1, pk_us]; rfl, fun j hj => absurd hj (Nat.not_lt_zero j), fun j hj => by rw [un _ (by omega) (by omega) (by omega) (by omega) (by omega)]; exact q9 j hj, fun j hj => by rw [un _ (by omega) (by omega) (by omega) (by omega) (by omega)]; exact q10 j hj⟩
    · rw [hw1, pk_un (by decide), pk_un (by decide), pk_un (by decide), pk_un (by decide), pk_us]
      show _ = nI F.ini.1
      rw [hini.2]
      rfl
    · rw [hw1]
      show _ = nI (cf_val F.ini j)
      have a : j = 0 ∨ j = 1 ∨ j = 2 := by omega
      rcases a with rfl | rfl | rfl
      · rw [pk_un (by decide), pk_un (by decide), pk_un (by decide), pk_us]
      · rw [pk_un (by decide), pk_un (by decide), pk_us]
      · rw [pk_un (by decide), pk_us]
theorem b11c_s {D : gx_D} {b : HX} {o n : Nat} {h : MS} {v1 v2 : Int32} : f_X9_clears_b11 D b o (n + 1) h v1 v2 = if (17 : Int32) < v2 then f_X9_clears_b30 D b o h v1 else (ms_si h 0 v2 (0 : Int32)).bind fun h12 => (f_X9_clears_b11 D b o n) h12 v1 (v2 + (1 : Int32)) := by rw [f_X9_clears_b11]
theorem b33c_s {D : gx_D} {b : HX} {o n : Nat} {h : MS} {v1 v2 : Int32} : f_X9_clears_b33 D b o (n + 1) h v1 v2 = if (93 : Int32) ≤ v2 then f_X9_clears_b52 D b o h v1 else (ms_si h 0 v2 (0 : Int32)).bind fun h10 => (f_X9_clears_b33 D b o n) h10 v1 (v2 + (1 : Int32)) := by rw [f_X9_clears_b33]
theorem m_clears {D : gx_D} {b : HX} {o : Nat} {s : MS} {F : DF} {R : RN} (H : mM s F R) : ∃ s', f_X9_clears D b o s = some (R.ac, s') ∧ m_df (s'.2 0) F ∧ m_rn (s'.2 0) (rnClr R) ∧ mR s s' := by
  obtain ⟨hdf, hrn, hF, hR⟩ := id H
  obtain ⟨q1, q2, q3, q4, q5, q6, q7, q8, q9, q10⟩ := id hrn
  have hl := hR.1
  have hc1 := hR.2.2.1.1
  have S0 : s = mw s (s.2 0) := mw_s
  obtain ⟨z, ⟨g, zz, hz⟩, z1⟩ := gx_lq (F := fun f (z : MS × Int32) => f_X9_clears_b11 D b o f z.1 R.ac z.2) (I := fun m z => ∃ g, z = (mw s g, nI (12 + m)) ∧ ∀ i, g i = if 12 ≤ i ∧ i < 12 + m then 0 else s.2 0 i) 6 (by
    intro f m z hm hI
    obtain ⟨g, rfl, hg⟩ := hI
    refine ⟨_, ⟨upd g (12 + m) 0, rfl, fun i => ?_⟩, ?_⟩
    · by_cases e : i = 12 + m
      · rw [e, pk_us, if_pos (by omega)]
      · rw [pk_un e, hg i]
        by_cases e2 : 12 ≤ i ∧ i < 12 + m
        · rw [if_pos e2, if_pos (by omega)]
        · rw [if_neg e2, if_neg (by omega)]
    · show f_X9_clears_b11 D b o (f + 1) (mw s g) R.ac (nI (12 + m)) = f_X9_clears_b11 D b o f (mw s (upd g (12 + m) 0)) R.ac (nI (12 + (m + 1)))
      rw [b11c_s, if_neg (show ¬ (17 : Int32) < nI (12 + m) from nI_nlt (a := 17) (by omega) (by decide)), mw_w (k := 12 + m) rfl (by omega), Option.bind_some, nI_1]
      rfl) 6 0 gx_fuel (mw s (s.2 0), 12) (by omega) (by rw [pl_fl]; omega) ⟨s.2 0, rfl, fun i => by rw [if_neg (by omega)]⟩
  subst zz
  obtain ⟨z, ⟨g2, zz, hz2⟩, z2⟩ := gx_lq (F := fun f (z : MS × Int32) => f_X9_clears_b33 D b o f z.1 R.ac z.2) (I := fun m z => ∃ g2, z = (mw s g2, nI (59 + m)) ∧ ∀ i, g2 i = if 59 ≤ i ∧ i < 59 + m then 0 else g i) 34 (by
    intro f m z hm hI
    obtain ⟨g2, rfl, hg⟩ := hI
    refine ⟨_, ⟨upd g2 (59 + m) 0, rfl, fun i => ?_⟩, ?_⟩
    · by_cases e : i = 59 + m
      · rw [e, pk_us, if_pos (by omega)]
      · rw [pk_un e, hg i]
        by_cases e2 : 59 ≤ i ∧ i < 59 + m
        · rw [if_pos e2, if_pos (by omega)]
        · rw [if_neg e2, if_neg (by omega)]
    · show f_X9_clears_b33 D b o (f + 1) (mw s g2) R.ac (nI (59 + m)) = f_X9_clears_b33 D b o f (mw s (upd g2 (59 + m) 0)) R.ac (nI (59 + (m + 1)))
      rw [b33c_s, if_neg (show ¬ (93 : Int32) ≤ nI (59 + m) from nI_ge (b := 93) (by omega) (by decide)), mw_w (k := 59 + m) rfl (by omega), Option.bind_some, nI_1]
      rfl) 34 0 gx_fuel (mw s g, 59) (by omega) (by rw [pl_fl]; omega) ⟨g, rfl, fun i => by rw [if_neg (by omega)]⟩
  subst zz
  obtain ⟨u1, hu1⟩ : ∃ g, gx_fuel - 6 = g + 1 := ⟨gx_fuel - 7, by rw [pl_fl]⟩
  obtain ⟨u2, hu2⟩ : ∃ g, gx_fuel - 34 = g + 1 := ⟨gx_fuel - 35, by rw [pl_fl]⟩
  rw [hu1] at z1
  rw [hu2] at z2
  obtain ⟨w1, hw1⟩ : ∃ w1, w1 = upd (upd g2 18 0) (59 + R.cf.1) 1 := ⟨_, rfl⟩
  have un : ∀ i, i < 12 ∨ (19 ≤ i ∧ i < 59) ∨ 93 ≤ i → w1 i = s.2 0 i := fun i hi => by rw [hw1, pk_un (by omega), pk_un (by omega), hz2, if_neg (by omega), hz, if_neg (by omega)]
  have ze : ∀ i, (12 ≤ i ∧ i < 19) ∨ (59 ≤ i ∧ i < 93) → i ≠ 59 + R.cf.1 → w1 i = 0 := fun i hi hn => by
    rw [hw1, pk_un hn]
    by_cases e : i = 18
    · rw [e, pk_us]
    · rw [pk_un e, hz2]
      by_cases e2 : 59 ≤ i ∧ i < 59 + 34
      · rw [if_pos e2]
      · rw [if_neg e2, hz, if_pos (by omega)]
  refine ⟨mw s w1, ?_, ?_, ?_, mR.mw⟩
  · have r12 := mw_r (s := s) (w := s.2 0) (x := 12) (k := 12) rfl (by decide)
    rw [← S0] at r12
    have z1' : f_X9_clears_b11 D b o gx_fuel s R.ac 12 = f_X9_clears_b11 D b o (u1 + 1) (mw s g) R.ac (nI (12 + 6)) := by rw [← z1, ← S0]
    have z2' : f_X9_clears_b33 D b o gx_fuel (mw s g) R.ac 59 = f_X9_clears_b33 D b o (u2 + 1) (mw s g2) R.ac (nI (59 + 34)) := z2
    unfold f_X9_clears
    rw [r12, Option.bind_some, q4, z1', b11c_s, if_pos (by decide)]
    unfold f_X9_clears_b30
    rw [z2', b33c_s, if_pos (by decide)]
    unfold f_X9_clears_b52
    rw [mw_w (x := 18) (k := 18) rfl (by decide), Option.bind_some, mw_r (x := 5) (k := 5) rfl (by decide), Option.bind_some, pk_un (by decide), hz2, if_neg (by omega), hz, if_neg (by omega), q2, show (59 : Int32) + nI R.cf.1 = nI (59 + R.cf.1) by rw [show (59 : Int32) = nI 59 from rfl, nI_add], mw_w (k := 59 + R.cf.1) rfl (by omega), Option.bind_some, ← hw1]
  · rw [mw_2]
    exact m_df_ext hdf hF (fun i hi h => un i (by omega))
  · rw [mw_2]
    refine ⟨m_ivs_ext q1 hl (fun i hi => un i (by omega)), by rw [un 5 (by omega)]; exact q2, fun j hj => by rw [un _ (by omega)]; exact q3 j hj, ze 12 (by omega) (by omega), fun j h1 h2 => ze _ (by omega) (by omega), ?_, ze 18 (by omega) (by omega), fun j hj => absurd hj (Nat.not_lt_zero j), fun j hj => ?_, fun j hj => ?_⟩
    · rw [ze 17 (by omega) (by omega)]
      rfl
    · show w1 (59 + j) = if j = R.cf.1 then 1 else 0
      by_cases c : j = R.cf.1
      · rw [if_pos c, c, hw1, pk_us]
      · rw [if_neg c, ze _ (by omega) (by omega)]
    · exact ze _ (by omega) (by omega)
theorem m_keeps {D : gx_D} {b : HX} {o v p c : Nat} {s : MS} {F : DF} {R : RN} (H : mM s F R) (hl : R.iv.length < 12) : ∃ s', f_X9_keeps D b o s (-1) (nI v) (nI p) (nI c) = some (nI R.iv.length, s') ∧ m_df (s'.2 0) F ∧ m_rn (s'.2 0) (rnAdd R (none, v, p, c)) ∧ mR s s' := by
  obtain ⟨hdf, hrn, hF, hR⟩ := id H
  obtain ⟨⟨q1, q1'⟩, q2, q3, q4, q5, q6, q7, q8, q9, q10⟩ := id hrn
  have ht := hR.2.2.2.2.2.2.2
  have S0 : s = mw s (s.2 0) := mw_s
  obtain ⟨L, hL⟩ : ∃ L, L = R.iv.length := ⟨_, rfl⟩
  obtain ⟨w1, hw1⟩ : ∃ w1, w1 = upd (upd (upd (upd (upd (s.2 0) (309 + 4 * L) (-1)) (309 + 4 * L + 1) (nI v)) (309 + 4 * L + 2) (nI p)) (309 + 4 * L + 3) (nI c)) 4 (nI (L + 1)) := ⟨_, rfl⟩
  have un : ∀ i, i ≠ 4 → i < 309 + 4 * L ∨ 309 + 4 * L + 4 ≤ i → w1 i = s.2 0 i := fun i h1 h2 => by rw [hw1, pk_un h1, pk_un (by omega), pk_un (by omega), pk_un (by omega), pk_un (by omega)]
  have ix : ∀ k, (309 : Int32) + 4 * nI L + nI k = nI (309 + 4 * L + k) := fun k => by rw [show (309 : Int32) = nI 309 from rfl, show (4 : Int32) = nI 4 from rfl, pk_mul, nI_add, nI_add]
  refine ⟨mw s w1, ?_, ?_, ?_, mR.mw⟩
  · have r4 := mw_r (s := s) (w := s.2 0) (x := 4) (k := 4) rfl (by decide)
    have w4 := mw_w (s := s) (w := s.2 0) (x := nI (309 + 4 * L + 0)) (y := -1) (k := 309 + 4 * L) rfl (by omega)
    rw [← S0] at r4 w4
    unfold f_X9_keeps
    rw [r4, Option.bind_some, q1, ← hL, show (309 : Int32) + 4 * nI L + 0 = nI (309 + 4 * L + 0) from ix 0, show (309 : Int32) + 4 * nI L + 1 = nI (309 + 4 * L + 1) from ix 1, show (309 : Int32) + 4 * nI L + 2 = nI (309 + 4 * L + 2) from ix 2, show (309 : Int32) + 4 * nI L + 3 = nI (309 + 4 * L + 3) from ix 3, w4, Option.bind_some, mw_w (k := 309 + 4 * L + 1) rfl (by omega), Option.bind_some, mw_w (k := 309 + 4 * L + 2) rfl (by omega), Option.bind_some, mw_w (k := 309 + 4 * L + 3) rfl (by omega), Option.bind_some, mw_r (x := 4) (k := 4) rfl (by decide), Option.bind_some, pk_un (by omega), pk_un (by omega), pk_un (by omega), pk_un (by omega), q1, ← hL, nI_1, mw_w (x := 4) (k := 4) rfl (by decide), Option.bind_some, ← hw1, mw_r (x := 4) (k := 4) rfl (by decide), Option.bind_some, show w1 4 = nI (L + 1) by rw [hw1, pk_us], show nI (L + 1) - 1 = nI L by rw [← nI_1]; exact Int32.add_sub_cancel _ _]
  · rw [mw_2]
    exact m_df_ext hdf hF (fun i hi h => un i (by omega) (by omega))
  · rw [mw_2]
    refine ⟨⟨?_, fun j x hj => ?_⟩, by rw [un 5 (by omega) (by omega)]; exact q2, fun j hj => by rw [un _ (by omega) (by omega)]; exact q3 j hj, by rw [un 12 (by omega) (by omega)]; exact q4, fun j h1 h2 => by rw [un _ (by omega) (by omega)]; exact q5 j h1 h2, by rw [un 17 (by omega) (by omega)]; exact q6, by rw [un 18 (by omega) (by omega)]; exact q7, fun j hj => ?_, fun j hj => by rw [un _ (by omega) (by omega)]; exact q9 j hj, fun j hj => by rw [un _ (by omega) (by omega)]; exact q10 j hj⟩
    · rw [hw1, pk_us]
      show _ = nI (R.iv ++ [_]).length
      rw [List.length_append, List.length_singleton, ← hL]
    · have hj : (R.iv ++ [((none, v, p, c) : IV)])[j]? = some x := hj
      by_cases e : j < R.iv.length
      · rw [List.getElem?_append_left e] at hj
        obtain ⟨t1, t2, t3, t4⟩ := q1' j x hj
        exact ⟨by rw [un _ (by omega) (by omega)]; exact t1, by rw [un _ (by omega) (by omega)]; exact t2, by rw [un _ (by omega) (by omega)]; exact t3, by rw [un _ (by omega) (by omega)]; exact t4⟩
      · rw [List.getElem?_append_right (by omega)] at hj
        obtain ⟨y1, y2⟩ := List.getElem?_eq_some_iff.1 hj
        simp only [List.length_singleton] at y1
        have c4 : j = L := by omega
        simp only [show j - R.iv.length = 0 by omega, List.getElem_singleton] at y2
        subst y2
        rw [c4]
        refine ⟨?_, ?_, ?_, ?_⟩
        · rw [hw1, pk_un (by omega), pk_un (by omega), pk_un (by omega), pk_un (by omega), pk_us]; rfl
        · rw [hw1, pk_un (by omega), pk_un (by omega), pk_un (by omega), pk_us]
        · rw [hw1, pk_un (by omega), pk_un (by omega), pk_us]
        · rw [hw1, pk_un (by omega), pk_us]
    · have hj : j < R.tr.length := hj
      rw [un _ (by omega) (by omega), un _ (by omega) (by omega)]
      exact q8 j hj
/-- behind remembers and a change of the run -/
theorem mI.run {s s1 s2 : MS} {A : AT} {R' : RN} {hs' : List RN} (H : mI s A) (h1 : m_hs s1 A.1 hs') (e1 : ∀ q, q ≠ 3 → s1.2 q = s.2 q) (e2 : ∀ q, q ≠ 4 → s1.1 q = s.1 q) (h2 : mR s1 s2) (hd : m_df (s2.2 0) A.1) (hr : m_rn (s2.2 0) R') : mI s2 (A.1, R', A.2.2.1, hs', A.2.2.2.2) := by
  obtain ⟨q1, q2, q3, q4, q5, q6, q7, q8⟩ := H
  have a1 : ∀ q, q ≠ 0 → q ≠ 3 → s2.2 q = s.2 q := fun q x y => (h2.1 q x).trans (e1 q y)
  have a2 : ∀ q, q ≠ 4 → q ≠ 7 → q ≠ 8 → s2.1 q = s.1 q := fun q x y z => (h2.2 q y z).trans (e2 q x)
  refine ⟨hd, hr, ?_, ?_, ?_, (a2 14 (by decide) (by decide) (by decide)).trans q6, (a2 15 (by decide) (by decide) (by decide)).trans q7, ?_⟩
  · unfold m_hs
    rw [h2.1 3 (by decide), h2.2 4 (by decide) (by decide)]
    exact h1
  · show m_sv s2 A.1 A.2.2.1
    revert q4
    cases A.2.2.1 with
    | none => intro q; exact (a2 5 (by decide) (by decide) (by decide)).trans q
    | some R => intro q; show s2.1 5 = 1 ∧ m_df (s2.2 2) A.1 ∧ m_rn (s2.2 2) R; rw [a2 5 (by decide) (by decide) (by decide), a1 2 (by decide) (by decide)]; exact q
  · show m_in s2 A.2.2.2.2.1
    unfold m_in
    rw [a1 6 (by decide) (by decide), a2 13 (by decide) (by decide) (by decide)]
    exact q5
  · show m_out s2 A.2.2.2.2.2.2.2
    unfold m_out
    rw [a1 12 (by decide) (by decide), a2 30 (by decide) (by decide) (by decide)]
    exact q8
theorem mI.rem {D : gx_D} {b : HX} {o : Nat} {s : MS} {A : AT} (H : mI s A) (hA : a_ok A) : ∃ s1, f_X9_remembers D b o s = some s1 ∧ m_hs s1 A.1 (hsN A.2.2.2.1 A.2.1) ∧ (∀ q, q ≠ 3 → s1.2 q = s.2 q) ∧ (∀ q, q ≠ 4 → s1.1 q = s.1 q) ∧ mM s1 A.1 A.2.1 := by
  obtain ⟨s1, e1, e2, e3, e4⟩ := m_remembers (D := D) (b := b) (o := o) H.1 H.2.1 hA.1 hA.2.1 H.2.2.1 hA.2.2.2.1 hA.2.2.2.2.1
  exact ⟨s1, e1, e2, e3, e4, by rw [e3 0 (by decide)]; exact H.1, by rw [e3 0 (by decide)]; exact H.2.1, hA.1, hA.2.1⟩
theorem mc_fire {D : gx_D} {b : HX} {o e : Nat} {s : MS} {A : AT} (H : mI s A) (hA : a_ok A) (he : e < A.1.en.length) : ∃ s', f_X9_fire D b o s (nI e) = some (nI (vdN A.1.ts A.2.1.iv A.2.1.cf e), s') ∧ s'.1 6 = 0 ∧ mI s' (A.1, rnFire A.1 A.2.1 e, A.2.2.1, hsN A.2.2.2.1 A.2.1, A.2.2.2.2) := by
  have e8 := hA.1.2.1.2
  have H6 : mI (ms_p s 6 0) A := H.p6
  obtain ⟨s1, r1, r2, r3, r4, r5⟩ := H6.rem (D := D) (b := b) (o := o) hA
  obtain ⟨s2, f1, f2, f3, f4, f5⟩ := m_fires (D := D) (b := b) (o := o) (e := e) r5 he
  refine ⟨s2, ?_, (f5 6 (by decide) (by decide)).trans ((r4 6 (by decide)).trans ms_p1), H6.run r2 r3 r4 ⟨f4, f5⟩ f2 f3⟩
  unfold f_X9_fire ms_pf
  rw [Option.bind_some, m_no (x := 1) (m := 1) rfl (by decide) (show (ms_p s 6 0).2 0 1 = _ from H.1.2.1), ixB_n (by omega) he, pl_b2_s, Bool.not_true, if_neg Bool.false_ne_true, if_pos rfl, r1, Option.bind_some, f1, pl_b2_s]
theorem mc_reset {D : gx_D} {b : HX} {o : Nat} {s : MS} {A : AT} (H : mI s A) (hA : a_ok A) : ∃ s', f_X9_reset D b o s = some (nI A.2.1.cf.1, s') ∧ mI s' (A.1, rnRst A.1 A.2.1, A.2.2.1, hsN A.2.2.2.1 A.2.1, A.2.2.2.2) := by
  have H6 : mI (ms_p s 6 0) A := H.p6
  obtain ⟨s1, r1, r2, r3, r4, r5⟩ := H6.rem (D := D) (b := b) (o := o) hA
  obtain ⟨s2, f1, f2, f3, f4⟩ := m_resets (D := D) (b := b) (o := o) r5
  refine ⟨s2, ?_, H6.run r2 r3 r4 f4 f2 f3⟩
  unfold f_X9_reset ms_pf
  rw [Option.bind_some, r1, Option.bind_some, f1, pl_b2_s]
theorem mc_clear {D : gx_D} {b : HX} {o : Nat} {s : MS} {A : AT} (H : mI s A) (hA : a_ok A) : ∃ s', f_X9_clearCoverage D b o s = some (A.2.1.ac, s') ∧ mI s' (A.1, rnClr A.2.1, A.2.2.1, hsN A.2.2.2.1 A.2.1, A.2.2.2.2) := by
  have H6 : mI (ms_p s 6 0) A := H.p6
  obtain ⟨s1, r1, r2, r3, r4, r5⟩ := H6.rem (D := D) (b := b) (o := o) hA
  obtain ⟨s2, f1, f2, f3, f4⟩ := m_clears (D := D) (b := b) (o := o) r5
  refine ⟨s2, ?_, H6.run r2 r3 r4 f4 f2 f3⟩
  unfold f_X9_clearCoverage ms_pf
  rw [Option.bind_some, r1, Option.bind_some, f1, pl_b2_s]
theorem m_fails {D : gx_D} {b : HX} {o : Nat} {s : MS} {c : Bool} {x : Int32} : f_X9_fails D b o s c x = some (c, if c = true then ms_p s 6 x else s) := by
  unfold f_X9_fails ms_pf
  cases c <;> rfl
theorem m_maySet {D : gx_D} {b : HX} {o v y : Nat} {s : MS} {F : DF} {R : RN} (H : mM s F R) (hv : v < 3) (hy : y < 10) : f_X9_maySet D b o s (nI v) (nI y) = some (brk R.iv (cf_set R.cf v y)).isNone := by
  unfold f_X9_maySet
  rw [m_here H.2.1, Option.bind_some, m_with H.cf hv, Option.bind_some, m_broken H.2.1.1 H.2.2.2.1 H.2.2.2.2.1 (cf_set_ok H.cf hy), Option.bind_some]
  cases e : brk R.iv (cf_set R.cf v y) with
  | none => rw [if_pos oI_nn]; rfl
  | some j => rw [if_neg (oI_sne (by have := brk_lt e; have := H.2.2.2.1; omega))]; rfl
theorem mc_setValue {D : gx_D} {b : HX} {o : Nat} {s : MS} {A : AT} (H : mI s A) (hA : a_ok A) (i z : Int32) : ∃ r s' A', f_X9_setValue D b o s i z = some (r, s') ∧ mI s' A' ∧
    (match ixB i A.1.vn.length with
    | false => s'.1 6 = 1 ∧ A' = A
    | true => match ixB z 10 with
      | false => s'.1 6 = 2 ∧ A' = A
      | true => ∀ v y, i = nI v → z = nI y → v < A.1.vn.length → y < 10 → (match (brk A.2.1.iv (cf_set A.2.1.cf v y)).isNone with
        | false => s'.1 6 = 3 ∧ A' = A
        | true => s'.1 6 = 0 ∧ r = nI (cf_val A.2.1.cf v) ∧ A' = (A.1, rnSet A.2.1 v y, A.2.2.1, hsN A.2.2.2.1 A.2.1, A.2.2.2.2))) := by
  have vn := hA.1.2.2.1.2
  have H6 : mI (ms_p s 6 0) A := H.p6
  have M6 := H6.M hA
  have no := m_no (D := D) (b := b) (o := o) (i := i) (x := 2) (m := 2) rfl (by decide) (show (ms_p s 6 0).2 0 2 = _ from H.1.2.2.1)
  cases c1 : ixB i A.1.vn.length with
  | false =>
    refine ⟨0, ms_p (ms_p s 6 0) 6 1, A, ?_, H6.p6, ms_p1, rfl⟩
    unfold f_X9_setValue ms_pf
    rw [Option.bind_some, no, c1, pl_b2_s, Bool.not_false, if_pos rfl, if_neg Bool.false_ne_true]
  | true =>
    obtain ⟨v, v1, rfl⟩ := ixB_t (by omega) c1
    have rng : f_X9_inRange D b o (ms_p s 6 0) z 0 9 = some (ixB z 10) := m_inRange (D := D) (b := b) (o := o) (s := ms_p s 6 0) z 0 9
    cases c2 : ixB z 10 with
    | false =>
      refine ⟨0, ms_p (ms_p s 6 0) 6 2, A, ?_, H6.p6, ms_p1, rfl⟩
      unfold f_X9_setValue ms_pf
      rw [Option.bind_some, no, c1, pl_b2_s, Bool.not_true, if_neg Bool.false_ne_true, if_pos rfl, rng, Option.bind_some, c2, if_neg Bool.false_ne_true]
      unfold f_X9_setValue_b30
      rw [m_fails, pl_b2_s, if_pos rfl, if_pos rfl]
    | true =>
      obtain ⟨y, y1, rfl⟩ := ixB_t (by decide) c2
      have ms := m_maySet (D := D) (b := b) (o := o) (v := v) (y := y) M6 (by omega) y1
      have inj : ∀ v' y', nI v = nI v' → nI y = nI y' → v' < A.1.vn.length → y' < 10 → v' = v ∧ y' = y := fun v' y' h1 h2 h3 h4 => ⟨((nI_eq (by omega) (by omega)).1 h1).symm, ((nI_eq (by omega) (by omega)).1 h2).symm⟩
      have pre : f_X9_setValue D b o s (nI v) (nI y) = if (brk A.2.1.iv (cf_set A.2.1.cf v y)).isNone = true then f_X9_setValue_b52 D b o (ms_p s 6 0) (nI v) (nI y) false else f_X9_setValue_b52 D b o (ms_p s 6 0) (nI v) (nI y) true := by
        unfold f_X9_setValue ms_pf
        rw [Option.bind_some, no, c1, pl_b2_s, Bool.not_true, if_neg Bool.false_ne_true, if_pos rfl, rng, Option.bind_some, c2, if_pos rfl]
        unfold f_X9_setValue_b30
        rw [m_fails, pl_b2_s, if_neg Bool.false_ne_true, if_neg Bool.false_ne_true, ms, Option.bind_some]
      cases c3 : (brk A.2.1.iv (cf_set A.2.1.cf v y)).isNone with
      | false =>
        refine ⟨0, ms_p (ms_p s 6 0) 6 3, A, ?_, H6.p6, fun v' y' h1 h2 h3 h4 => ?_⟩
        · rw [pre, c3, if_neg Bool.false_ne_true]
          unfold f_X9_setValue_b52
          rw [m_fails, pl_b2_s, if_pos rfl, if_pos rfl]
        · obtain ⟨rfl, rfl⟩ := inj v' y' h1 h2 h3 h4
          rw [c3]
          exact ⟨ms_p1, rfl⟩
      | true =>
        obtain ⟨s1, r1, r2, r3, r4, r5⟩ := H6.rem (D := D) (b := b) (o := o) hA
        obtain ⟨s2, f1, f2, f3, f4⟩ := m_setsValue (D := D) (b := b) (o := o) (v := v) (y := y) r5 (by omega) y1
        refine ⟨nI (cf_val A.2.1.cf v), s2, _, ?_, H6.run r2 r3 r4 f4 f2 f3, fun v' y' h1 h2 h3 h4 => ?_⟩
        · rw [pre, c3, if_pos rfl]
          unfold f_X9_setValue_b52
          rw [m_fails, pl_b2_s, if_neg Bool.false_ne_true, if_neg Bool.false_ne_true, r1, Option.bind_some, f1, pl_b2_s]
        · obtain ⟨rfl, rfl⟩ := inj v' y' h1 h2 h3 h4
          rw [c3]
          exact ⟨(f4.2 6 (by decide) (by decide)).trans ((r4 6 (by decide)).trans ms_p1), rfl, rfl⟩
theorem m_mayKeep {D : gx_D} {b : HX} {o v p c : Nat} {s : MS} {F : DF} {R : RN} (H : mM s F R) (hv : v < 3) (hp : p < 6) (hc : c < 10) : f_X9_mayKeep D b o s (nI v) (nI p) (nI c) = some (canAddB F R (none, v, p, c)) := by
  obtain ⟨hdf, hrn, hF, hR⟩ := id H
  have hini := hF.2.2.2.2.2.2.2.2.1
  have d7 := hdf.2.2.2.2.2.2.2
  have w6 : s.2 0 (6 + v) = nI (cf_val R.cf v) := hrn.2.2.1 v hv
  have w9 : s.2 0 (9 + v) = nI (cf_val F.ini v) := d7 v hv
  have l1 := cf_val_lt H.cf v
  have l2 := cf_val_lt hini v
  have i6 : (6 : Int32) + nI v = nI (6 + v) := by rw [show (6 : Int32) = nI 6 from rfl, nI_add]
  have i9 : (9 : Int32) + nI v = nI (9 + v) := by rw [show (9 : Int32) = nI 9 from rfl, nI_add]
  have eb : ∀ q, ivB (none, v, p, c) q = !opN p (cf_val q v) c := fun q => by
    show (true && !cpH (v, p, c) q) = _
    rw [Bool.true_and]
    rfl
  unfold f_X9_mayKeep canAddB
  rw [ms_w (x := 4) (k := 4) rfl (by decide), hrn.1.1, Option.bind_some, i6, i9, eb, eb]
  by_cases e : R.iv.length = 12
  · rw [if_pos (show nI R.iv.length = 12 by rw [e]; rfl), decide_eq_false (by omega)]
    rfl
  · rw [if_neg (show ¬ nI R.iv.length = 12 from nI_ne (b := 12) (by have := hR.1; omega) (by decide) e), decide_eq_true (by have := hR.1; omega), Bool.true_and, ms_w (k := 6 + v) rfl (by omega), w6, Option.bind_some, m_holds hp, opH_nI (by omega) (by omega), Option.bind_some, ms_w (k := 9 + v) rfl (by omega), w9, Option.bind_some, m_holds hp, opH_nI (by omega) (by omega), Option.bind_some, Bool.not_not, Bool.not_not]
    cases opN p (cf_val R.cf v) c <;> cases opN p (cf_val F.ini v) c <;> rfl
theorem mc_addAlways {D : gx_D} {b : HX} {o : Nat} {s : MS} {A : AT} (H : mI s A) (hA : a_ok A) (i z k : Int32) : ∃ r s' A', f_X9_addAlways D b o s i z k = some (r, s') ∧ mI s' A' ∧
    (match ixB i A.1.vn.length with
    | false => s'.1 6 = 1 ∧ A' = A
    | true => match ixB z 6 && ixB k 10 with
      | false => s'.1 6 = 2 ∧ A' = A
      | true => ∀ v p c, i = nI v → z = nI p → k = nI c → v < A.1.vn.length → p < 6 → c < 10 → (match canAddB A.1 A.2.1 (none, v, p, c) with
        | false => s'.1 6 = 3 ∧ A' = A
        | true => s'.1 6 = 0 ∧ r = nI A.2.1.iv.length ∧ A' = (A.1, rnAdd A.2.1 (none, v, p, c), A.2.2.1, hsN A.2.2.2.1 A.2.1, A.2.2.2.2))) := by
  have vn := hA.1.2.2.1.2
  have H6 : mI (ms_p s 6 0) A := H.p6
  have M6 := H6.M hA
  have no := m_no (D := D) (b := b) (o := o) (i := i) (x := 2) (m := 2) rfl (by decide) (show (ms_p s 6 0).2 0 2 = _ from H.1.2.2.1)
  cases c1 : ixB i A.1.vn.length with
  | false =>
    refine ⟨0, ms_p (ms_p s 6 0) 6 1, A, ?_, H6.p6, ms_p1, rfl⟩
    unfold f_X9_addAlways ms_pf
    rw [Option.bind_some, no, c1, pl_b2_s, Bool.not_false, if_pos rfl, if_neg Bool.false_ne_true]
  | true =>
    obtain ⟨v, v1, rfl⟩ := ixB_t (by omega) c1
    have g5 : f_X9_inRange D b o (ms_p s 6 0) z 0 5 = some (ixB z 6) := m_inRange (D := D) (b := b) (o := o) (s := ms_p s 6 0) z 0 5
    have g9 : f_X9_inRange D b o (ms_p s 6 0) k 0 9 = some (ixB k 10) := m_inRange (D := D) (b := b) (o := o) (s := ms_p s 6 0) k 0 9
    cases c2 : ixB z 6 && ixB k 10 with
    | false =>
      refine ⟨0, ms_p (ms_p s 6 0) 6 2, A, ?_, H6.p6, ms_p1, rfl⟩
      have bf : f_X9_addAlways_b34 D b o (ms_p s 6 0) (nI v) z k = some (0, ms_p (ms_p s 6 0) 6 2) := by
        unfold f_X9_addAlways_b34 f_X9_addAlways_b39
        rw [m_fails, pl_b2_s, if_pos rfl, if_pos rfl]
      unfold f_X9_addAlways ms_pf
      rw [Option.bind_some, no, c1, pl_b2_s, Bool.not_true, if_neg Bool.false_ne_true, if_pos rfl, g5, Option.bind_some]
      cases d1 : ixB z 6 with
      | false => rw [if_neg Bool.false_ne_true, bf]
      | true =>
        rw [d1, Bool.true_and] at c2
        rw [if_pos rfl, g9, Option.bind_some, c2, if_neg Bool.false_ne_true, bf]
    | true =>
      rw [Bool.and_eq_true] at c2
      obtain ⟨d1, d2⟩ := c2
      obtain ⟨p, p1, rfl⟩ := ixB_t (by decide) d1
      obtain ⟨c, k1, rfl⟩ := ixB_t (by decide) d2
      have mk := m_mayKeep (D := D) (b := b) (o := o) (v := v) (p := p) (c := c) M6 (by omega) p1 k1
      have inj : ∀ v' p' c', nI v = nI v' → nI p = nI p' → nI c = nI c' → v' < A.1.vn.length → p' < 6 → c' < 10 → v' = v ∧ p' = p ∧ c' = c := fun v' p' c' h1 h2 h3 h4 h5 h6 => ⟨((nI_eq (by omega) (by omega)).1 h1).symm, ((nI_eq (by omega) (by omega)).1 h2).symm, ((nI_eq (by omega) (by omega)).1 h3).symm⟩
      have pre : f_X9_addAlways D b o s (nI v) (nI p) (nI c) = if canAddB A.1 A.2.1 (none, v, p, c) = true then f_X9_addAlways_b64 D b o (ms_p s 6 0) (nI v) (nI p) (nI c) false else f_X9_addAlways_b64 D b o (ms_p s 6 0) (nI v) (nI p) (nI c) true := by
        unfold f_X9_addAlways ms_pf
        rw [Option.bind_some, no, c1, pl_b2_s, Bool.not_true, if_neg Bool.false_ne_true, if_pos rfl, g5, Option.bind_some, d1, if_pos rfl, g9, Option.bind_some, d2, if_pos rfl]
        unfold f_X9_addAlways_b39
        rw [m_fails, pl_b2_s, if_neg Bool.false_ne_true, if_neg Bool.false_ne_true, mk, Option.bind_some]
      cases c3 : canAddB A.1 A.2.1 (none, v, p, c) with
      | false =>
        refine ⟨0, ms_p (ms_p s 6 0) 6 3, A, ?_, H6.p6, fun v' p' c' h1 h2 h3 h4 h5 h6 => ?_⟩
        · rw [pre, c3, if_neg Bool.false_ne_true]
          unfold f_X9_addAlways_b64
          rw [m_fails, pl_b2_s, if_pos rfl, if_pos rfl]
        · obtain ⟨rfl, rfl, rfl⟩ := inj v' p' c' h1 h2 h3 h4 h5 h6
          rw [c3]
          exact ⟨ms_p1, rfl⟩
      | true =>
        have l12 : A.2.1.iv.length < 12 := by
          unfold canAddB at c3
          simp only [Bool.and_eq_true, decide_eq_true_eq] at c3
          exact c3.1
        obtain ⟨s1, r1, r2, r3, r4, r5⟩ := H6.rem (D := D) (b := b) (o := o) hA
        obtain ⟨s2, f1, f2, f3, f4⟩ := m_keeps (D := D) (b := b) (o := o) (v := v) (p := p) (c := c) r5 l12
        refine ⟨nI A.2.1.iv.length, s2, _, ?_, H6.run r2 r3 r4 f4 f2 f3, fun v' p' c' h1 h2 h3 h4 h5 h6 => ?_⟩
        · rw [pre, c3, if_pos rfl]
          unfold f_X9_addAlways_b64
          rw [m_fails, pl_b2_s, if_neg Bool.false_ne_true, if_neg Bool.false_ne_true, r1, Option.bind_some, f1, pl_b2_s]
        · obtain ⟨rfl, rfl, rfl⟩ := inj v' p' c' h1 h2 h3 h4 h5 h6
          rw [c3]
          exact ⟨(f4.2 6 (by decide) (by decide)).trans ((r4 6 (by decide)).trans ms_p1), rfl, rfl⟩
theorem mc_undo {D : gx_D} {b : HX} {o : Nat} {s : MS} {A : AT} (H : mI s A) (hA : a_ok A) : (A.2.2.2.1 = [] ∧ ∃ r s', f_X9_undo D b o s = some (r, s') ∧ s'.1 6 = 1 ∧ mI s' A) ∨ ∃ hs R s', A.2.2.2.1 = hs ++ [R] ∧ f_X9_undo D b o s = some (nI hs.length, s') ∧ s'.1 6 = 0 ∧ mI s' (A.1, R, A.2.2.1, hs, A.2.2.2.2) := by
  have H6 : mI (ms_p s 6 0) A := H.p6
  obtain ⟨q1, q2, ⟨q3, q3'⟩, q4, q5, q6, q7, q8⟩ := id H6
  have l8 := hA.2.2.2.2.1
  rcases List.eq_nil_or_concat A.2.2.2.1 with e | ⟨hs, R, e⟩
  · refine Or.inl ⟨e, 0, ms_p (ms_p s 6 0) 6 1, ?_, ms_p1, H6.p6⟩
    unfold f_X9_undo ms_pf
    rw [Option.bind_some, q3, e, if_pos (by decide)]
    unfold f_X9_undo_b18
    rw [m_fails, pl_b2_s, if_pos rfl, if_pos rfl]
  · rw [List.concat_eq_append] at e
    have el : A.2.2.2.1.length = hs.length + 1 := by rw [e, List.length_append, List.length_singleton]
    have Rm : R ∈ A.2.2.2.1 := by rw [e]; exact List.mem_append.2 (Or.inr (List.mem_singleton.2 rfl))
    have hR := hA.2.2.2.1 R Rm
    obtain ⟨a1, a2⟩ := q3' hs.length R (by rw [e, List.getElem?_append_right (Nat.le_refl _), Nat.sub_self]; rfl)
    obtain ⟨S, hS⟩ : ∃ S, S = ms_p (ms_p s 6 0) 4 (nI hs.length) := ⟨_, rfl⟩
    have S2 : S.2 = (ms_p s 6 0).2 := by rw [hS]; rfl
    have S1 : ∀ q, q ≠ 4 → S.1 q = (ms_p s 6 0).1 q := fun q hq => by rw [hS]; exact ms_p1n hq
    have S4 : S.1 4 = nI hs.length := by rw [hS]; exact ms_p1
    obtain ⟨g, g1, g2⟩ := m_copies (D := D) (b := b) (o := o) (i := 3) (j := 0) (a := 504 * hs.length) (c := 0) (s := S) (x := nI (504 * hs.length)) (y := 0) rfl rfl (by decide) (by decide) rfl rfl (by decide) (by show _ ≤ 4032; omega) (by decide)
    have same : ∀ i, i < 504 → g i = (ms_p s 6 0).2 3 (504 * hs.length + i) := fun i hi => by rw [g2, if_pos (by omega), S2, Nat.sub_zero]
    refine Or.inr ⟨hs, R, (S.1, fun q => if q = 0 then g else S.2 q), e, ?_, ?_, ?_⟩
    · unfold f_X9_undo ms_pf
      rw [Option.bind_some, q3, el, if_neg (show ¬ nI (hs.length + 1) = 0 from nI_ne (b := 0) (by omega) (by decide) (by omega))]
      unfold f_X9_undo_b18 ms_pf
      rw [m_fails, pl_b2_s, if_neg Bool.false_ne_true, if_neg Bool.false_ne_true, q3, el, show nI (hs.length + 1) - 1 = nI hs.length by rw [← nI_1]; exact Int32.add_sub_cancel _ _, Option.bind_some, ← hS, S4, show (504 : Int32) = nI 504 by decide, pk_mul, g1, Option.bind_some]
      show some (S.1 4, _) = _
      rw [S4]
    · show S.1 6 = 0
      rw [S1 6 (by decide)]
      exact ms_p1
    · refine ⟨m_df_ext a1 hA.1 (fun i hi _ => same i hi), m_rn_ext a2 hR same, ⟨S4, fun j R' hj => ?_⟩, ?_, ?_, (S1 14 (by decide)).trans q6, (S1 15 (by decide)).trans q7, ?_⟩
      · have := q3' j R' (by rw [e, List.getElem?_append_left (List.getElem?_eq_some_iff.1 hj).1]; exact hj)
        show m_df (fun k => S.2 3 (504 * j + k)) A.1 ∧ m_rn (fun k => S.2 3 (504 * j + k)) R'
        rw [S2]
        exact this
      · show m_sv (S.1, fun q => if q = 0 then g else S.2 q) A.1 A.2.2.1
        revert q4
        cases A.2.2.1 with
        | none => intro q; exact (S1 5 (by decide)).trans q
        | some R => intro q; show S.1 5 = 1 ∧ m_df (S.2 2) A.1 ∧ m_rn (S.2 2) R; rw [S1 5 (by decide), S2]; exact q
      · show S.1 13 = _ ∧ ∀ k b, A.2.2.2.2.1[k]? = some b → S.2 6 k = nI b
        rw [S1 13 (by decide), S2]
        exact q5
      · show S.1 30 = _ ∧ ∀ k c, A.2.2.2.2.2.2.2[k]? = some c → S.2 12 k = nI c
        rw [S1 30 (by decide), S2]
        exact q8
theorem mc_saveState {D : gx_D} {b : HX} {o : Nat} {s : MS} {A : AT} (H : mI s A) (hA : a_ok A) : ∃ s', f_X9_saveState D b o s = some (nI A.2.1.cf.1, s') ∧ mI s' (A.1, A.2.1, some A.2.1, A.2.2.2) := by
  have H6 : mI (ms_p s 6 0) A := H.p6
  obtain ⟨q1, q2, q3, q4, q5, q6, q7, q8⟩ := id H6
  obtain ⟨g, g1, g2⟩ := m_copies (D := D) (b := b) (o := o) (i := 0) (j := 2) (a := 0) (c := 0) (s := ms_p s 6 0) (x := 0) (y := 0) rfl rfl (by decide) (by decide) rfl rfl (by decide) (by decide) (by decide)
  have same : ∀ i, i < 504 → g i = (ms_p s 6 0).2 0 i := fun i hi => by rw [g2, if_pos (by omega), Nat.sub_zero, Nat.zero_add]
  obtain ⟨S, hS⟩ : ∃ S, S = ms_p ((ms_p s 6 0).1, fun q => if q = 2 then g else (ms_p s 6 0).2 q) 5 1 := ⟨_, rfl⟩
  have S2 : ∀ q, q ≠ 2 → S.2 q = (ms_p s 6 0).2 q := fun q hq => by rw [hS]; exact if_neg hq
  have Sg : S.2 2 = g := by
    rw [hS]
    show (if (2 : Nat) = 2 then g else (ms_p s 6 0).2 2) = g
    exact if_pos rfl
  have S1 : ∀ q, q ≠ 5 → S.1 q = (ms_p s 6 0).1 q := fun q hq => by rw [hS]; exact ms_p1n hq
  refine ⟨S, ?_, by rw [S2 0 (by decide)]; exact q1, by rw [S2 0 (by decide)]; exact q2, ?_, ?_, ?_, (S1 14 (by decide)).trans q6, (S1 15 (by decide)).trans q7, ?_⟩
  · unfold f_X9_saveState ms_pf
    rw [Option.bind_some, g1, Option.bind_some, Option.bind_some, ← hS, ms_w (x := 5) (k := 5) rfl (by decide), S2 0 (by decide), q2.2.1, Option.bind_some]
  · unfold m_hs
    rw [S1 4 (by decide), S2 3 (by decide)]
    exact q3
  · show S.1 5 = 1 ∧ m_df (S.2 2) A.1 ∧ m_rn (S.2 2) A.2.1
    rw [Sg]
    exact ⟨by rw [hS]; exact ms_p1, m_df_ext q1 hA.1 (fun i hi _ => same i hi), m_rn_ext q2 hA.2.1 same⟩
  · unfold m_in
    rw [S1 13 (by decide), S2 6 (by decide)]
    exact q5
  · unfold m_out
    rw [S1 30 (by decide), S2 12 (by decide)]
    exact q8
theorem mc_restoreState {D : gx_D} {b : HX} {o : Nat} {s : MS} {A : AT} (H : mI s A) (hA : a_ok A) : (A.2.2.1 = none ∧ ∃ r s', f_X9_restoreState D b o s = some (r, s') ∧ s'.1 6 = 1 ∧ mI s' A) ∨ ∃ R s', A.2.2.1 = some R ∧ f_X9_restoreState D b o s = some (nI R.cf.1, s') ∧ s'.1 6 = 0 ∧ mI s' (A.1, R, A.2.2.1, [], A.2.2.2.2) := by
  have H6 : mI (ms_p s 6 0) A := H.p6
  obtain ⟨q1, q2, q3, q4, q5, q6, q7, q8⟩ := id H6
  cases e : A.2.2.1 with
  | none =>
    rw [e] at q4
    refine Or.inl ⟨rfl, 0, ms_p (ms_p s 6 0) 6 1, ?_, ms_p1, H6.p6⟩
    unfold f_X9_restoreState ms_pf
    rw [Option.bind_some, show (ms_p s 6 0).1 5 = 0 from q4, if_pos rfl]
    unfold f_X9_restoreState_b18
    rw [m_fails, pl_b2_s, if_pos rfl, if_pos rfl]
  | some R =>
    rw [e] at q4
    obtain ⟨y1, y2, y3⟩ := q4
    have hR := hA.2.2.1 R e
    obtain ⟨g, g1, g2⟩ := m_copies (D := D) (b := b) (o := o) (i := 2) (j := 0) (a := 0) (c := 0) (s := ms_p s 6 0) (x := 0) (y := 0) rfl rfl (by decide) (by decide) rfl rfl (by decide) (by decide) (by decide)
    have same : ∀ i, i < 504 → g i = (ms_p s 6 0).2 2 i := fun i hi => by rw [g2, if_pos (by omega), Nat.sub_zero, Nat.zero_add]
    obtain ⟨S, hS⟩ : ∃ S, S = ms_p ((ms_p s 6 0).1, fun q => if q = 0 then g else (ms_p s 6 0).2 q) 4 0 := ⟨_, rfl⟩
    have S2 : ∀ q, q ≠ 0 → S.2 q = (ms_p s 6 0).2 q := fun q hq => by rw [hS]; exact if_neg hq
    have Sg : S.2 0 = g := by
      rw [hS]
      show (if (0 : Nat) = 0 then g else (ms_p s 6 0).2 0) = g
      exact if_pos rfl
    have S1 : ∀ q, q ≠ 4 → S.1 q = (ms_p s 6 0).1 q := fun q hq => by rw [hS]; exact ms_p1n hq
    have gr := m_rn_ext (w' := g) y3 hR same
    refine Or.inr ⟨R, S, rfl, ?_, (S1 6 (by decide)).trans ms_p1, by rw [Sg]; exact m_df_ext y2 hA.1 (fun i hi _ => same i hi), by rw [Sg]; exact gr, ⟨by rw [hS]; exact ms_p1, fun j R' hj => by simp at hj⟩, ?_, ?_, (S1 14 (by decide)).trans q6, (S1 15 (by decide)).trans q7, ?_⟩
    · unfold f_X9_restoreState ms_pf
      rw [Option.bind_some, y1, if_neg (by decide)]
      unfold f_X9_restoreState_b18 ms_pf
      rw [m_fails, pl_b2_s, if_neg Bool.false_ne_true, if_neg Bool.false_ne_true, g1, Option.bind_some, Option.bind_some, ← hS, ms_w (x := 5) (k := 5) rfl (by decide), Sg, gr.2.1, Option.bind_some]
    · show S.1 5 = 1 ∧ m_df (S.2 2) A.1 ∧ m_rn (S.2 2) R
      rw [S1 5 (by decide), S2 2 (by decide)]
      exact ⟨y1, y2, y3⟩
    · show m_in S A.2.2.2.2.1
      unfold m_in
      rw [S1 13 (by decide), S2 6 (by decide)]
      exact q5
    · show m_out S A.2.2.2.2.2.2.2
      unfold m_out
      rw [S1 30 (by decide), S2 12 (by decide)]
      exact q8
