/-! the model's changes of a run -/
set_option maxRecDepth 100000
set_option linter.unusedSimpArgs false
def mw (s : MS) (w : Nat → Int32) : MS := (s.1, fun q => if q = 0 then w else s.2 q)
theorem mw_s {s : MS} : s = mw s (s.2 0) := by
  refine Prod.ext rfl ?_
  funext q
  show s.2 q = if q = 0 then s.2 0 else s.2 q
  by_cases c : q = 0
  · rw [if_pos c, c]
  · rw [if_neg c]
theorem mw_r {s : MS} {w : Nat → Int32} {k : Nat} {x : Int32} (hx : x = nI k) (hk : k < 504) : ms_ai (mw s w) 0 x = some (w k) := ms_w hx hk
theorem mw_w {s : MS} {w : Nat → Int32} {k : Nat} {x y : Int32} (hx : x = nI k) (hk : k < 504) : ms_si (mw s w) 0 x y = some (mw s (upd w k y)) := by
  rw [ms_ws hx hk]
  refine congrArg some (Prod.ext rfl ?_)
  funext q
  show (if q = 0 then upd (if (0 : Nat) = 0 then w else s.2 0) k y else if q = 0 then w else s.2 q) = if q = 0 then upd w k y else s.2 q
  by_cases c : q = 0
  · rw [if_pos c, if_pos c, if_pos rfl]
  · rw [if_neg c, if_neg c, if_neg c]
theorem mw_1 {s : MS} {w : Nat → Int32} {k : Nat} : (mw s w).1 k = s.1 k := rfl
theorem mw_2 {s : MS} {w : Nat → Int32} : (mw s w).2 0 = w := by
  show (if (0 : Nat) = 0 then w else s.2 0) = w
  exact if_pos rfl
theorem mw_mw {s : MS} {w w' : Nat → Int32} : mw (mw s w) w' = mw s w' := by
  refine Prod.ext rfl ?_
  funext q
  show (if q = 0 then w' else if q = 0 then w else s.2 q) = if q = 0 then w' else s.2 q
  by_cases c : q = 0
  · rw [if_pos c, if_pos c]
  · rw [if_neg c, if_neg c, if_neg c]
theorem b33t_s {D : gx_D} {b : HX} {o n : Nat} {h : MS} {v1 v2 v3 : Int32} : f_X9_traces_b33 D b o (n + 1) h v1 v2 v3 = if v3 ≤ 0 then f_X9_traces_b93 D b o h v1 v2 else (ms_ai h 0 (((19 : Int32) + ((2 : Int32) * v3)) - (2 : Int32))).bind fun x9 => (ms_si h 0 ((19 : Int32) + ((2 : Int32) * v3)) x9).bind fun h10 => (ms_ai h10 0 (((19 : Int32) + ((2 : Int32) * v3)) - (1 : Int32))).bind fun x11 => (ms_si h10 0 (((19 : Int32) + ((2 : Int32) * v3)) + (1 : Int32)) x11).bind fun h12 => (f_X9_traces_b33 D b o n) h12 v1 v2 ((v3 + (-1 : Int32))) := by rw [f_X9_traces_b33]
theorem m_traces {D : gx_D} {b : HX} {o t : Nat} {s : MS} {w : Nat → Int32} {x y : Int32} (ht : w 18 = nI t) (h20 : t ≤ 20) : ∃ w', f_X9_traces D b o (mw s w) x y = some (mw s w') ∧ w' 18 = nI (if t < 20 then t + 1 else 20) ∧ (∀ i, i < 18 ∨ 59 ≤ i → w' i = w i) ∧ ∀ j, j < (if t < 20 then t + 1 else 20) → w' (19 + 2 * j) = (if j = 0 then x else w (19 + 2 * (j - 1))) ∧ w' (20 + 2 * j) = (if j = 0 then y else w (20 + 2 * (j - 1))) := by
  have key : ∀ (c : Nat) (u : Nat → Int32), c < 20 → u 18 = nI (c + 1) → ∃ w', f_X9_traces_b23 D b o (mw s u) x y = some (mw s w') ∧ w' 18 = nI (c + 1) ∧ (∀ i, i < 18 ∨ 59 ≤ i → w' i = u i) ∧ ∀ j, j ≤ c → w' (19 + 2 * j) = (if j = 0 then x else u (19 + 2 * (j - 1))) ∧ w' (20 + 2 * j) = (if j = 0 then y else u (20 + 2 * (j - 1))) := by
    intro c u hc hu
    obtain ⟨z, ⟨g, zz, g1, g2, g3⟩, z2⟩ := gx_lq (F := fun f (z : MS × Int32) => f_X9_traces_b33 D b o f z.1 x y z.2) (I := fun m z => ∃ g, z = (mw s g, nI (c - m)) ∧ g 18 = nI (c + 1) ∧ (∀ i, i < 18 ∨ 59 ≤ i → g i = u i) ∧ ∀ j, j ≤ c → g (19 + 2 * j) = (if c - m < j then u (19 + 2 * (j - 1)) else u (19 + 2 * j)) ∧ g (20 + 2 * j) = (if c - m < j then u (20 + 2 * (j - 1)) else u (20 + 2 * j))) c (by
      intro f m z hm hI
      obtain ⟨g, rfl, g1, g2, g3⟩ := hI
      obtain ⟨k, hk⟩ : ∃ k, c - m = k + 1 := ⟨c - m - 1, by omega⟩
      have hk1 : c - (m + 1) = k := by omega
      refine ⟨_, ⟨upd (upd g (19 + 2 * (k + 1)) (g (19 + 2 * k))) (20 + 2 * (k + 1)) (g (20 + 2 * k)), rfl, by rw [pk_un (by omega), pk_un (by omega), g1], fun i hi => by rw [pk_un (by omega), pk_un (by omega), g2 i hi], fun j hj => ?_⟩, ?_⟩
      · obtain ⟨a1, a2⟩ := g3 j hj
        obtain ⟨b1, b2⟩ := g3 k (by omega)
        rw [hk1]
        rw [hk] at a1 a2 b1 b2
        rw [if_neg (by omega)] at b1 b2
        by_cases e : j = k + 1
        · subst e
          rw [pk_un (show 19 + 2 * (k + 1) ≠ 20 + 2 * (k + 1) by omega), pk_us, pk_us, if_pos (by omega), if_pos (by omega), Nat.add_sub_cancel]
          exact ⟨b1, b2⟩
        · rw [pk_un (show 19 + 2 * j ≠ 20 + 2 * (k + 1) by omega), pk_un (show 19 + 2 * j ≠ 19 + 2 * (k + 1) by omega), pk_un (show 20 + 2 * j ≠ 20 + 2 * (k + 1) by omega), pk_un (show 20 + 2 * j ≠ 19 + 2 * (k + 1) by omega), a1, a2]
          by_cases e2 : k < j
          · rw [if_pos e2, if_pos e2, if_pos (by omega), if_pos (by omega)]
            exact ⟨rfl, rfl⟩
          · rw [if_neg e2, if_neg e2, if_neg (by omega), if_neg (by omega)]
            exact ⟨rfl, rfl⟩
      · have i1 : (19 : Int32) + 2 * nI (k + 1) = nI (19 + 2 * (k + 1)) := by rw [show (2 : Int32) = nI 2 from rfl, show (19 : Int32) = nI 19 from rfl, pk_mul, nI_add]
        have i2 : nI (19 + 2 * (k + 1)) - 2 = nI (19 + 2 * k) := by rw [show (2 : Int32) = nI 2 from rfl, pk_sub (by omega)]; congr 1
        have i3 : nI (19 + 2 * (k + 1)) - 1 = nI (20 + 2 * k) := by rw [show (1 : Int32) = nI 1 from rfl, pk_sub (by omega)]; congr 1; omega
        have i4 : nI (19 + 2 * (k + 1)) + 1 = nI (20 + 2 * (k + 1)) := by rw [nI_1]; congr 1; omega
        have i5 : nI (k + 1) + -1 = nI k := pk_m1 k
        show f_X9_traces_b33 D b o (f + 1) (mw s g) x y (nI (c - m)) = f_X9_traces_b33 D b o f (mw s (upd (upd g (19 + 2 * (k + 1)) (g (19 + 2 * k))) (20 + 2 * (k + 1)) (g (20 + 2 * k)))) x y (nI (c - (m + 1)))
        rw [b33t_s, hk, hk1, if_neg (nI_nle (by omega) (by omega)), i1, i2, mw_r (k := 19 + 2 * k) rfl (by omega), Option.bind_some, mw_w (k := 19 + 2 * (k + 1)) rfl (by omega), Option.bind_some, i3, mw_r (k := 20 + 2 * k) rfl (by omega), Option.bind_some, i4, mw_w (k := 20 + 2 * (k + 1)) rfl (by omega), Option.bind_some, i5, pk_un (show 20 + 2 * k ≠ 19 + 2 * (k + 1) by omega)]) c 0 gx_fuel (mw s u, nI c) (by omega) (by rw [pl_fl]; omega) ⟨u, rfl, hu, fun _ _ => rfl, fun j hj => by rw [if_neg (by omega), if_neg (by omega)]; exact ⟨rfl, rfl⟩⟩
    subst zz
    obtain ⟨v, hv⟩ : ∃ g, gx_fuel - c = g + 1 := ⟨gx_fuel - c - 1, by rw [pl_fl]; omega⟩
    rw [hv, Nat.sub_self] at z2
    refine ⟨upd (upd g 19 x) 20 y, ?_, by rw [pk_un (by decide), pk_un (by decide), g1], fun i hi => by rw [pk_un (by omega), pk_un (by omega), g2 i hi], fun j hj => ?_⟩
    · unfold f_X9_traces_b23
      rw [mw_r (x := 18) (k := 18) rfl (by decide), Option.bind_some, hu, ← nI_1, show nI c + 1 - 1 = nI c from Int32.add_sub_cancel _ _]
      have z2' : f_X9_traces_b33 D b o gx_fuel (mw s u) x y (nI c) = f_X9_traces_b33 D b o (v + 1) (mw s g) x y (nI 0) := z2
      rw [z2', b33t_s, if_pos (by decide)]
      unfold f_X9_traces_b93
      rw [mw_w (x := 19) (k := 19) rfl (by decide), Option.bind_some, mw_w (x := 20) (k := 20) rfl (by decide), Option.bind_some]
    · obtain ⟨a1, a2⟩ := g3 j hj
      by_cases e : j = 0
      · subst e
        rw [pk_un (by omega), pk_us, pk_us, if_pos rfl, if_pos rfl]
        exact ⟨rfl, rfl⟩
      · rw [pk_un (by omega), pk_un (by omega), pk_un (by omega), pk_un (by omega), a1, a2, if_pos (show c - c < j by omega), if_pos (show c - c < j by omega), if_neg e, if_neg e]
        exact ⟨rfl, rfl⟩
  unfold f_X9_traces
  rw [mw_r (x := 18) (k := 18) rfl (by decide), Option.bind_some, ht]
  by_cases c : t < 20
  · obtain ⟨w', k1, k2, k3, k4⟩ := key t (upd w 18 (nI (t + 1))) c pk_us
    rw [if_pos c]
    refine ⟨w', ?_, k2, fun i hi => by rw [k3 i hi, pk_un (by omega)], fun j hj => ?_⟩
    · rw [if_neg (show ¬ (20 : Int32) ≤ nI t from nI_ge (a := t) (b := 20) c (by decide)), Option.bind_some, mw_w (x := 18) (k := 18) rfl (by decide), Option.bind_some, nI_1, k1]
    · obtain ⟨a1, a2⟩ := k4 j (by omega)
      rw [a1, a2, pk_un (by omega), pk_un (by omega)]
      exact ⟨rfl, rfl⟩
  · obtain ⟨w', k1, k2, k3, k4⟩ := key 19 w (by decide) (by rw [ht, show t = 20 by omega])
    rw [if_neg c]
    refine ⟨w', ?_, k2, k3, fun j hj => k4 j (by omega)⟩
    rw [if_pos (show (20 : Int32) ≤ nI t from nI_le (a := 20) (by omega) (by omega)), k1]
theorem m_fires {D : gx_D} {b : HX} {o e : Nat} {s : MS} {F : DF} {R : RN} (H : mM s F R) (he : e < F.en.length) : ∃ s', f_X9_fires D b o s (nI e) = some (nI (vdN F.ts R.iv R.cf e), s') ∧ m_df (s'.2 0) F ∧ m_rn (s'.2 0) (rnFire F R e) ∧ (∀ q, q ≠ 0 → s'.2 q = s.2 q) ∧ ∀ q, q ≠ 7 → q ≠ 8 → s'.1 q = s.1 q := by
  obtain ⟨hdf, hrn, hF, hR⟩ := id H
  have V := H.V.vd (D := D) (b := b) (o := o) (e := e) H.cf (by have := hF.2.1.2; omega)
  obtain ⟨q1, q2, q3, q4, q5, q6, q7, q8, q9, q10⟩ := id hrn
  have hl := hR.1
  have ht := hR.2.2.2.2.2.2.2
  have vlt := vdN_lt (ts := F.ts) (is := R.iv) (q := R.cf) (e := e)
  obtain ⟨S, hS⟩ : ∃ S, S = vdS F.ts R.cf e s := ⟨_, rfl⟩
  have S2 : S.2 = s.2 := by rw [hS]; rfl
  have S1 : ∀ q, q ≠ 7 → q ≠ 8 → S.1 q = s.1 q := fun q h1 h2 => by
    rw [hS]
    unfold vdS
    rw [ms_p1n h1, ms_p1n h2]
  have S0 : S = mw S (s.2 0) := by rw [← S2]; exact mw_s
  unfold f_X9_fires gx_b2
  rw [m_here hrn, Option.bind_some, V, Option.bind_some, ← hS]
  simp only
  have nn := nxN_of (F := F) (R := R) (q := R.cf) (e := e)
  cases c : nxN F.ts R.iv R.cf e with
  | none =>
    have v0 : ¬ vdN F.ts R.iv R.cf e = 0 := by rw [c] at nn; exact of_decide_eq_false nn.symm
    have rf : rnFire F R e = rnRej R (vdN F.ts R.iv R.cf e) := by unfold rnFire; rw [c]
    obtain ⟨v, hv⟩ : ∃ v, v = vdN F.ts R.iv R.cf e := ⟨_, rfl⟩
    rw [← hv] at v0 vlt
    rw [rf, ← hv]
    have a12 : (12 : Int32) + nI v = nI (12 + v) := by rw [show (12 : Int32) = nI 12 from rfl, nI_add]
    refine ⟨mw S (upd (upd (s.2 0) (12 + v) (s.2 0 (12 + v) + 1)) 17 (s.2 0 17 + 1)), ?_, ?_, ?_, fun q hq => ?_, fun q h1 h2 => S1 q h1 h2⟩
    · rw [if_neg (show ¬ nI v = 0 from nI_ne (b := 0) (by omega) (by decide) v0), a12, S0, mw_r (k := 12 + v) rfl (by omega), Option.bind_some, mw_w (k := 12 + v) rfl (by omega), Option.bind_some, mw_r (x := 17) (k := 17) rfl (by decide), Option.bind_some, mw_w (x := 17) (k := 17) rfl (by decide), Option.bind_some, pk_un (show 17 ≠ 12 + v by omega), mw_mw]
    · rw [mw_2]
      exact m_df_ext hdf hF (fun i hi h => by rw [pk_un (by omega), pk_un (by omega)])
    · rw [mw_2]
      have un : ∀ i, i ≠ 17 → i ≠ 12 + v → upd (upd (s.2 0) (12 + v) (s.2 0 (12 + v) + 1)) 17 (s.2 0 17 + 1) i = s.2 0 i := fun i h1 h2 => by rw [pk_un h1, pk_un h2]
      refine ⟨m_ivs_ext q1 hl (fun i hi => un i (by omega) (by omega)), by rw [un _ (by omega) (by omega)]; exact q2, fun j hj => by rw [un _ (by omega) (by omega)]; exact q3 j hj, by rw [un _ (by omega) (by omega)]; exact q4, fun j h1 h2 => ?_, ?_, by rw [un _ (by omega) (by omega)]; exact q7, fun j hj => by
        have hj : j < R.tr.length := hj
        rw [un _ (by omega) (by omega), un _ (by omega) (by omega)]; exact q8 j hj, fun j hj => by rw [un _ (by omega) (by omega)]; exact q9 j hj, fun j hj => by rw [un _ (by omega) (by omega)]; exact q10 j hj⟩
      · show _ = upd R.rj v (R.rj v + 1) j
        by_cases e : j = v
        · subst e
          rw [pk_un (by omega), pk_us, pk_us, q5 j h1 h2]
        · rw [un _ (by omega) (by omega), pk_un e, q5 j h1 h2]
      · rw [pk_us, q6]
        show _ = upd R.rj v (R.rj v + 1) 1 + upd R.rj v (R.rj v + 1) 2 + upd R.rj v (R.rj v + 1) 3 + upd R.rj v (R.rj v + 1) 4
        have hc : v = 1 ∨ v = 2 ∨ v = 3 ∨ v = 4 := by omega
        generalize R.rj = g
        rcases hc with rfl | rfl | rfl | rfl <;> simp only [upd, if_true] <;> simp <;> grind
    · show (if q = 0 then _ else S.2 q) = _
      rw [if_neg hq, S2]
  | some q =>
    obtain ⟨t1, k, t2⟩ := toN_of c
    have v0 : vdN F.ts R.iv R.cf e = 0 := by rw [c] at nn; exact of_decide_eq_true nn.symm
    have rf : rnFire F R e = rnAcc R q e k := by unfold rnFire; rw [c, t2]
    have hq := nxN_ok hF.trs H.cf c
    have kl := chN_lt t2
    have k24 := hF.2.2.2.1
    have qs := hq.1
    have S8 : S.1 8 = nI (cf_m q) := by rw [hS]; unfold vdS; rw [ms_p1n (by decide), ms_p1, t1]
    have S7 : S.1 7 = nI k := by rw [hS]; unfold vdS; rw [ms_p1, t2]; rfl
    have ml := cf_m_lt hq
    have vi : ∀ (T : MS) (j : Nat), j < 3 → f_X9_valueIn D b o T (nI (cf_m q)) (nI j) = some (nI (cf_val q j)) := fun T j hj => by rw [m_val (by omega) hj, cf_m_val hq hj]
    have u : ∀ (T : MS) (f : Nat) (x y z : Int32), f_X9_fires_b55 D b o (f + 1) T x y z = if (3 : Int32) ≤ z then f_X9_fires_b83 D b o T x y else (f_X9_valueIn D b o T (T.1 8) z).bind fun x28 => (ms_si T 0 ((6 : Int32) + z) x28).bind fun h29 => (f_X9_fires_b55 D b o f) h29 x y (z + 1) := fun T f x y z => by rw [f_X9_fires_b55]
    obtain ⟨g, hg⟩ : ∃ g, gx_fuel = g + 1 + 1 + 1 + 1 := ⟨199996, by rw [pl_fl]⟩
    obtain ⟨w1, hw1⟩ : ∃ w1, w1 = upd (upd (upd (upd (s.2 0) 5 (nI q.1)) 6 (nI (cf_val q 0))) 7 (nI (cf_val q 1))) 8 (nI (cf_val q 2)) := ⟨_, rfl⟩
    have e55 : f_X9_fires_b55 D b o gx_fuel (mw S (upd (s.2 0) 5 (nI q.1))) (nI e) (nI (vdN F.ts R.iv R.cf e)) 0 = f_X9_fires_b83 D b o (mw S w1) (nI e) (nI (vdN F.ts R.iv R.cf e)) := by
      rw [hg, u, if_neg (by decide), mw_1, S8, show (0 : Int32) = nI 0 from rfl, vi _ 0 (by decide), Option.bind_some, mw_w (x := 6 + nI 0) (k := 6) rfl (by decide), Option.bind_some, u, if_neg (by decide), mw_1, S8, show nI 0 + 1 = nI 1 from rfl, vi _ 1 (by decide), Option.bind_some, mw_w (x := 6 + nI 1) (k := 7) rfl (by decide), Option.bind_some, u, if_neg (by decide), mw_1, S8, show nI 1 + 1 = nI 2 from rfl, vi _ 2 (by decide), Option.bind_some, mw_w (x := 6 + nI 2) (k := 8) rfl (by decide), Option.bind_some, u, if_pos (by decide), hw1]
    have un1 : ∀ i, i ≠ 5 → i ≠ 6 → i ≠ 7 → i ≠ 8 → w1 i = s.2 0 i := fun i h1 h2 h3 h4 => by rw [hw1, pk_un h4, pk_un h3, pk_un h2, pk_un h1]
    obtain ⟨w2, hw2⟩ : ∃ w2, w2 = upd (upd (upd w1 12 (R.ac + 1)) (69 + k) (R.tk k + 1)) (59 + q.1) (R.vi q.1 + 1) := ⟨_, rfl⟩
    have un2 : ∀ i, i ≠ 12 → i ≠ 69 + k → i ≠ 59 + q.1 → w2 i = w1 i := fun i h1 h2 h3 => by rw [hw2, pk_un h3, pk_un h2, pk_un h1]
    have w18 : w2 18 = nI R.tr.length := by rw [un2 _ (by omega) (by omega) (by omega), un1 _ (by decide) (by decide) (by decide) (by decide)]; exact q7
    obtain ⟨w3, m1, m2, m3, m4⟩ := m_traces (D := D) (b := b) (o := o) (s := S) (x := nI e) (y := nI k) w18 ht
    have el : (rnAcc R q e k).tr.length = if R.tr.length < 20 then R.tr.length + 1 else 20 := by
      show (((e, k) :: R.tr).take 20).length = _
      rw [List.length_take, List.length_cons]
      by_cases c : R.tr.length < 20
      · rw [if_pos c]; omega
      · rw [if_neg c]; omega
    refine ⟨mw S w3, ?_, ?_, ?_, fun i hi => ?_, fun i h1 h2 => S1 i h1 h2⟩
    · rw [if_pos (by rw [v0]; rfl), S8, m_state hq, Option.bind_some]
      have s5 : ms_si S 0 5 (nI q.1) = some (mw S (upd (s.2 0) 5 (nI q.1))) := by
        have := mw_w (s := S) (w := s.2 0) (x := 5) (y := nI q.1) (k := 5) rfl (by decide)
        rwa [← S0] at this
      rw [s5, Option.bind_some, e55]
      unfold f_X9_fires_b83
      rw [mw_r (x := 12) (k := 12) rfl (by decide), Option.bind_some, un1 12 (by decide) (by decide) (by decide) (by decide), q4, mw_w (x := 12) (k := 12) rfl (by decide), Option.bind_some, mw_1, S7, show (69 : Int32) + nI k = nI (69 + k) by rw [show (69 : Int32) = nI 69 from rfl, nI_add], mw_r (k := 69 + k) rfl (by omega), Option.bind_some, pk_un (by omega), un1 _ (by omega) (by omega) (by omega) (by omega), q10 k (by omega), mw_w (k := 69 + k) rfl (by omega), Option.bind_some, mw_r (x := 5) (k := 5) rfl (by decide), Option.bind_some, pk_un (by omega), pk_un (by decide), show w1 5 = nI q.1 by rw [hw1, pk_un (by decide), pk_un (by decide), pk_un (by decide), pk_us], show (59 : Int32) + nI q.1 = nI (59 + q.1) by rw [show (59 : Int32) = nI 59 from rfl, nI_add], mw_r (k := 59 + q.1) rfl (by omega), Option.bind_some, pk_un (by omega), pk_un (by omega), un1 _ (by omega) (by omega) (by omega) (by omega), q9 q.1 qs, mw_w (k := 59 + q.1) rfl (by omega), Option.bind_some, mw_1, S7, ← hw2, m1, Option.bind_some]
    · rw [mw_2]
      exact m_df_ext hdf hF (fun i hi h => by rw [m3 i (by omega), un2 _ (by omega) (by omega) (by omega), un1 _ (by omega) (by omega) (by omega) (by omega)])
    · rw [mw_2, rf]
      have un : ∀ i, i < 18 ∨ 59 ≤ i → i ≠ 12 → i ≠ 69 + k → i ≠ 59 + q.1 → i ≠ 5 → i ≠ 6 → i ≠ 7 → i ≠ 8 → w3 i = s.2 0 i := fun i h0 h1 h2 h3 h4 h5 h6 h7 => by rw [m3 i h0, un2 i h1 h2 h3, un1 i h4 h5 h6 h7]
      refine ⟨m_ivs_ext q1 hl (fun i hi => ?_), ?_, fun j hj => ?_, ?_, fun j h1 h2 => ?_, ?_, ?_, fun j hj => ?_, fun j hj => ?_, fun j hj => ?_⟩
      · exact un i (by omega) (by omega) (by omega) (by omega) (by omega) (by omega) (by omega) (by omega)
      · rw [m3 5 (by omega), un2 5 (by omega) (by omega) (by omega), hw1, pk_un (by decide), pk_un (by decide), pk_un (by decide), pk_us]
        rfl
      · rw [m3 _ (by omega), un2 _ (by omega) (by omega) (by omega), hw1]
        show _ = nI (cf_val q j)
        have hc : j = 0 ∨ j = 1 ∨ j = 2 := by omega
        rcases hc with rfl | rfl | rfl
        · rw [pk_un (by decide), pk_un (by decide), pk_us]
        · rw [pk_un (by decide), pk_us]
        · rw [pk_us]
      · rw [m3 12 (by omega), hw2, pk_un (by omega), pk_un (by omega), pk_us]
        rfl
      · rw [un _ (by omega) (by omega) (by omega) (by omega) (by omega) (by omega) (by omega) (by omega)]
        exact q5 j h1 h2
      · rw [un _ (by omega) (by omega) (by omega) (by omega) (by omega) (by omega) (by omega) (by omega)]
        exact q6
      · rw [el]; exact m2
      · rw [el] at hj
        obtain ⟨a1, a2⟩ := m4 j hj
        have j20 : j < 20 := by
          by_cases c : R.tr.length < 20
          · rw [if_pos c] at hj; omega
          · rw [if_neg c] at hj; exact hj
        rw [a1, a2]
        unfold tr_e tr_t
        have eg : (rnAcc R q e k).tr[j]? = ((e, k) :: R.tr)[j]? := by
          show (((e, k) :: R.tr).take 20)[j]? = _
          rw [List.getElem?_take_of_lt j20]
        rw [eg]
        cases j with
        | zero => exact ⟨rfl, rfl⟩
        | succ j =>
          have hj' : j < R.tr.length := by
            by_cases c : R.tr.length < 20
            · rw [if_pos c] at hj; omega
            · omega
          rw [if_neg (Nat.succ_ne_zero j), if_neg (Nat.succ_ne_zero j), List.getElem?_cons_succ, Nat.add_sub_cancel, un2 _ (by omega) (by omega) (by omega), un2 _ (by omega) (by omega) (by omega), un1 _ (by omega) (by omega) (by omega) (by omega), un1 _ (by omega) (by omega) (by omega) (by omega)]
          exact q8 j hj'
      · show w3 (59 + j) = upd R.vi q.1 (R.vi q.1 + 1) j
        rw [m3 _ (by omega), hw2]
        by_cases c : j = q.1
        · rw [c, pk_us, pk_us]
        · rw [pk_un (by omega), pk_un (by omega), pk_un (by omega), un1 _ (by omega) (by omega) (by omega) (by omega), pk_un c]
          exact q9 j hj
      · show w3 (69 + j) = upd R.tk k (R.tk k + 1) j
        rw [m3 _ (by omega), hw2, pk_un (by omega)]
        by_cases c : j = k
        · rw [c, pk_us, pk_us]
        · rw [pk_un (by omega), pk_un (by omega), un1 _ (by omega) (by omega) (by omega) (by omega), pk_un c]
          exact q10 j hj
    · show (if i = 0 then _ else S.2 i) = _
      rw [if_neg hi, S2]
