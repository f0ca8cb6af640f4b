/-! coverage, means -/
set_option maxRecDepth 100000
set_option linter.unusedSimpArgs false
theorem fl_ok : ∀ c, c < 25 → ∀ n, n < 24 → (FP.fdiv (FP.i2f (nI c)) (FP.i2f (nI (n + 1)))) &&& 0x7fffffff ≤ 0x7f800000 ∧ (FP.f2d (FP.fdiv (FP.i2f (nI c)) (FP.i2f (nI (n + 1))))) &&& 0x7fffffffffffffff ≤ 0x7ff0000000000000 ∧ (Op.cmpValue (FP.dcmp (FP.f2d (FP.fdiv (FP.i2f (nI c)) (FP.i2f (nI (n + 1))))) (FP.f2d (FP.fdiv (FP.i2f (nI c)) (FP.i2f (nI (n + 1)))))) .l) = 0 := by decide +kernel
theorem db_ok : ∀ c, c < 28 → ∀ n, n < 3 → (FP.ddiv (FP.i2d (nI c)) (FP.i2d (nI (n + 1)))) &&& 0x7fffffffffffffff ≤ 0x7ff0000000000000 ∧ (Op.cmpValue (FP.dcmp ((FP.ddiv (FP.i2d (nI c)) (FP.i2d (nI (n + 1))))) ((FP.ddiv (FP.i2d (nI c)) (FP.i2d (nI (n + 1)))))) .l) = 0 := by decide +kernel
theorem f1_ok : (FP.f2d FP.fconst1) &&& 0x7fffffffffffffff ≤ 0x7ff0000000000000 ∧ (Op.cmpValue (FP.dcmp (FP.f2d FP.fconst1) (FP.f2d FP.fconst1)) .l) = 0 := by decide +kernel
def f_fine (x : UInt32) : Prop := (FP.f2d x) &&& 0x7fffffffffffffff ≤ 0x7ff0000000000000 ∧ (Op.cmpValue (FP.dcmp (FP.f2d x) (FP.f2d x)) .l) = 0
def d_fine (x : UInt64) : Prop := x &&& 0x7fffffffffffffff ≤ 0x7ff0000000000000 ∧ (Op.cmpValue (FP.dcmp x x) .l) = 0
def fq (c n : Nat) : UInt32 := FP.fdiv (FP.i2f (nI c)) (FP.i2f (nI n))
def dq_ (c n : Nat) : UInt64 := FP.ddiv (FP.i2d (nI c)) (FP.i2d (nI n))
theorem fq_ok {c n : Nat} (hc : c ≤ n) (h1 : 1 ≤ n) (hn : n ≤ 24) : (FP.fdiv (FP.i2f (nI c)) (FP.i2f (nI n))) &&& 0x7fffffff ≤ 0x7f800000 ∧ f_fine (fq c n) := by
  obtain ⟨m, rfl⟩ : ∃ m, n = m + 1 := ⟨n - 1, by omega⟩
  exact fl_ok c (by omega) m (by omega)
theorem dq_ok {c n : Nat} (hc : c ≤ 27) (h1 : 1 ≤ n) (hn : n ≤ 3) : (FP.ddiv (FP.i2d (nI c)) (FP.i2d (nI n))) &&& 0x7fffffffffffffff ≤ 0x7ff0000000000000 ∧ d_fine (dq_ c n) := by
  obtain ⟨m, rfl⟩ : ∃ m, n = m + 1 := ⟨n - 1, by omega⟩
  exact ⟨(db_ok c (by omega) m (by omega)).1, db_ok c (by omega) m (by omega)⟩
def cnP (g : Nat → Int32) : Nat → Nat
  | 0 => 0
  | n + 1 => if g n ≤ 0 then cnP g n else cnP g n + 1
theorem cnP_le {g : Nat → Int32} : ∀ n, cnP g n ≤ n
  | 0 => Nat.le_refl _
  | n + 1 => by
    have := cnP_le (g := g) n
    unfold cnP
    split <;> omega
theorem cnP_x {g : Nat → Int32} {n : Nat} (h : ∀ k, n ≤ k → g k = 0) : ∀ m, cnP g (n + m) = cnP g n
  | 0 => rfl
  | m + 1 => by
    show (if g (n + m) ≤ 0 then cnP g (n + m) else cnP g (n + m) + 1) = _
    rw [h (n + m) (by omega), if_pos (by decide), cnP_x h m]
theorem cn_loop {ρ : Type} {F : Nat → Int32 → Int32 → ρ} {g : Nat → Int32} (n : Nat) (hn : n < 1000) (step : ∀ f i a, i < n → F (f + 1) (nI i) (nI a) = F f (nI (i + 1)) (nI (if g i ≤ 0 then a else a + 1))) : ∃ f, F gx_fuel 0 0 = F (f + 1) (nI n) (nI (cnP g n)) := by
  obtain ⟨z, k1, k2⟩ := gx_lq (F := fun f (z : Int32 × Int32) => F f z.1 z.2) (I := fun m z => z = (nI m, nI (cnP g m))) n (by
    intro f m z hm hI
    subst hI
    refine ⟨_, rfl, ?_⟩
    show F (f + 1) (nI m) (nI (cnP g m)) = F f (nI (m + 1)) (nI (if g m ≤ 0 then cnP g m else cnP g m + 1))
    exact step f m _ hm) n 0 gx_fuel (0, 0) (by omega) (by rw [pl_fl]; omega) rfl
  subst k1
  exact ⟨gx_fuel - n - 1, by rw [show gx_fuel - n - 1 + 1 = gx_fuel - n by rw [pl_fl]; omega]; exact k2⟩
def smN (q : CF) : Nat → Nat
  | 0 => 0
  | n + 1 => smN q n + cf_val q n
theorem smN_le {q : CF} (h : cf_ok q) : ∀ n, smN q n ≤ 9 * n
  | 0 => Nat.le_refl _
  | n + 1 => by
    have := smN_le h n
    have := cf_val_lt h n
    unfold smN
    omega
theorem sm_loop {ρ : Type} {F : Nat → Int32 → Int32 → ρ} {q : CF} (n : Nat) (hn : n < 1000) (step : ∀ f i a, i < n → F (f + 1) (nI i) (nI a) = F f (nI (i + 1)) (nI (a + cf_val q i))) : ∃ f, F gx_fuel 0 0 = F (f + 1) (nI n) (nI (smN q n)) := by
  obtain ⟨z, k1, k2⟩ := gx_lq (F := fun f (z : Int32 × Int32) => F f z.1 z.2) (I := fun m z => z = (nI m, nI (smN q m))) n (by
    intro f m z hm hI
    subst hI
    exact ⟨_, rfl, step f m _ hm⟩) n 0 gx_fuel (0, 0) (by omega) (by rw [pl_fl]; omega) rfl
  subst k1
  exact ⟨gx_fuel - n - 1, by rw [show gx_fuel - n - 1 + 1 = gx_fuel - n by rw [pl_fl]; omega]; exact k2⟩
theorem ite_nI {c : Prop} [Decidable c] {a b : Nat} : nI (if c then a else b) = if c then nI a else nI b := by split <;> rfl
theorem g_stateCoverage {D : gx_D} {h : HX} {x : Nat} {F : DF} {R : RN} (H : hx_vm D h x F R) (hF : df_ok F) (hR : rn_ok F R) : f_X1_stateCoverage D h x = some (fq (cnP R.vi F.sn.length) F.sn.length) := by
  have hi := vm_is H
  obtain ⟨d, r, sl, el, vl, tl, il, a1, a2, a3, a4, a5, x5, x6, d0, d1, d2, d3, d4, d5, l1, l2, l3, l4, r0, r1, r2, r3, r4, r5, r6, r7, r8, r9, l5, l6, l7, l8, l9⟩ := vm_rd H
  have cap := l1.cap
  have h1 := hF.1.1
  unfold f_X1_stateCoverage
  simp only [hi, Option.bind_some, x6, r3, l7.len]
  obtain ⟨f, e⟩ := cn_loop (F := fun f i acc => f_X1_stateCoverage_b16 D f h x acc (some a2) (nI 10) i) (g := R.vi) 10 (by decide) (fun f i a hi => by
    simp only [f_X1_stateCoverage_b16, f_X1_stateCoverage_b36, if_neg (nI_ge hi (show 10 < 2 ^ 31 by decide)), Option.bind_some, l7.ai hi (by decide), gx_c1]
    by_cases c : R.vi i ≤ 0
    · rw [if_pos c, if_pos c]
    · rw [if_neg c, if_neg c])
  rw [e]
  have e10 : cnP R.vi 10 = cnP R.vi F.sn.length := by
    have := cnP_x (g := R.vi) (n := F.sn.length) hR.2.2.2.2.2.1 (10 - F.sn.length)
    rw [show F.sn.length + (10 - F.sn.length) = 10 by omega] at this
    exact this
  simp only [f_X1_stateCoverage_b16, f_X1_stateCoverage_b42, if_pos (nI_le (Nat.le_refl 10) (show 10 < 2 ^ 31 by decide)), Option.bind_some, x5, d1, l1.len, e10]
  rw [if_pos (fq_ok (cnP_le _) h1 (by omega)).1]
  rfl
theorem g_transitionCoverage {D : gx_D} {h : HX} {x : Nat} {F : DF} {R : RN} (H : hx_vm D h x F R) (hF : df_ok F) (hR : rn_ok F R) : f_X1_transitionCoverage D h x = some (if F.ts.length = 0 then FP.fconst1 else fq (cnP R.tk F.ts.length) F.ts.length) := by
  have hi := vm_is H
  obtain ⟨d, r, sl, el, vl, tl, il, a1, a2, a3, a4, a5, x5, x6, d0, d1, d2, d3, d4, d5, l1, l2, l3, l4, r0, r1, r2, r3, r4, r5, r6, r7, r8, r9, l5, l6, l7, l8, l9⟩ := vm_rd H
  have cap := l4.cap
  unfold f_X1_transitionCoverage
  simp only [hi, Option.bind_some, x6, r2, l6.len]
  obtain ⟨f, e⟩ := cn_loop (F := fun f i acc => f_X1_transitionCoverage_b16 D f h x acc (some a1) (nI 24) i) (g := R.tk) 24 (by decide) (fun f i a hi => by
    simp only [f_X1_transitionCoverage_b16, f_X1_transitionCoverage_b36, if_neg (nI_ge hi (show 24 < 2 ^ 31 by decide)), Option.bind_some, l6.ai hi (by decide), gx_c1]
    by_cases c : R.tk i ≤ 0
    · rw [if_pos c, if_pos c]
    · rw [if_neg c, if_neg c])
  rw [e]
  have e10 : cnP R.tk 24 = cnP R.tk F.ts.length := by
    have := cnP_x (g := R.tk) (n := F.ts.length) hR.2.2.2.2.1 (24 - F.ts.length)
    rw [show F.ts.length + (24 - F.ts.length) = 24 by omega] at this
    exact this
  simp only [f_X1_transitionCoverage_b16, f_X1_transitionCoverage_b42, if_pos (nI_le (Nat.le_refl 24) (show 24 < 2 ^ 31 by decide)), Option.bind_some, x5, d4, l4.len, e10]
  by_cases c : F.ts.length = 0
  · rw [c, if_pos rfl]
    exact if_pos rfl
  · rw [if_neg (nI_ne0 (by omega) (by omega)), if_neg c, if_pos (fq_ok (cnP_le _) (by omega) cap).1]
    rfl
theorem g_meanValue {D : gx_D} {h : HX} {x : Nat} {F : DF} {R : RN} (H : hx_vm D h x F R) (hF : df_ok F) (hR : rn_ok F R) : f_X1_meanValue D h x = some (dq_ (smN R.cf F.vn.length) F.vn.length) := by
  have hi := vm_is H
  obtain ⟨d, r, sl, el, vl, tl, il, a1, a2, a3, a4, a5, x5, x6, d0, d1, d2, d3, d4, d5, l1, l2, l3, l4, r0, r1, r2, r3, r4, r5, r6, r7, r8, r9, l5, l6, l7, l8, l9⟩ := vm_rd H
  have cap := l3.cap
  have h1 := hF.2.2.1.1
  have hq := hR.2.2.1
  have hlt := cf_c_lt hq
  have ev : f_X4_valuation D h r = some (nI (cf_c R.cf % 1000)) := by
    unfold f_X4_valuation
    rw [r0, Option.bind_some, r7, Option.bind_some, show nI (cf_c R.cf) / 1000 * 1000 = nI (cf_c R.cf / 1000 * 1000) by rw [show (1000 : Int32) = nI 1000 from rfl, pk_div (by omega) (by decide) (by decide), pk_mul], pk_sub (by omega)]
    congr 2
    omega
  unfold f_X1_meanValue
  rw [hi, Option.bind_some]
  obtain ⟨f, e⟩ := sm_loop (F := fun f i acc => f_X1_meanValue_b4 D f h x acc i) (q := R.cf) F.vn.length (by omega) (fun f i a hi => by
    have e1 : f_X1_valueIn D h (nI (cf_c R.cf % 1000)) (nI i) = some (nI (cf_val R.cf i)) := by
      rw [f_val, cval_nI (by omega) (show i < 3 by omega), cf_c_val hq (show i < 3 by omega)]
    simp only [f_X1_meanValue_b4, x5, x6, d3, l3.len, if_neg (nI_ge hi (show F.vn.length < 2 ^ 31 by omega)), Option.bind_some, ev, e1, gx_c1, nI_add])
  rw [e]
  simp only [f_X1_meanValue_b4, f_X1_meanValue_b40, x5, d3, l3.len, if_pos (nI_le (Nat.le_refl F.vn.length) (show F.vn.length < 2 ^ 31 by omega)), Option.bind_some]
  have := smN_le hq F.vn.length
  rw [if_pos (dq_ok (by omega) h1 cap).1]
  rfl
theorem h_coverage {D : gx_D} {b : HX} {o : Nat} {s : MS} {F : DF} {R : RN} (H : mM s F R) : f_X9_stateCoverage D b o s = some (fq (cnP R.vi F.sn.length) F.sn.length, ms_p s 6 0) ∧ f_X9_transitionCoverage D b o s = some (if F.ts.length = 0 then FP.fconst1 else fq (cnP R.tk F.ts.length) F.ts.length, ms_p s 6 0) ∧ f_X9_meanValue D b o s = some (dq_ (smN R.cf F.vn.length) F.vn.length, ms_p s 6 0) := by
  obtain ⟨hdf, hrn, hF, hR⟩ := id H
  obtain ⟨d0, d1, d2, ⟨d3, _⟩, _⟩ := hdf
  obtain ⟨⟨f1, f1'⟩, _, ⟨f3, f3'⟩, f4, _⟩ := hF
  have q9 := hrn.2.2.2.2.2.2.2.2.1
  have q10 := hrn.2.2.2.2.2.2.2.2.2
  have q3 := hrn.2.2.1
  have hq := hR.2.2.1
  have w0 : ms_ai (ms_p s 6 0) 0 0 = some (nI F.sn.length) := by rw [ms_w (x := 0) (k := 0) rfl (by decide)]; exact congrArg some d0
  have w2 : ms_ai (ms_p s 6 0) 0 2 = some (nI F.vn.length) := by rw [ms_w (x := 2) (k := 2) rfl (by decide)]; exact congrArg some d2
  have w3 : ms_ai (ms_p s 6 0) 0 3 = some (nI F.ts.length) := by rw [ms_w (x := 3) (k := 3) rfl (by decide)]; exact congrArg some d3
  have r59 : ∀ k, k < 10 → ms_ai (ms_p s 6 0) 0 ((59 : Int32) + nI k) = some (R.vi k) := fun k hk => by
    rw [show (59 : Int32) + nI k = nI (59 + k) by rw [show (59 : Int32) = nI 59 from rfl, nI_add], ms_w (k := 59 + k) rfl (by omega)]
    exact congrArg some (q9 k hk)
  have r69 : ∀ k, k < 24 → ms_ai (ms_p s 6 0) 0 ((69 : Int32) + nI k) = some (R.tk k) := fun k hk => by
    rw [show (69 : Int32) + nI k = nI (69 + k) by rw [show (69 : Int32) = nI 69 from rfl, nI_add], ms_w (k := 69 + k) rfl (by omega)]
    exact congrArg some (q10 k hk)
  have r6 : ∀ k, k < 3 → ms_ai (ms_p s 6 0) 0 ((6 : Int32) + nI k) = some (nI (cf_val R.cf k)) := fun k hk => by
    rw [show (6 : Int32) + nI k = nI (6 + k) by rw [show (6 : Int32) = nI 6 from rfl, nI_add], ms_w (k := 6 + k) rfl (by omega)]
    exact congrArg some (q3 k hk)
  have one : ∀ z, f_X9_one D b o (ms_p s 6 0) z = some (if z = true then 1 else 0) := fun z => by cases z <;> rfl
  have cn : ∀ (a m : Int32) (n c : Nat) (g : Nat → Int32), n ≤ c → c < 1000 → ms_ai (ms_p s 6 0) 0 m = some (nI n) → (∀ k, k < c → ms_ai (ms_p s 6 0) 0 (a + nI k) = some (g k)) → f_X9_counted D b o (ms_p s 6 0) a m = some (nI (cnP g n)) := fun a m n c g hn hc h1 h2 => by
    unfold f_X9_counted
    obtain ⟨f, e⟩ := cn_loop (F := fun f i acc => f_X9_counted_b5 D b o f (ms_p s 6 0) a m acc i) (g := g) n (by omega) (fun f i t hi => by
      simp only [f_X9_counted_b5, f_X9_counted_b34, h1, h2 i (by omega), one, if_neg (nI_ge hi (show n < 2 ^ 31 by omega)), Option.bind_some, gx_c1]
      by_cases c : g i ≤ 0
      · rw [if_pos c, if_pos c]
        simp
      · rw [if_neg c, if_neg c]
        simp [gx_c1])
    rw [e]
    simp only [f_X9_counted_b5, h1, Option.bind_some, if_pos (nI_le (Nat.le_refl n) (show n < 2 ^ 31 by omega))]
  have hsm := smN_le hq F.vn.length
  refine ⟨?_, ?_, ?_⟩
  · unfold f_X9_stateCoverage ms_pf
    simp only [Option.bind_some, cn 59 0 F.sn.length 10 R.vi (by omega) (by decide) w0 r59, w0]
    rw [if_pos (fq_ok (cnP_le _) f1 (by omega)).1]
    rfl
  · unfold f_X9_transitionCoverage ms_pf
    simp only [Option.bind_some, cn 69 3 F.ts.length 24 R.tk (by omega) (by decide) w3 r69, w3]
    by_cases c : F.ts.length = 0
    · rw [c, if_pos rfl]
      exact if_pos rfl
    · rw [if_neg (nI_ne0 (by omega) (by omega)), if_neg c, if_pos (fq_ok (cnP_le _) (by omega) f4).1]
      rfl
  · unfold f_X9_meanValue ms_pf f_X9_sumOf
    rw [Option.bind_some]
    obtain ⟨f, e⟩ := sm_loop (F := fun f i acc => f_X9_sumOf_b5 D b o f (ms_p s 6 0) 6 2 acc i) (q := R.cf) F.vn.length (by omega) (fun f i t hi => by
      simp only [f_X9_sumOf_b5, w2, r6 i (by omega), if_neg (nI_ge hi (show F.vn.length < 2 ^ 31 by omega)), Option.bind_some, gx_c1, nI_add])
    rw [e]
    simp only [f_X9_sumOf_b5, w2, Option.bind_some, if_pos (nI_le (Nat.le_refl F.vn.length) (show F.vn.length < 2 ^ 31 by omega))]
    rw [if_pos (dq_ok (by omega) f3 f3').1]
    rfl
