/-! the history: a deque of at most 8 runs in 17 places -/
set_option maxRecDepth 100000
set_option linter.unusedSimpArgs false
def hx_kp (h h1 : HX) (L : List Nat) : Prop := h1.1 = h.1 ∧ h1.2.1 = h.2.1 ∧ ∀ z, z ∉ L → h1.2.2 z = h.2.2 z
theorem hx_kp.tr {h h1 h2 : HX} {L : List Nat} (a : hx_kp h h1 L) (b : hx_kp h1 h2 L) : hx_kp h h2 L := ⟨b.1.trans a.1, b.2.1.trans a.2.1, fun z hz => (b.2.2 z hz).trans (a.2.2 z hz)⟩
theorem hx_ch.kp {h h1 : HX} {a : Nat} {e : gx_E} {L : List Nat} (c : hx_ch h h1 a e) (m : a ∈ L) : hx_kp h h1 L := ⟨c.1, c.2.1, fun z hz => c.2.2.2 z fun e => hz (e ▸ m)⟩
theorem hx_kp.rf {h : HX} {L : List Nat} : hx_kp h h L := ⟨rfl, rfl, fun _ _ => rfl⟩
theorem hx_sr_e {h : HX} {a t n k : Nat} {f : Nat → Option Nat} {cis : List Nat} {r : Option Nat} (H : h.2.2 a = some (true, .inl (t, n, .inr (.inr (.inr (.inr f)))))) (hk : k < n) (hn : n < 2 ^ 31) (ho : hx_okr h cis r = true) : ∃ h1, hx_sr h a t cis (nI k) r = some h1 ∧ hx_ch h h1 a (.inl (t, n, .inr (.inr (.inr (.inr (va_up f k r)))))) := by
  refine ⟨hx_set h a (.inl (t, n, .inr (.inr (.inr (.inr (va_up f k r)))))), ?_, hx_set_ch⟩
  unfold hx_sr
  rw [H]
  simp only [nI_clamp (show k < 2 ^ 31 by omega)]
  exact if_pos ⟨trivial, nI_pos' (by omega), hk, ho⟩
def dq (h : HX) (hi el : Nat) (as : List Nat) : Prop := hi ≠ el ∧ ∃ hd g, h.2.2 hi = some (true, .inr (3, [.ref el, .int (nI hd), .int (nI ((hd + as.length) % 17))])) ∧ h.2.2 el = some (true, .inl (4, 17, .inr (.inr (.inr (.inr g))))) ∧ hd < 17 ∧ as.length ≤ 8 ∧ ∀ (k a : Nat), as[k]? = some a → g ((hd + k) % 17) = some a
theorem dq_inc {D : gx_D} {h : HX} {k : Nat} (hk : k < 17) : f_J17_inc D h (nI k) (nI 17) = some (nI ((k + 1) % 17)) := by
  unfold f_J17_inc
  rw [nI_1]
  by_cases c : k + 1 < 17
  · rw [if_pos (nI_lt c (by decide)), Nat.mod_eq_of_lt c]
  · rw [if_neg (nI_nlt (a := k + 1) (b := 17) (by omega) (by omega)), show k + 1 = 17 by omega]
    rfl
theorem dq_dec {D : gx_D} {h : HX} {k : Nat} (hk : k < 17) : f_J17_dec D h (nI ((k + 1) % 17)) (nI 17) = some (nI k) := by
  unfold f_J17_dec
  by_cases c : k + 1 < 17
  · rw [Nat.mod_eq_of_lt c, pk_m1, if_pos (nI_pos' (by omega))]
  · rw [show k = 16 by omega, if_neg (by decide)]
    rfl
theorem dq_size {D : gx_D} {h : HX} {hi el : Nat} {as : List Nat} (H : dq h hi el as) : f_J17_size D h hi = some (nI as.length) := by
  obtain ⟨_, hd, g, h1, h2, h3, h4, h5⟩ := H
  unfold f_J17_size f_J17_sub
  simp only [(hx_ob.mk h1).is (show 3 ∈ [3] by decide), (hx_ob.mk h1).gi (show 3 ∈ [3] by decide) (k := 2) rfl, (hx_ob.mk h1).gi (show 3 ∈ [3] by decide) (k := 1) rfl, (hx_ob.mk h1).gr (show 3 ∈ [3] by decide) (k := 0) (r := some el) rfl, (hx_or.mk h2).len, Option.bind_some]
  by_cases c : hd + as.length < 17
  · rw [Nat.mod_eq_of_lt c, pk_sub (by omega), if_pos (nI_pos' (by omega)), Option.bind_some]
    congr 2
    omega
  · have e : (hd + as.length) % 17 = hd + as.length - 17 := by omega
    have h6 := pk_sneg (show hd < 2 ^ 30 by omega) (show (hd + as.length) % 17 < hd by omega)
    rw [if_neg (fun h => by
      rw [Int32.le_iff_toInt_le] at h
      rw [Int32.lt_iff_toInt_lt] at h6
      omega), Option.bind_some]
    refine congrArg some ?_
    have e2 := nI_add ((hd + as.length) % 17) 17
    rw [show (hd + as.length) % 17 + 17 = as.length + hd by omega, ← nI_add] at e2
    generalize nI ((hd + as.length) % 17) = u at *
    generalize nI hd = v at *
    generalize nI 17 = t at *
    generalize nI as.length = y at *
    grind
theorem dq_empty {D : gx_D} {h : HX} {hi el : Nat} {as : List Nat} (H : dq h hi el as) : f_J17_isEmpty D h hi = some (decide (as.length = 0)) := by
  obtain ⟨_, hd, g, h1, h2, h3, h4, h5⟩ := H
  unfold f_J17_isEmpty
  simp only [(hx_ob.mk h1).is (show 3 ∈ [3] by decide), (hx_ob.mk h1).gi (show 3 ∈ [3] by decide) (k := 2) rfl, (hx_ob.mk h1).gi (show 3 ∈ [3] by decide) (k := 1) rfl, Option.bind_some, nI_eq (show hd < 2 ^ 31 by omega) (show (hd + as.length) % 17 < 2 ^ 31 by omega)]
  by_cases c : as.length = 0
  · rw [if_pos (by omega), decide_eq_true c]
  · rw [if_neg (by omega), decide_eq_false c]
theorem dq_add {D : gx_D} {h : HX} {hi el a : Nat} {as : List Nat} {fs : List Value} (H : dq h hi el as) (hl : as.length < 8) (ha : hx_ob h a 11 fs) : ∃ h1, f_J17_addLast D h hi (some a) = some h1 ∧ dq h1 hi el (as ++ [a]) ∧ hx_kp h h1 [hi, el] := by
  obtain ⟨ne, hd, g, h1, h2, h3, h4, h5⟩ := H
  have l17 : (hd + as.length) % 17 < 17 := Nat.mod_lt _ (by decide)
  obtain ⟨g5, e5, c5⟩ := hx_sr_e (cis := [11, 13, 15, 2]) (r := some a) h2 l17 (by decide) (hx_okr_o ha (by decide))
  have hi5 := (c5.2.2.2 hi ne).trans h1
  obtain ⟨g6, e6, c6⟩ := hx_pv_e (cis := [3]) (k := 2) (v := .int (nI (((hd + as.length) % 17 + 1) % 17))) hi5 (by decide) (by simp)
  have elen : hx_len g5 el = some (nI 17) := (hx_or.mk (b := true) (c5.2.2.1)).len
  refine ⟨g6, ?_, ⟨ne, hd, va_up g ((hd + as.length) % 17) (some a), ?_, ?_, h3, ?_, fun k b hk => ?_⟩, (c5.kp (by simp)).tr (c6.kp (by simp))⟩
  · unfold f_J17_addLast gx_on
    simp only [(hx_ob.mk h1).is (show 3 ∈ [3] by decide), (hx_ob.mk h1).gi (show 3 ∈ [3] by decide) (k := 2) rfl, (hx_ob.mk h1).gr (show 3 ∈ [3] by decide) (k := 0) (r := some el) rfl, Option.bind_some, e5, (hx_ob.mk hi5).gi (show 3 ∈ [3] by decide) (k := 1) rfl, (hx_ob.mk hi5).gi (show 3 ∈ [3] by decide) (k := 2) rfl, elen, dq_inc l17, hx_pi, e6]
    rw [if_neg (nI_ne (by omega) (by omega) (by omega))]
  · rw [c6.2.2.1]
    simp only [List.set_cons_succ, List.set_cons_zero, List.length_append, List.length_singleton]
    rw [show ((hd + as.length) % 17 + 1) % 17 = (hd + (as.length + 1)) % 17 by omega]
  · rw [c6.2.2.2 el (fun e => ne e.symm), c5.2.2.1]
  · rw [List.length_append, List.length_singleton]
    omega
  · by_cases c : k < as.length
    · rw [List.getElem?_append_left c] at hk
      rw [va_up_ne _ _ (by omega)]
      exact h5 k b hk
    · rw [List.getElem?_append_right (by omega)] at hk
      obtain ⟨c2, c3⟩ := List.getElem?_eq_some_iff.1 hk
      simp only [List.length_singleton] at c2
      have c4 : k = as.length := by omega
      subst c4
      simp only [Nat.sub_self, List.getElem_singleton] at c3
      rw [va_up_self, c3]
theorem dq_first {D : gx_D} {h : HX} {hi el a : Nat} {as : List Nat} (H : dq h hi el (a :: as)) : ∃ h1, f_J17_removeFirst D h hi = some (some a, h1) ∧ dq h1 hi el as ∧ hx_kp h h1 [hi, el] := by
  obtain ⟨ne, hd, g, h1, h2, h3, h4, h5⟩ := H
  simp only [List.length_cons] at h1 h4
  have g0 := h5 0 a rfl
  rw [Nat.add_zero, Nat.mod_eq_of_lt h3] at g0
  obtain ⟨g5, e5, c5⟩ := hx_sr_e (cis := [11, 13, 15, 2]) (r := none) h2 h3 (by decide) hx_okr_n
  have hi5 := (c5.2.2.2 hi ne).trans h1
  obtain ⟨g6, e6, c6⟩ := hx_pv_e (cis := [3]) (k := 1) (v := .int (nI ((hd + 1) % 17))) hi5 (by decide) (by simp)
  have elen : hx_len g5 el = some (nI 17) := (hx_or.mk (b := true) (c5.2.2.1)).len
  refine ⟨g6, ?_, ⟨ne, (hd + 1) % 17, va_up g hd none, ?_, ?_, Nat.mod_lt _ (by decide), by omega, fun k b hk => ?_⟩, (c5.kp (by simp)).tr (c6.kp (by simp))⟩
  · unfold f_J17_removeFirst f_J17_pollFirst gx_on f_J17_elementAt
    simp only [(hx_ob.mk h1).is (show 3 ∈ [3] by decide), (hx_ob.mk h1).gi (show 3 ∈ [3] by decide) (k := 1) rfl, (hx_ob.mk h1).gr (show 3 ∈ [3] by decide) (k := 0) (r := some el) rfl, Option.bind_some, gx_b2, (hx_or.mk h2).ar (by decide) h3 (by decide), g0, e5, elen, dq_inc h3, hx_pi, e6]
  · rw [c6.2.2.1]
    simp only [List.set_cons_succ, List.set_cons_zero]
    rw [show (hd + (as.length + 1)) % 17 = ((hd + 1) % 17 + as.length) % 17 by omega]
  · rw [c6.2.2.2 el (fun e => ne e.symm), c5.2.2.1]
  · have hl := (List.getElem?_eq_some_iff.1 hk).1
    rw [show ((hd + 1) % 17 + k) % 17 = (hd + (k + 1)) % 17 by omega, va_up_ne _ _ (by omega)]
    exact h5 (k + 1) b hk
theorem dq_last {D : gx_D} {h : HX} {hi el a : Nat} {as : List Nat} (H : dq h hi el (as ++ [a])) : ∃ h1, f_J17_removeLast D h hi = some (some a, h1) ∧ dq h1 hi el as ∧ hx_kp h h1 [hi, el] := by
  obtain ⟨ne, hd, g, h1, h2, h3, h4, h5⟩ := H
  simp only [List.length_append, List.length_singleton] at h1 h4
  have l17 : (hd + as.length) % 17 < 17 := Nat.mod_lt _ (by decide)
  have g0 := h5 as.length a (by rw [List.getElem?_append_right (Nat.le_refl _), Nat.sub_self]; rfl)
  obtain ⟨g5, e5, c5⟩ := hx_pv_e (cis := [3]) (k := 2) (v := .int (nI ((hd + as.length) % 17))) h1 (by decide) (by simp)
  have el5 := (c5.2.2.2 el (fun e => ne e.symm)).trans h2
  obtain ⟨g6, e6, c6⟩ := hx_sr_e (cis := [11, 13, 15, 2]) (r := none) el5 l17 (by decide) hx_okr_n
  have ed := dq_dec (D := D) (h := h) l17
  rw [show ((hd + as.length) % 17 + 1) % 17 = (hd + (as.length + 1)) % 17 by omega] at ed
  refine ⟨g6, ?_, ⟨ne, hd, va_up g ((hd + as.length) % 17) none, ?_, ?_, h3, by omega, fun k b hk => ?_⟩, (c5.kp (by simp)).tr (c6.kp (by simp))⟩
  · have q1 := (hx_ob.mk h1).is (show 3 ∈ [3] by decide)
    have q2 := (hx_ob.mk h1).gi (show 3 ∈ [3] by decide) (k := 2) (x := nI ((hd + (as.length + 1)) % 17)) rfl
    have q3 := (hx_ob.mk h1).gr (show 3 ∈ [3] by decide) (k := 0) (r := some el) rfl
    have q4 := (hx_or.mk h2).len
    have q5 := (hx_or.mk h2).ar (by decide) l17 (by decide)
    rw [g0] at q5
    generalize nI ((hd + (as.length + 1)) % 17) = u at q2 ed
    generalize nI ((hd + as.length) % 17) = v at q5 ed e5 e6
    have e5' : hx_pi h hi [3] 2 v = some g5 := e5
    unfold f_J17_removeLast f_J17_pollLast f_J17_elementAt
    rw [q1, Option.bind_some, Option.bind_some, q3, Option.bind_some, q2, Option.bind_some, Option.bind_some, q4, Option.bind_some, ed, Option.bind_some, Option.bind_some, q5, Option.bind_some, Option.bind_some]
    show gx_b2 ((hx_pi h hi [3] 2 v).bind fun h10 => (hx_sr h10 el 4 [11, 13, 15, 2] v none).bind fun h11 => some (some a, h11)) _ = _
    rw [e5', Option.bind_some, e6, Option.bind_some]
    rfl
  · rw [c6.2.2.2 hi ne, c5.2.2.1]
    simp only [List.set_cons_succ, List.set_cons_zero]
  · rw [c6.2.2.1]
  · have hl := (List.getElem?_eq_some_iff.1 hk).1
    rw [va_up_ne _ _ (by omega)]
    exact h5 k b (by rw [List.getElem?_append_left hl]; exact hk)
theorem dq_clear {D : gx_D} {h : HX} {hi el : Nat} {as : List Nat} (H : dq h hi el as) : ∃ h1, f_J17_clear D h hi = some h1 ∧ dq h1 hi el [] ∧ hx_kp h h1 [hi, el] := by
  obtain ⟨ne, hd, g, h1, h2, h3, h4, h5⟩ := H
  -- from i up to e, all places are cleared
  have loop : ∀ (e : Nat) (g0 : Nat → Option Nat) (h0 : HX) (i m : Nat), i + m = e → e ≤ 17 → h0.2.2 el = some (true, .inl (4, 17, .inr (.inr (.inr (.inr g0))))) → ∀ f t, m < f → ∃ h1 g1 f1, f_J17_circularClear_b12 D f h0 (some el) (nI i) t (nI e) = f_J17_circularClear_b12 D (f1 + 1) h1 (some el) (nI e) t (nI e) ∧ f1 + 1 + m = f ∧ h1.2.2 el = some (true, .inl (4, 17, .inr (.inr (.inr (.inr g1))))) ∧ hx_kp h0 h1 [el] := by
    intro e g0 h0 i m
    induction m generalizing g0 h0 i with
    | zero =>
      intro hi he H0 f t hf
      refine ⟨h0, g0, f - 1, ?_, by omega, H0, hx_kp.rf⟩
      rw [show f - 1 + 1 = f by omega, show i = e by omega]
    | succ m ih =>
      intro hi he H0 f t hf
      obtain ⟨f', rfl⟩ : ∃ f', f = f' + 1 := ⟨f - 1, by omega⟩
      obtain ⟨g5, e5, c5⟩ := hx_sr_e (cis := [11, 13, 15, 2]) (r := none) H0 (show i < 17 by omega) (by decide) hx_okr_n
      obtain ⟨z1, z2, z3, z4, z5, z6, z7⟩ := ih _ g5 (i + 1) (by omega) he c5.2.2.1 f' t (by omega)
      refine ⟨z1, z2, z3, ?_, by omega, z6, (c5.kp (by simp)).tr z7⟩
      rw [← z4]
      simp only [f_J17_circularClear_b12, if_neg (nI_ge (show i < e by omega) (show e < 2 ^ 31 by omega)), Option.bind_some, e5, gx_c1]
  have fin : ∀ (h0 h0' : HX) (g0 : Nat → Option Nat), h0.2.2 hi = some (true, .inr (3, [.ref el, .int (nI hd), .int (nI ((hd + as.length) % 17))])) → h0.2.2 el = some (true, .inl (4, 17, .inr (.inr (.inr (.inr g0))))) → hx_kp h h0 [el] → f_J17_circularClear D h (some el) (nI hd) (nI ((hd + as.length) % 17)) = some h0 → ∃ h1, f_J17_clear D h hi = some h1 ∧ dq h1 hi el [] ∧ hx_kp h h1 [hi, el] := by
    intro h0 _ g0 a1 a2 a3 a4
    obtain ⟨g5, e5, c5⟩ := hx_pv_e (cis := [3]) (k := 2) (v := .int 0) a1 (by decide) (by simp)
    obtain ⟨g6, e6, c6⟩ := hx_pv_e (cis := [3]) (k := 1) (v := .int 0) c5.2.2.1 (by decide) (by simp)
    refine ⟨g6, ?_, ⟨ne, 0, g0, ?_, ?_, by decide, by simp, fun k a hk => by simp at hk⟩, ⟨?_, ?_, fun z hz => ?_⟩⟩
    · unfold f_J17_clear
      simp only [(hx_ob.mk h1).is (show 3 ∈ [3] by decide), (hx_ob.mk h1).gi (show 3 ∈ [3] by decide) (k := 2) rfl, (hx_ob.mk h1).gi (show 3 ∈ [3] by decide) (k := 1) rfl, (hx_ob.mk h1).gr (show 3 ∈ [3] by decide) (k := 0) (r := some el) rfl, Option.bind_some, a4, hx_pi, e5, e6]
    · rw [c6.2.2.1]
      simp [nI_0]
    · rw [c6.2.2.2 el (fun e => ne e.symm), c5.2.2.2 el (fun e => ne e.symm), a2]
    · rw [c6.1, c5.1, a3.1]
    · rw [c6.2.1, c5.2.1, a3.2.1]
    · simp only [List.mem_cons, List.not_mem_nil, or_false, not_or] at hz
      rw [c6.2.2.2 z hz.1, c5.2.2.2 z hz.1, a3.2.2 z (by simpa using hz.2)]
  by_cases c : hd + as.length < 17
  · rw [Nat.mod_eq_of_lt c] at fin h1
    obtain ⟨z1, z2, z3, z4, z5, z6, z7⟩ := loop (hd + as.length) g h hd as.length rfl (by omega) h2 gx_fuel (nI (hd + as.length)) (by rw [pl_fl]; omega)
    refine fin z1 h z2 ((z7.2.2 hi (by simpa using ne)).trans h1) z6 z7 ?_
    unfold f_J17_circularClear f_J17_circularClear_b11
    rw [if_neg (nI_nlt (by omega) (by omega)), z4]
    simp only [f_J17_circularClear_b12, if_pos (nI_le (Nat.le_refl (hd + as.length)) (show hd + as.length < 2 ^ 31 by omega)), if_true]
  · have e : (hd + as.length) % 17 = hd + as.length - 17 := by omega
    rw [e] at fin h1
    obtain ⟨z1, z2, z3, z4, z5, z6, z7⟩ := loop 17 g h hd (17 - hd) (by omega) (by omega) h2 gx_fuel (nI (hd + as.length - 17)) (by rw [pl_fl]; omega)
    obtain ⟨y1, y2, y3, y4, y5, y6, y7⟩ := loop (hd + as.length - 17) z2 z1 0 (hd + as.length - 17) (by omega) (by omega) z6 z3 (nI (hd + as.length - 17)) (by rw [pl_fl] at z5; omega)
    have k := z7.tr y7
    refine fin y1 h y2 ((k.2.2 hi (by simpa using ne)).trans h1) y6 k ?_
    unfold f_J17_circularClear f_J17_circularClear_b11
    rw [if_pos (nI_lt (by omega) (by omega)), Option.bind_some, (hx_or.mk h2).len, Option.bind_some, z4]
    rw [nI_0] at y4
    simp only [f_J17_circularClear_b12, if_pos (nI_le (Nat.le_refl 17) (show 17 < 2 ^ 31 by omega)), if_neg (nI_ne (show 17 < 2 ^ 31 by decide) (show hd + as.length - 17 < 2 ^ 31 by omega) (by omega)), y4, if_pos (nI_le (Nat.le_refl (hd + as.length - 17)) (show hd + as.length - 17 < 2 ^ 31 by omega)), if_true]
