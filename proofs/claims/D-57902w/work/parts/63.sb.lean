/-! the StringBuilder -/
set_option maxRecDepth 100000
set_option linter.unusedSimpArgs false
theorem b128 : ∀ n, n < 128 → (nI n).toInt8.toInt32 = nI n := by decide
theorem shl0 {n : Nat} (h : n < 2 ^ 31) : nI n <<< ((0 : Int32) &&& 31) = nI n := by
  rw [show ((0 : Int32) &&& 31) = 0 by decide, pk_shlN 0 0 (by decide) (by omega), Nat.pow_zero, Nat.mul_one]
theorem b128f {c : Nat} (h : c < 128) : fits .byte (.int (nI c)) = true := by
  rw [← b128 c h]
  exact pk_fb _
def sbx (h h1 : HX) (ou ov ov1 : Nat) : Prop := h.1 ≤ h1.1 ∧ hx_wf h1 ∧ (ov1 = ov ∨ h.1 ≤ ov1) ∧ (∀ z, z < h.1 → z ≠ ou → z ≠ ov → h1.2.2 z = h.2.2 z) ∧ h1.1 ≤ h.1 + 1 ∧ h.2.1 ≤ h1.2.1 ∧ h1.2.1 ≤ h.2.1 + 1000
theorem sb_ne {h : HX} {ou ov cap : Nat} {cs : List Nat} (H : hx_sb8 h ou ov cap cs) : ou ≠ ov := fun e => by
  obtain ⟨ml, fo, h1, h2, _⟩ := H
  rw [e, h2] at h1
  cases h1
theorem sb_lt {h : HX} {ou ov cap : Nat} {cs : List Nat} (w : hx_wf h) (H : hx_sb8 h ou ov cap cs) : ou < h.1 ∧ ov < h.1 := by
  obtain ⟨ml, fo, h1, h2, _⟩ := H
  exact ⟨w.lt h1, w.lt h2⟩
theorem sb_len {D : gx_D} {h : HX} {ou ov cap : Nat} {cs : List Nat} (H : hx_sb8 h ou ov cap cs) : f_J8_length D h ou = some (nI cs.length) := by
  obtain ⟨ml, fo, h1, h2, _⟩ := H
  unfold f_J8_length f_J7_length
  simp only [(hx_ob.mk h1).is (show 1 ∈ [1] by decide), (hx_ob.mk h1).gi (show 1 ∈ [1] by decide) (k := 3) rfl, Option.bind_some]
theorem sb_ens0 {D : gx_D} {h : HX} {ou ov cap m : Nat} {cs : List Nat} (H : hx_sb8 h ou ov cap cs) (hm : m ≤ cap) : f_J7_ensureCapacityInternal D h ou (nI m) = some h := by
  obtain ⟨ml, fo, h1, h2, h3, h4, _⟩ := H
  unfold f_J7_ensureCapacityInternal
  simp only [(hx_ob.mk h1).is (show 1 ∈ [1] by decide), (hx_ob.mk h1).gr (show 1 ∈ [1] by decide) (k := 0) (r := some ov) rfl, (hx_ob.mk h1).gi (show 1 ∈ [1] by decide) (k := 1) rfl, (hx_oi.mk h2).len, Option.bind_some, shr0 (show cap < 2 ^ 31 by omega)]
  rw [if_pos]
  rcases Nat.lt_or_ge m cap with c | c
  · have := pk_sneg (show cap < 2 ^ 30 by omega) c
    rw [Int32.lt_iff_toInt_lt] at this
    rw [Int32.le_iff_toInt_le]
    omega
  · rw [show m = cap by omega, Int32.sub_self]
    decide
theorem sb_ens {D : gx_D} {h : HX} {ou ov cap m : Nat} {cs : List Nat} (w : hx_wf h) (H : hx_sb8 h ou ov cap cs) (hm : m ≤ 400) : ∃ h1 ov1 cap1, f_J7_ensureCapacityInternal D h ou (nI m) = some h1 ∧ hx_sb8 h1 ou ov1 cap1 cs ∧ m ≤ cap1 ∧ sbx h h1 ou ov ov1 := by
  by_cases c : m ≤ cap
  · exact ⟨h, ov, cap, sb_ens0 H c, H, c, Nat.le_refl _, w, Or.inl rfl, fun _ _ _ _ => rfl, Nat.le_add_right _ _, Nat.le_refl _, Nat.le_add_right _ _⟩
  · have ne := sb_ne H
    have lt := sb_lt w H
    obtain ⟨ml, fo, h1, h2, h3, h4, h5, h6⟩ := H
    obtain ⟨x8, hx8, x8a, x8b⟩ : ∃ x8 : Nat, f_J7_newCapacity D h ou (nI m) = some (nI x8) ∧ m ≤ x8 ∧ x8 ≤ 1000 := by
      unfold f_J7_newCapacity f_J11_newLength f_J12_max
      simp only [(hx_ob.mk h1).is (show 1 ∈ [1] by decide), (hx_ob.mk h1).gr (show 1 ∈ [1] by decide) (k := 0) (r := some ov) rfl, (hx_ob.mk h1).gi (show 1 ∈ [1] by decide) (k := 1) rfl, (hx_oi.mk h2).len, Option.bind_some]
      have s0 : ∀ n : Nat, n < 2 ^ 30 → nI n <<< ((0 : Int32) &&& 31) = nI n := fun n hn => shl0 (by omega)
      have s2 : (2 : Int32) <<< ((0 : Int32) &&& 31) = nI 2 := by decide
      rw [s0 m (by omega), s2, pk_sub (by omega), nI_add]
      have fin : ∀ k : Nat, m ≤ cap + k → cap + k ≤ 1000 → ((if nI cap + nI k ≤ 0 then f_J11_newLength_b21 D h (nI cap) (nI (m - cap)) else if (2147483639 : Int32) < nI cap + nI k then f_J11_newLength_b21 D h (nI cap) (nI (m - cap)) else some (nI cap + nI k)).bind fun x7 => if x7 = 2147483647 then none else some (x7 >>> ((0 : Int32) &&& 31))) = some (nI (cap + k)) := fun k k1 k2 => by
        rw [nI_add, if_neg (show ¬ nI (cap + k) ≤ 0 from nI_nle (by omega) (by omega)), if_neg (show ¬ (2147483639 : Int32) < nI (cap + k) from nI_nlt (a := 2147483639) (b := cap + k) (by omega) (by omega)), Option.bind_some, if_neg (show ¬ nI (cap + k) = (2147483647 : Int32) from nI_ne (a := cap + k) (b := 2147483647) (by omega) (by decide) (by omega)), shr0 (by omega)]
      by_cases c2 : m - cap < cap + 2
      · refine ⟨cap + (cap + 2), ?_, by omega, by omega⟩
        rw [if_pos (nI_lt c2 (by omega)), Option.bind_some]
        exact fin _ (by omega) (by omega)
      · refine ⟨cap + (m - cap), ?_, by omega, by omega⟩
        rw [if_neg (nI_nlt (by omega) (by omega)), Option.bind_some]
        exact fin _ (by omega) (by omega)
    have s0 : nI x8 <<< ((0 : Int32) &&& 31) = nI x8 := shl0 (by omega)
    have na : hx_newa h 1 (nI x8) (fun _ => .inl fun _ => 0) = some (h.1, hx_push h x8 (.inl (1, x8, .inl fun _ => 0))) := by
      unfold hx_newa
      rw [nI_clamp (show x8 < 2 ^ 31 by omega), if_pos ⟨nI_pos' (by omega), by omega⟩]
    have p2 : (hx_push h x8 (.inl (1, x8, .inl fun _ => 0))).2.2 ov = some (true, .inl (1, cap, .inl fo)) := (hx_push_ne (by omega)).trans h2
    have pn : (hx_push h x8 (.inl (1, x8, .inl fun _ => 0))).2.2 h.1 = some (true, .inl (1, x8, .inl fun _ => 0)) := hx_push_at
    have mn : f_J12_min D (hx_push h x8 (.inl (1, x8, .inl fun _ => 0))) (nI cap) (nI x8) = some (nI cap) := by
      unfold f_J12_min
      rw [if_neg (nI_nlt (by omega) (by omega))]
    have cp : hx_cpy (hx_push h x8 (.inl (1, x8, .inl fun _ => 0))) ov 0 h.1 0 (nI cap) = some (hx_set (hx_push h x8 (.inl (1, x8, .inl fun _ => 0))) h.1 (.inl (1, x8, .inl (va_cpy fo (fun _ => 0) 0 0 cap)))) := by
      unfold hx_cpy
      rw [p2, pn]
      simp only [nI_clamp (show cap < 2 ^ 31 by omega), show Int32.toNatClampNeg 0 = 0 by decide, Nat.zero_add]
      rw [if_pos ⟨trivial, by decide, by decide, by decide, nI_pos' (by omega), Nat.le_refl _, by omega, fun _ i hi => h6 i hi⟩]
    have o9 : (hx_set (hx_push h x8 (.inl (1, x8, .inl fun _ => 0))) h.1 (.inl (1, x8, .inl (va_cpy fo (fun _ => 0) 0 0 cap)))).2.2 ou = some (true, .inr (1, [.ref ov, .int 0, .int ml, .int (nI cs.length)])) := (hx_set_ne (by omega)).trans ((hx_push_ne (by omega)).trans h1)
    obtain ⟨h13, e13, c13⟩ := hx_pv_e (cis := [1]) (k := 0) (v := va_rf (some h.1)) o9 (by decide) (by simp)
    have new13 : h13.2.2 h.1 = some (true, .inl (1, x8, .inl (va_cpy fo (fun _ => 0) 0 0 cap))) := (c13.2.2.2 h.1 (by omega)).trans hx_set_at
    have old13 : ∀ z, z ≠ h.1 → z ≠ ou → h13.2.2 z = h.2.2 z := fun z n1 n2 => (c13.2.2.2 z n2).trans ((hx_set_ne n1).trans (hx_push_ne n1))
    have n13 : h13.1 = h.1 + 1 := c13.1
    refine ⟨h13, h.1, x8, ?_, ⟨ml, va_cpy fo (fun _ => 0) 0 0 cap, c13.2.2.1, new13, by omega, x8b, fun k c hk => ?_, fun k hk => ?_⟩, x8a, by omega, fun q hq => ?_, Or.inr (Nat.le_refl _), fun z hz n1 n2 => old13 z (by omega) n1, by omega, ?_, ?_⟩
    · unfold f_J7_ensureCapacityInternal f_J13_copyOf
      have cc : ¬ (nI m - nI cap ≤ 0) := by
        rw [pk_sub (by omega)]
        exact nI_nle (by omega) (by omega)
      have nx : ¬ nI x8 = nI cap := nI_ne (by omega) (by omega) (by omega)
      simp only [(hx_ob.mk h1).is (show 1 ∈ [1] by decide), (hx_ob.mk h1).gr (show 1 ∈ [1] by decide) (k := 0) (r := some ov) rfl, (hx_ob.mk h1).gi (show 1 ∈ [1] by decide) (k := 1) rfl, (hx_oi.mk h2).len, Option.bind_some, shr0 (show cap < 2 ^ 31 by omega), if_neg cc, hx8, s0, if_neg nx, gx_b2, na, (hx_oi.mk p2).len, mn, cp, hx_pr, e13]
    · have := (List.getElem?_eq_some_iff.1 hk).1
      rw [pk_cpy_in (Nat.zero_le _) (by omega), Nat.sub_zero, Nat.zero_add]
      exact h5 k c hk
    · by_cases c3 : k < cap
      · rw [pk_cpy_in (Nat.zero_le _) (by omega), Nat.sub_zero, Nat.zero_add]
        exact h6 k c3
      · rw [pk_cpy_out (Or.inr (by omega))]
        exact b128f (c := 0) (by decide)
    · rw [n13] at hq
      rw [old13 q (by omega) (by omega), w q (by omega)]
    · rw [c13.2.1]
      exact Nat.le_add_right _ _
    · rw [c13.2.1]
      show h.2.1 + x8 ≤ _
      omega
theorem sbx.kp {h h1 h2 : HX} {ou ov ov1 : Nat} (a : sbx h h1 ou ov ov1) (lt : ou < h.1 ∧ ov1 < h1.1) (k : hx_kp h1 h2 [ou, ov1]) : sbx h h2 ou ov ov1 := by
  obtain ⟨a1, a2, a3, a4, a5, a6, a7⟩ := a
  refine ⟨by rw [k.1]; exact a1, fun q hq => ?_, a3, fun z hz n1 n2 => ?_, by rw [k.1]; exact a5, by rw [k.2.1]; exact a6, by rw [k.2.1]; exact a7⟩
  · rw [k.1] at hq
    rw [k.2.2 q (by simp; omega), a2 q hq]
  · rw [k.2.2 z (by simp; omega), a4 z hz n1 n2]
theorem fits_upd {f : Nat → Int32} {cap i : Nat} {x : Int32} (h : ∀ k, k < cap → fits .byte (.int (f k)) = true) : ∀ k, k < cap → fits .byte (.int (upd f i x.toInt8.toInt32 k)) = true := fun k hk => by
  by_cases e : k = i
  · rw [e, pk_us]; exact pk_fb _
  · rw [pk_un e]; exact h k hk
/-- a sign behind the others, where there is room -/
theorem sb_put {D : gx_D} {h : HX} {ou ov cap c : Nat} {cs : List Nat} (H : hx_sb8 h ou ov cap cs) (hm : cs.length < cap) (hc : c < 128) : ∃ h1, f_J8_append_3 D h ou (nI c) = f_J8_append_3 D h ou (nI c) ∧ ((hx_pi h ou [1] 3 (nI cs.length + 1)).bind fun h12 => hx_sb h12 ov (nI cs.length) (nI c).toInt8.toInt32) = some h1 ∧ hx_sb8 h1 ou ov cap (cs ++ [c]) ∧ hx_kp h h1 [ou, ov] := by
  have ne := sb_ne H
  obtain ⟨ml, fo, h1, h2, h3, h4, h5, h6⟩ := H
  obtain ⟨h12, e12, c12⟩ := hx_pv_e (cis := [1]) (k := 3) (v := .int (nI cs.length + 1)) h1 (by decide) (by simp)
  obtain ⟨h14, e14, c14⟩ := hx_sb_e (x := (nI c).toInt8.toInt32) ((c12.2.2.2 ov (fun e => ne e.symm)).trans h2) hm (by omega)
  refine ⟨h14, rfl, by rw [hx_pi, e12, Option.bind_some, e14], ⟨ml, _, (c14.2.2.2 ou ne).trans (c12.2.2.1.trans (by rw [nI_1, List.length_append, List.length_singleton]; rfl)), c14.2.2.1, by rw [List.length_append, List.length_singleton]; omega, h4, fun k x hk => ?_, fits_upd h6⟩, (c12.kp (by simp)).tr (c14.kp (by simp))⟩
  rw [b128 c hc, b128 c hc]
  by_cases e : k = cs.length
  · subst e
    rw [List.getElem?_append_right (Nat.le_refl _), Nat.sub_self] at hk
    cases hk
    rw [pk_us]
    exact ⟨rfl, hc⟩
  · have : k < cs.length := by
      have := (List.getElem?_eq_some_iff.1 hk).1
      rw [List.length_append, List.length_singleton] at this
      omega
    rw [List.getElem?_append_left this] at hk
    rw [pk_un e]
    exact h5 k x hk
theorem sb_isL {D : gx_D} {h : HX} {ou ov cap : Nat} {cs : List Nat} (H : hx_sb8 h ou ov cap cs) : f_J7_isLatin1 D h ou = some true := by
  obtain ⟨ml, fo, h1, _⟩ := H
  unfold f_J7_isLatin1
  simp only [(hx_ob.mk h1).is (show 1 ∈ [1] by decide), (hx_ob.mk h1).gi (show 1 ∈ [1] by decide) (k := 1) rfl, Option.bind_some, if_true]
theorem sb_chr {D : gx_D} {h : HX} {ou ov cap c : Nat} {cs : List Nat} (w : hx_wf h) (H : hx_sb8 h ou ov cap cs) (hc : c < 128) (hl : cs.length < 400) : ∃ h1 ov1 cap1, f_J8_append_3 D h ou (nI c) = some (some ou, h1) ∧ hx_sb8 h1 ou ov1 cap1 (cs ++ [c]) ∧ sbx h h1 ou ov ov1 ∧ (cs.length < cap → h1.1 = h.1 ∧ h1.2.1 = h.2.1 ∧ ov1 = ov ∧ cap1 = cap) := by
  obtain ⟨h3, ov1, cap1, e3, H3, l3, x3⟩ := sb_ens (D := D) (m := cs.length + 1) w H (by omega)
  obtain ⟨h14, _, e14, H14, k14⟩ := sb_put (D := D) H3 (by omega) hc
  have lt := sb_lt w H
  have lt3 := sb_lt x3.2.1 H3
  have sm : cs.length < cap → h3 = h ∧ ov1 = ov ∧ cap1 = cap := fun c => by
    have e := sb_ens0 (D := D) (m := cs.length + 1) H (by omega)
    rw [e] at e3
    cases e3
    obtain ⟨m1, f1, g1, g2, _⟩ := H
    obtain ⟨m2, f2, k1, k2, _⟩ := H3
    rw [g1] at k1
    cases k1
    rw [g2] at k2
    cases k2
    exact ⟨rfl, rfl, rfl⟩
  refine ⟨h14, ov1, cap1, ?_, H14, x3.kp ⟨lt.1, lt3.2⟩ k14, fun c => ?_⟩
  · have g3 : hx_gi h ou [1] 3 = some (nI cs.length) := by
      obtain ⟨ml, fo, h1, _⟩ := H
      exact (hx_ob.mk h1).gi (by decide) rfl
    have is1 : hx_is h ou [1] = some () := by
      obtain ⟨ml, fo, h1, _⟩ := H
      exact (hx_ob.mk h1).is (by decide)
    have g3' : hx_gi h3 ou [1] 3 = some (nI cs.length) := by
      obtain ⟨ml, fo, h1, _⟩ := H3
      exact (hx_ob.mk h1).gi (by decide) rfl
    have g0' : hx_gr h3 ou [1] 0 = some (some ov1) := by
      obtain ⟨ml, fo, h1, _⟩ := H3
      exact (hx_ob.mk h1).gr (r := some ov1) (by decide) rfl
    have ce : f_J15_canEncode D h3 (nI c) = some true := by
      unfold f_J15_canEncode
      rw [if_neg (show ¬ (255 : Int32) < nI c from nI_nlt (a := 255) (b := c) (by omega) (by omega))]
    unfold f_J8_append_3 f_J7_append_3
    rw [is1, Option.bind_some, Option.bind_some, g3, Option.bind_some, nI_1, e3, Option.bind_some, sb_isL H3, Option.bind_some, if_pos rfl, ce, Option.bind_some, if_pos rfl, g0', Option.bind_some, g3', Option.bind_some]
    show gx_b2 ((hx_pi h3 ou [1] 3 (nI cs.length + 1)).bind fun h12 => (hx_sb h12 ov1 (nI cs.length) (nI c).toInt8.toInt32).bind fun h14 => some (some ou, h14)) _ = _
    cases e4 : hx_pi h3 ou [1] 3 (nI cs.length + 1) with
    | none => rw [e4] at e14; cases e14
    | some h12 =>
      rw [e4, Option.bind_some] at e14
      rw [Option.bind_some, e14]
      rfl
  · obtain ⟨s1, s2, s3⟩ := sm c
    subst s1 s2 s3
    exact ⟨k14.1, k14.2.1, rfl, rfl⟩
theorem cpy_app {fo f : Nat → Int32} {cs xs : List Nat} (h5 : ∀ (k c : Nat), cs[k]? = some c → fo k = nI c ∧ c < 128) (hf : ∀ (k x : Nat), xs[k]? = some x → f k = nI x ∧ x < 128) : ∀ (k c : Nat), (cs ++ xs)[k]? = some c → va_cpy f fo 0 cs.length xs.length k = nI c ∧ c < 128 := fun k c hk => by
  by_cases e : k < cs.length
  · rw [List.getElem?_append_left e] at hk
    rw [pk_cpy_out (Or.inl e)]
    exact h5 k c hk
  · have := (List.getElem?_eq_some_iff.1 hk).1
    rw [List.length_append] at this
    rw [List.getElem?_append_right (by omega)] at hk
    rw [pk_cpy_in (by omega) (by omega), Nat.zero_add]
    exact hf _ c hk
/-- a String behind the others -/
theorem sb_str {D : gx_D} {h : HX} {ou ov cap a : Nat} {cs xs : List Nat} (w : hx_wf h) (H : hx_sb8 h ou ov cap cs) (ha : hx_str h a xs) (hl : cs.length + xs.length < 400) (na : ∀ v, hx_gr h a [2] 0 = some (some v) → v ≠ ov) : ∃ h1 ov1 cap1, f_J8_append D h ou (some a) = some (some ou, h1) ∧ hx_sb8 h1 ou ov1 cap1 (cs ++ xs) ∧ sbx h h1 ou ov ov1 := by
  obtain ⟨h3, ov1, cap1, e3, H3, l3, x3⟩ := sb_ens (D := D) (m := cs.length + xs.length) w H (by omega)
  have lt := sb_lt w H
  have lt3 := sb_lt x3.2.1 H3
  have sl := str_len (D := D) ha
  obtain ⟨v, b, c, f, s1, s2, s3, s4⟩ := ha
  have nv := na v (s1.gr (by decide) rfl)
  have va := hx_ob.lt w s1
  have vv := hx_oi.lt w s2
  have nou : a ≠ ou := fun e => by
    obtain ⟨bb, z1⟩ := s1
    obtain ⟨ml, fo, z2, _⟩ := H
    rw [e, z2] at z1
    cases z1
  have nov : a ≠ ov := fun e => by
    obtain ⟨bb, z1⟩ := s1
    obtain ⟨ml, fo, _, z2, _⟩ := H
    rw [e, z2] at z1
    cases z1
  have nvo : v ≠ ou := fun e => by
    obtain ⟨bb, z1⟩ := s2
    obtain ⟨ml, fo, z2, _⟩ := H
    rw [e, z2] at z1
    cases z1
  have s1' : hx_ob h3 a 2 [va_rf (some v), .int 0, b, c] := by
    obtain ⟨bb, z1⟩ := s1
    exact ⟨bb, (x3.2.2.2.1 a va nou nov).trans z1⟩
  have s2' : hx_oi h3 v 1 xs.length f := by
    obtain ⟨bb, z1⟩ := s2
    exact ⟨bb, (x3.2.2.2.1 v vv nvo nv).trans z1⟩
  have g3 : hx_gi h ou [1] 3 = some (nI cs.length) := by
    obtain ⟨ml, fo, h1, _⟩ := H
    exact (hx_ob.mk h1).gi (by decide) rfl
  have is1 : hx_is h ou [1] = some () := by
    obtain ⟨ml, fo, h1, _⟩ := H
    exact (hx_ob.mk h1).is (by decide)
  obtain ⟨ml, fo, o1, o2, o3, o4, o5, o6⟩ := H3
  have hf : ∀ i, i < xs.length → fits .byte (.int (f i)) = true := fun i hi => by
    obtain ⟨e, l⟩ := s4 i _ (List.getElem?_eq_getElem hi)
    rw [e]
    exact b128f l
  have sh : nI cs.length <<< ((0 : Int32) &&& 31) = nI cs.length := shl0 (by omega)
  have cp : hx_cpy h3 v 0 ov1 (nI cs.length <<< ((0 : Int32) &&& 31)) (nI xs.length) = some (hx_set h3 ov1 (.inl (1, cap1, .inl (va_cpy f fo 0 cs.length xs.length)))) := by
    obtain ⟨bb, z⟩ := s2'
    unfold hx_cpy
    rw [z, o2, sh]
    simp only [nI_clamp (show cs.length < 2 ^ 31 by omega), nI_clamp (show xs.length < 2 ^ 31 by omega), show Int32.toNatClampNeg 0 = 0 by decide, Nat.zero_add]
    rw [if_pos ⟨trivial, by decide, by decide, nI_pos' (by omega), nI_pos' (by omega), Nat.le_refl _, by omega, fun _ i hi => hf i hi⟩]
  have o1b : (hx_set h3 ov1 (.inl (1, cap1, .inl (va_cpy f fo 0 cs.length xs.length)))).2.2 ou = _ := (hx_set_ne (fun e => by rw [e, o2] at o1; cases o1)).trans o1
  obtain ⟨h11, e11, c11⟩ := hx_pv_e (cis := [1]) (k := 3) (v := .int (nI cs.length + nI xs.length)) o1b (by decide) (by simp)
  have ne1 : ov1 ≠ ou := fun e => by rw [← e, o2] at o1; cases o1
  refine ⟨h11, ov1, cap1, ?_, ⟨ml, _, c11.2.2.1.trans (by rw [nI_add, List.length_append]; rfl), (c11.2.2.2 ov1 ne1).trans hx_set_at, by rw [List.length_append]; exact l3, o4, cpy_app o5 s4, fun k hk => ?_⟩, x3.kp ⟨lt.1, lt3.2⟩ ⟨c11.1, c11.2.1, fun z hz => ?_⟩⟩
  · unfold f_J8_append f_J7_append gx_on f_J7_putStringAt f_J7_inflateIfNeededFor f_J9_getBytes f_J9_coder
    simp only [is1, Option.bind_some, sl, g3, nI_add, e3, (hx_ob.mk o1).is (show 1 ∈ [1] by decide), (hx_ob.mk o1).gi (show 1 ∈ [1] by decide) (k := 3) rfl, (hx_ob.mk o1).gi (show 1 ∈ [1] by decide) (k := 1) rfl, (hx_ob.mk o1).gr (show 1 ∈ [1] by decide) (k := 0) (r := some ov1) rfl, s1'.is (show 2 ∈ [2] by decide), s1'.gi (show 2 ∈ [2] by decide) (k := 1) rfl, s1'.gr (show 2 ∈ [2] by decide) (k := 0) rfl, if_pos (show (Int32.toInt8 0).toInt32 = 0 by decide), if_true, s2'.len, cp, (hx_ob.mk o1b).gi (show 1 ∈ [1] by decide) (k := 3) rfl, hx_pi, gx_b2]
    rw [nI_add] at e11
    rw [e11]
    rfl
  · by_cases c3 : cs.length ≤ k ∧ k < cs.length + xs.length
    · rw [pk_cpy_in c3.1 c3.2, Nat.zero_add]
      exact hf _ (by omega)
    · rw [pk_cpy_out (by omega)]
      exact o6 k hk
  · simp only [List.mem_cons, List.not_mem_nil, or_false, not_or] at hz
    exact (c11.2.2.2 z hz.1).trans (hx_set_ne hz.2)
