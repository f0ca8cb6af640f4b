/-! writeConfiguration -/
set_option maxRecDepth 100000
set_option linter.unusedSimpArgs false
def kcs : List (List Nat) := [[105, 100, 108, 101], [98, 117, 115, 121], [102, 117, 108, 108], [99, 111, 105, 110], [112, 117, 115, 104], [116, 97, 107, 101], [99, 111, 105, 110, 115], [99, 117, 112, 115], [], [115, 116, 97, 116, 101], [101, 118, 101, 110, 116], [118, 97, 114], [111, 110], [97, 108, 119, 97, 121, 115], [105, 110, 115, 105, 100, 101], [103, 111, 116, 111], [119, 104, 101, 110], [100, 111], [97, 100, 100], [115, 117, 98], [115, 101, 116], [102, 105, 114, 101], [115, 101, 116], [114, 101, 115, 101, 116], [99, 108, 101, 97, 114], [97, 98, 111, 118, 101], [97, 116, 108, 101, 97, 115, 116], [97, 116, 109, 111, 115, 116], [98, 101, 108, 111, 119], [101, 113, 117, 97, 108, 115], [100, 105, 102, 102, 101, 114, 115], [115, 116, 97, 116, 101], [101, 118, 101, 110, 116], [118, 97, 114], [111, 110], [103, 111, 116, 111], [119, 104, 101, 110], [98, 101, 108, 111, 119], [97, 116, 109, 111, 115, 116], [101, 113, 117, 97, 108, 115], [100, 105, 102, 102, 101, 114, 115], [97, 116, 108, 101, 97, 115, 116], [97, 98, 111, 118, 101], [97, 100, 100], [115, 117, 98], [115, 101, 116], [100, 111], [97, 108, 119, 97, 121, 115], [105, 110, 115, 105, 100, 101], [102, 105, 114, 101], [114, 101, 115, 101, 116], [99, 108, 101, 97, 114]]
/-- the constants, as they lie in every heap -/
def KC (D : gx_D) (h : HX) : Prop := (∀ (i : Nat) (cs : List Nat), kcs[i]? = some cs → hx_str (hzf h) (D.2.2.1 i) cs) ∧ (∃ v, hx_ob (hzf h) (D.2.2.1 8) 2 [va_rf (some v), .int 0, .int 0, .int 1]) ∧ (∃ f, hx_oi (hzf h) (D.2.2.1 132) 1 100 f ∧ ∀ k, k < 10 → f k = nI (48 + k)) ∧ (∃ n f, hx_oi (hzf h) (D.2.2.1 135) 1 n f ∧ 58 ≤ n ∧ n < 1000 ∧ ∀ k, k < 10 → f (48 + k) = nI k) ∧ (∀ i j, i < 5 → j < 5 → D.2.2.1 (120 + i) = D.2.2.1 (120 + j) → i = j)
theorem KC.sub {D : gx_D} {h h1 : HX} (H : KC D h) (s : hx_sub (hzf h) (hzf h1)) : KC D h1 := by
  obtain ⟨k1, ⟨v, k2⟩, ⟨f, k3, k3'⟩, ⟨n, g, k4, k4'⟩, k5⟩ := H
  exact ⟨fun i cs hc => (k1 i cs hc).sub s, ⟨v, k2.sub s⟩, ⟨f, k3.sub s, k3'⟩, ⟨n, g, k4.sub s, k4'⟩, k5⟩
def sby (h h1 : HX) (ou ov ov1 n : Nat) : Prop := h.1 ≤ h1.1 ∧ hx_wf h1 ∧ (ov1 = ov ∨ h.1 ≤ ov1) ∧ (∀ z, z < h.1 → z ≠ ou → z ≠ ov → h1.2.2 z = h.2.2 z) ∧ h1.1 ≤ h.1 + n ∧ h.2.1 ≤ h1.2.1 ∧ h1.2.1 ≤ h.2.1 + 1000 * n
theorem sbx.y {h h1 : HX} {ou ov ov1 : Nat} (H : sbx h h1 ou ov ov1) : sby h h1 ou ov ov1 1 := H
theorem sby.tr {h h1 h2 : HX} {ou ov ov1 ov2 n m : Nat} (a : sby h h1 ou ov ov1 n) (b : sby h1 h2 ou ov1 ov2 m) : sby h h2 ou ov ov2 (n + m) := by
  obtain ⟨a1, a2, a3, a4, a5, a6, a7⟩ := a
  obtain ⟨b1, b2, b3, b4, b5, b6, b7⟩ := b
  refine ⟨by omega, b2, by omega, fun z hz n1 n2 => ?_, by omega, by omega, by omega⟩
  rw [b4 z (by omega) n1 (by omega), a4 z hz n1 n2]
theorem sby.kp {h h1 h2 : HX} {ou ov ov1 n : Nat} (a : sby h h1 ou ov ov1 n) (lt : ou < h.1 ∧ ov1 < h1.1) (k : hx_kp h1 h2 [ou, ov1]) : sby h h2 ou ov ov1 n := by
  obtain ⟨a1, a2, a3, a4, a5, a6, a7⟩ := a
  refine ⟨by rw [k.1]; exact a1, fun q hq => ?_, a3, fun z hz n1 n2 => ?_, by rw [k.1]; exact a5, by rw [k.2.1]; exact a6, by rw [k.2.1]; exact a7⟩
  · rw [k.1] at hq
    rw [k.2.2 q (by simp; omega), a2 q hq]
  · rw [k.2.2 z (by simp; omega), a4 z hz n1 n2]
theorem sz1 {D : gx_D} {h : HX} {v : Nat} (hv : v < 10) : f_J16_stringSize D h (nI v) = some 1 := by
  have c1 : ∀ v, v < 10 → ¬ (-(nI v) ≤ (-10 : Int32)) := by decide
  have c2 : ¬ ((10 : Int32) ≤ 1) := by decide
  unfold f_J16_stringSize f_J16_stringSize_b11
  obtain ⟨g, hg⟩ : ∃ g, gx_fuel = g + 1 := ⟨199999, rfl⟩
  rw [if_neg (nI_pos (by omega)), hg]
  simp only [f_J16_stringSize_b16, if_neg c2, if_neg (c1 v hv), f_J16_stringSize_b27]
  rfl
theorem sb_dig {D : gx_D} {h : HX} {ou ov cap v : Nat} {cs : List Nat} {f1 : Nat → Int32} (w : hx_wf h) (H : hx_sb8 h ou ov cap cs) (hv : v < 10) (hl : cs.length < 300) (k1 : hx_oi h (D.2.2.1 132) 1 100 f1) (k2 : ∀ k, k < 10 → f1 k = nI (48 + k)) (nc : D.2.2.1 132 ≠ ov) : ∃ h1 ov1 cap1, f_J8_append_2 D h ou (nI v) = some (some ou, h1) ∧ hx_sb8 h1 ou ov1 cap1 (cs ++ [48 + v]) ∧ sby h h1 ou ov ov1 1 := by
  obtain ⟨h3, ov1, cap1, e3, H3, l3, x3⟩ := sb_ens (D := D) (m := cs.length + 1) w H (by omega)
  have lt := sb_lt w H
  have lt3 := sb_lt x3.2.1 H3
  have g3 : hx_gi h ou [1] 3 = some (nI cs.length) := by
    obtain ⟨ml, fo, h1, _⟩ := H
    exact (hx_ob.mk h1).gi (by decide) rfl
  have is1 : hx_is h ou [1] = some () := by
    obtain ⟨ml, fo, h1, _⟩ := H
    exact (hx_ob.mk h1).is (by decide)
  have k1' : hx_oi h3 (D.2.2.1 132) 1 100 f1 := by
    have l1 := hx_oi.lt w k1
    obtain ⟨bb, z1⟩ := k1
    refine ⟨bb, (x3.2.2.2.1 _ l1 (fun e => ?_) nc).trans z1⟩
    obtain ⟨ml, fo, z2, _⟩ := H
    rw [e, z2] at z1
    cases z1
  have isl := sb_isL (D := D) H3
  have ne := sb_ne H3
  obtain ⟨ml, fo, o1, o2, o3, o4, o5, o6⟩ := H3
  obtain ⟨h6, e6, c6⟩ := hx_sb_e (x := nI (48 + v)) o2 (show cs.length < cap1 by omega) (by omega)
  obtain ⟨h13, e13, c13⟩ := hx_pv_e (cis := [1]) (k := 3) (v := .int (nI cs.length + 1)) ((c6.2.2.2 ou ne).trans o1) (by decide) (by simp)
  have nn : ∀ v, v < 10 → (-(-(nI v)) = nI v) ∧ ((-100 : Int32) < -(nI v)) ∧ ((-9 : Int32) ≤ -(nI v)) := by decide
  obtain ⟨n1, n2, n3⟩ := nn v hv
  have gc : f_J16_getChars D h3 (nI v) (nI cs.length + 1) (some ov1) = some (nI cs.length, h6) := by
    unfold f_J16_getChars f_J16_getChars_b12
    obtain ⟨g, hg⟩ : ∃ g, gx_fuel = g + 1 := ⟨199999, rfl⟩
    rw [if_pos (nI_pos' (by omega)), if_neg Bool.false_ne_true, hg]
    simp only [f_J16_getChars_b22, if_pos n2, f_J16_getChars_b72, n1, k1'.ai (show v < 100 by omega) (by decide), k2 v hv, Option.bind_some]
    rw [show nI cs.length + 1 + -1 = nI cs.length by rw [nI_1, show (-1 : Int32) = -(1) by decide, ← Int32.sub_eq_add_neg, show (1 : Int32) = nI 1 from rfl, pk_sub (by omega), Nat.add_sub_cancel], e6, Option.bind_some, if_pos n3]
    rfl
  refine ⟨h13, ov1, cap1, ?_, ⟨ml, _, c13.2.2.1.trans (by rw [nI_1, List.length_append, List.length_singleton]; rfl), (c13.2.2.2 ov1 (fun e => ne e.symm)).trans c6.2.2.1, by rw [List.length_append, List.length_singleton]; omega, o4, fun k x hk => ?_, fits_upd o6⟩, x3.y.kp ⟨lt.1, lt3.2⟩ ((c6.kp (by simp)).tr (c13.kp (by simp)))⟩
  · unfold f_J8_append_2 f_J7_append_2
    rw [is1, Option.bind_some, Option.bind_some, g3, Option.bind_some, sz1 hv, Option.bind_some, nI_1, e3, Option.bind_some, isl, Option.bind_some, if_pos rfl, (hx_ob.mk o1).gr (show 1 ∈ [1] by decide) (k := 0) (r := some ov1) rfl, Option.bind_some, ← nI_1, gc]
    show gx_b2 ((hx_pi h6 ou [1] 3 (nI cs.length + 1)).bind fun h13 => some (some ou, h13)) _ = _
    rw [hx_pi, e13]
    rfl
  · rw [b128 (48 + v) (by omega)]
    by_cases e : k = cs.length
    · subst e
      rw [List.getElem?_append_right (Nat.le_refl _), Nat.sub_self] at hk
      cases hk
      rw [pk_us]
      exact ⟨rfl, by omega⟩
    · have : k < cs.length := by
        have := (List.getElem?_eq_some_iff.1 hk).1
        rw [List.length_append, List.length_singleton] at this
        omega
      rw [List.getElem?_append_left this] at hk
      rw [pk_un e]
      exact o5 k x hk
def wcT (F : DF) (R : RN) : Nat → List Nat
  | 0 => F.sn.getD R.cf.1 []
  | n + 1 => wcT F R n ++ [32] ++ F.vn.getD n [] ++ [61] ++ [48 + cf_val R.cf n]
theorem nm_len {xs : List (List Nat)} (h : nm_ok xs) (k : Nat) : (xs.getD k []).length ≤ 6 := by
  rw [List.getD_eq_getElem?_getD]
  cases e : xs[k]? with
  | none => exact Nat.zero_le _
  | some y => exact (h y (List.mem_of_getElem? e)).2
theorem wcT_len {F : DF} {R : RN} (hF : df_ok F) : ∀ n, (wcT F R n).length ≤ 6 + 9 * n
  | 0 => nm_len hF.2.2.2.2.1 _
  | n + 1 => by
    have h1 := wcT_len hF (R := R) n
    have h2 := nm_len hF.2.2.2.2.2.2.1 n
    simp only [wcT, List.length_append, List.length_singleton]
    omega
theorem sby.sub {h h1 : HX} {ou ov ov1 n : Nat} (y : sby h h1 ou ov ov1 n) (b1 : ∃ e, h.2.2 ou = some (true, e)) (b2 : ∃ e, h.2.2 ov = some (true, e)) : hx_sub (hzf h) h1 := by
  intro z c e
  obtain ⟨c1, c2, c3⟩ := hzf_eq e
  obtain ⟨bb, x⟩ := c
  simp only at c2
  subst c2
  obtain ⟨e1, b1⟩ := b1
  obtain ⟨e2, b2⟩ := b2
  rw [y.2.2.2.1 z c1 (fun e => by rw [e, b1] at c3; cases c3) (fun e => by rw [e, b2] at c3; cases c3), c3]
theorem c_writeConfiguration {D : gx_D} {h : HX} {Y : YT} {A : AT} (H : cI D h Y A) (K : KC D h) : ∃ h1, f_X1_writeConfiguration D h Y.1 = some (nI (wcT A.1 A.2.1 A.1.vn.length).length, h1) ∧ cE D h1 Y (A.1, A.2.1, A.2.2.1, A.2.2.2.1, A.2.2.2.2.1, A.2.2.2.2.2.1, A.2.2.2.2.2.2.1, wcT A.1 A.2.1 A.1.vn.length) ∧ bnd h h1 20 20000 := by
  obtain ⟨ov, cap, op, dd, r, p, fnd, dl, as, HG, w, hx, hin, hou, hq, hG, _, ⟨n1, n2, n3, n4, n5, n6, n7, n8, n9, n10, n11, n12, n13, n14⟩, hA, hap, hne⟩ := H.all
  have hV := H.vm
  have hF := hA.1
  have hR := hA.2.1
  have cq := hR.2.2.1
  have hlt := cf_c_lt cq
  have lenT := wcT_len hF (R := A.2.1)
  have vcap := hF.2.2.1.2
  obtain ⟨fD, kD, kD'⟩ := K.2.2.1
  -- set length to nothing
  have hou0 := hou
  obtain ⟨h4, e4, H4, y4⟩ : ∃ h4, f_J8_setLength D h Y.2.2.2.2.2.2.2.1 0 = some h4 ∧ hx_sb8 h4 Y.2.2.2.2.2.2.2.1 ov cap [] ∧ sby h h4 Y.2.2.2.2.2.2.2.1 ov ov 0 := by
    have ec : f_J7_ensureCapacityInternal D h Y.2.2.2.2.2.2.2.1 0 = some h := sb_ens0 (D := D) (m := 0) hou (Nat.zero_le _)
    obtain ⟨ml, fo, o1, o2, o3, o4, o5, o6⟩ := hou
    have is1 := (hx_ob.mk o1).is (show 1 ∈ [1] by decide)
    have g3 := (hx_ob.mk o1).gi (show 1 ∈ [1] by decide) (k := 3) rfl
    have y0 : sby h h Y.2.2.2.2.2.2.2.1 ov ov 0 := ⟨Nat.le_refl _, w, Or.inl rfl, fun _ _ _ _ => rfl, Nat.le_refl _, Nat.le_refl _, Nat.le_refl _⟩
    have lt := sb_lt w hou0
    have c0 : (0 : Int32) ≤ nI A.2.2.2.2.2.2.2.length := nI_pos' (by omega)
    by_cases c : nI A.2.2.2.2.2.2.2.length ≤ 0
    · obtain ⟨h8, e8, c8⟩ := hx_pv_e (cis := [1]) (k := 3) (v := .int 0) o1 (by decide) (by simp)
      refine ⟨h8, ?_, ⟨ml, fo, c8.2.2.1, (c8.2.2.2 ov n14.symm).trans o2, Nat.zero_le _, o4, fun k x hk => by simp at hk, o6⟩, y0.kp lt (c8.kp (by simp))⟩
      unfold f_J8_setLength f_J7_setLength f_J7_setLength_b76
      rw [is1, Option.bind_some, Option.bind_some, if_pos (show (0 : Int32) ≤ 0 by decide), ec, Option.bind_some, g3, Option.bind_some, if_pos c0, Option.bind_some, if_pos c]
      show ((hx_pi h Y.2.2.2.2.2.2.2.1 [1] 3 0).bind fun h8 => some h8).bind _ = _
      rw [hx_pi, e8]
      rfl
    · obtain ⟨h10, e10, c10⟩ := hx_pv_e (cis := [1]) (k := 2) (v := .int 1) o1 (by decide) (by simp)
      obtain ⟨h8, e8, c8⟩ := hx_pv_e (cis := [1]) (k := 3) (v := .int 0) c10.2.2.1 (by decide) (by simp)
      refine ⟨h8, ?_, ⟨1, fo, c8.2.2.1, (c8.2.2.2 ov n14.symm).trans ((c10.2.2.2 ov n14.symm).trans o2), Nat.zero_le _, o4, fun k x hk => by simp at hk, o6⟩, y0.kp lt ((c10.kp (by simp)).tr (c8.kp (by simp)))⟩
      unfold f_J8_setLength f_J7_setLength f_J7_setLength_b76
      rw [is1, Option.bind_some, Option.bind_some, if_pos (show (0 : Int32) ≤ 0 by decide), ec, Option.bind_some, g3, Option.bind_some, if_pos c0, Option.bind_some, if_neg c]
      show ((hx_pi h Y.2.2.2.2.2.2.2.1 [1] 2 1).bind fun h10 => (hx_pi h10 Y.2.2.2.2.2.2.2.1 [1] 3 0).bind fun h8 => some h8).bind _ = _
      rw [hx_pi, e10, Option.bind_some, hx_pi, e8]
      rfl
  have b1 : ∃ e, h.2.2 Y.2.2.2.2.2.2.2.1 = some (true, e) := by obtain ⟨ml, fo, o1, o2, _⟩ := hou; exact ⟨_, o1⟩
  have b2 : ∃ e, h.2.2 ov = some (true, e) := by obtain ⟨ml, fo, o1, o2, _⟩ := hou; exact ⟨_, o2⟩
  have ltx := w.lt hx
  have lt0 := sb_lt w hou
  have vmat : ∀ h1 ov1 n, sby h h1 Y.2.2.2.2.2.2.2.1 ov ov1 n → hx_vm D h1 Y.1 A.1 A.2.1 ∧ hx_oi h1 (D.2.2.1 132) 1 100 fD ∧ hx_gr h1 Y.1 [9] 14 = some (some Y.2.2.2.2.2.2.2.1) ∧ hx_sub (hzf h) h1 ∧ D.2.2.1 132 ≠ ov1 := fun h1 ov1 n y => by
    have s := y.sub b1 b2
    have hx1 := (y.2.2.2.1 Y.1 ltx n4 n5).trans hx
    obtain ⟨_, q2, q3, _⟩ := hG
    refine ⟨⟨dd, r, _, hx_ob.mk hx1, rfl, rfl, q2.sub s, q3.sub s⟩, kD.sub s, (hx_ob.mk hx1).gr (by decide) rfl, s, ?_⟩
    obtain ⟨bb, z1⟩ := kD
    obtain ⟨c1, c2, c3⟩ := hzf_eq z1
    obtain ⟨e2, b2⟩ := b2
    rcases y.2.2.1 with e | e
    · intro e3
      rw [e3, e, b2] at c3
      cases c3
      cases c2
    · omega
  -- names
  have app : ∀ h1 ov1 cap1 n cs a xs, sby h h1 Y.2.2.2.2.2.2.2.1 ov ov1 n → hx_sb8 h1 Y.2.2.2.2.2.2.2.1 ov1 cap1 cs → hx_str (hzf h) a xs → cs.length + xs.length < 400 → ∃ h2 ov2 cap2, f_J8_append D h1 Y.2.2.2.2.2.2.2.1 (some a) = some (some Y.2.2.2.2.2.2.2.1, h2) ∧ hx_sb8 h2 Y.2.2.2.2.2.2.2.1 ov2 cap2 (cs ++ xs) ∧ sby h h2 Y.2.2.2.2.2.2.2.1 ov ov2 (n + 1) := fun h1 ov1 cap1 n cs a xs y Hs ha hl => by
    obtain ⟨_, _, _, s, _⟩ := vmat h1 ov1 n y
    obtain ⟨h2, ov2, cap2, e2, H2, x2⟩ := sb_str (D := D) y.2.1 Hs (ha.sub s) hl (fun v hv e => by
      obtain ⟨v', b, c, f, s1, s2, _⟩ := ha
      rw [(s1.sub s).gr (by decide) (k := 0) rfl] at hv
      cases hv
      obtain ⟨bb, z1⟩ := s2
      obtain ⟨c1, c2, c3⟩ := hzf_eq z1
      obtain ⟨e2, b2⟩ := b2
      rcases y.2.2.1 with e4 | e4
      · rw [e, e4, b2] at c3
        cases c3
        cases c2
      · omega)
    exact ⟨h2, ov2, cap2, e2, H2, y.tr x2.y⟩
  have chr : ∀ h1 ov1 cap1 n cs c, sby h h1 Y.2.2.2.2.2.2.2.1 ov ov1 n → hx_sb8 h1 Y.2.2.2.2.2.2.2.1 ov1 cap1 cs → c < 128 → cs.length < 300 → ∃ h2 ov2 cap2, f_J8_append_3 D h1 Y.2.2.2.2.2.2.2.1 (nI c) = some (some Y.2.2.2.2.2.2.2.1, h2) ∧ hx_sb8 h2 Y.2.2.2.2.2.2.2.1 ov2 cap2 (cs ++ [c]) ∧ sby h h2 Y.2.2.2.2.2.2.2.1 ov ov2 (n + 1) := fun h1 ov1 cap1 n cs c y Hs hc hl => by
    obtain ⟨h2, ov2, cap2, e2, H2, x2, _⟩ := sb_chr (D := D) y.2.1 Hs hc (by omega)
    exact ⟨h2, ov2, cap2, e2, H2, y.tr x2.y⟩
  have names : ∀ h1 ov1 n (f : DF → List (List Nat)) (sl m : Nat) xs, sby h h1 Y.2.2.2.2.2.2.2.1 ov ov1 n → hx_lst hx_str (hzf h) sl m xs → ∀ k, k < xs.length → ∃ b, f_J2_get D h1 sl (nI k) = some (some b) ∧ hx_str (hzf h) b (xs.getD k []) := fun h1 ov1 n f sl m xs y hl k hk => by
    obtain ⟨_, _, _, s, _⟩ := vmat h1 ov1 n y
    obtain ⟨as, l1, l2, l3⟩ := hl
    have hk' : k < as.length := by omega
    refine ⟨as[k], (l1.sub s).get hk', ?_⟩
    have := l3 k xs[k] as[k] (List.getElem?_eq_getElem hk) (List.getElem?_eq_getElem hk')
    rw [List.getD_eq_getElem?_getD, List.getElem?_eq_getElem hk]
    exact this
  obtain ⟨_, hdf, _, _⟩ := id hG
  obtain ⟨sl, el, vl, tl, df0, df1, df2, df3, df4⟩ := hdf
  have rdf : ∀ h1 ov1 n, sby h h1 Y.2.2.2.2.2.2.2.1 ov ov1 n → hx_gr h1 Y.1 [9] 5 = some (some dd) ∧ hx_gr h1 Y.1 [9] 6 = some (some r) ∧ hx_gr h1 dd [10] 0 = some (some sl) ∧ hx_gr h1 dd [10] 2 = some (some vl) ∧ f_J2_size D h1 vl = some (nI A.1.vn.length) ∧ f_X4_state D h1 r = some (nI A.2.1.cf.1) ∧ f_X4_valuation D h1 r = some (nI (cf_c A.2.1.cf % 1000)) := fun h1 ov1 n y => by
    obtain ⟨V, _, _, s, _⟩ := vmat h1 ov1 n y
    have hx1 := (y.2.2.2.1 Y.1 ltx n4 n5).trans hx
    have ob := df0.sub s
    obtain ⟨_, _, q3, _⟩ := id hG
    obtain ⟨i, a1, a2, a3, a4, a5, ge, gt, r0, _⟩ := q3.sub s
    refine ⟨(hx_ob.mk hx1).gr (by decide) rfl, (hx_ob.mk hx1).gr (by decide) rfl, ob.gr (by decide) rfl, ob.gr (by decide) rfl, (df3.sub s (fun b x => hx_str.sub s)).len, ?_, ?_⟩
    · unfold f_X4_state
      rw [r0.is (by decide), Option.bind_some, r0.gi (by decide) (k := 6) rfl, Option.bind_some, show nI (cf_c A.2.1.cf) / 1000 = nI (cf_c A.2.1.cf / 1000) by rw [show (1000 : Int32) = nI 1000 from rfl, pk_div (by omega) (by decide) (by decide)]]
      obtain ⟨z1, z2, z3, z4⟩ := cq
      unfold cf_c
      congr 2
      omega
    · unfold f_X4_valuation
      rw [r0.is (by decide), Option.bind_some, r0.gi (by decide) (k := 6) rfl, Option.bind_some, show nI (cf_c A.2.1.cf) / 1000 * 1000 = nI (cf_c A.2.1.cf / 1000 * 1000) by rw [show (1000 : Int32) = nI 1000 from rfl, pk_div (by omega) (by decide) (by decide), pk_mul], pk_sub (by omega)]
      congr 2
      omega
  obtain ⟨V4, _, g4, s4, _⟩ := vmat h4 ov 0 y4
  obtain ⟨m1, m2, m3, m4, m5, m6, m7⟩ := rdf h4 ov 0 y4
  have hst : A.2.1.cf.1 < A.1.sn.length := hR.2.2.2.1
  obtain ⟨b, gb, sb⟩ := names h4 ov 0 (fun F => F.sn) sl 10 A.1.sn y4 df1 _ hst
  obtain ⟨h20, ov20, cap20, e20, H20, y20⟩ := app h4 ov cap 0 [] b _ y4 H4 sb (by have := nm_len hF.2.2.2.2.1 A.2.1.cf.1; rw [List.length_nil]; omega)
  have cast : ∀ h1 ov1 n b xs, sby h h1 Y.2.2.2.2.2.2.2.1 ov ov1 n → hx_str (hzf h) b xs → hx_cast h1 (some b) [2] = some () := fun h1 ov1 n b xs y hb => by
    obtain ⟨_, _, _, s, _⟩ := vmat h1 ov1 n y
    obtain ⟨v, b', c, f, s1, _⟩ := hb
    exact pl_cast (s1.sub s) (by decide)
  have begin_ : f_X1_writeConfiguration D h Y.1 = f_X1_writeConfiguration_b40 D gx_fuel h20 Y.1 0 := by
    unfold f_X1_writeConfiguration
    simp only [(hx_ob.mk hx).is (show 9 ∈ [9] by decide), (hx_ob.mk hx).gr (show 9 ∈ [9] by decide) (k := 14) (r := some Y.2.2.2.2.2.2.2.1) rfl, Option.bind_some, e4, g4, m1, m2, m3, m6, gb, cast h4 ov 0 b _ y4 sb, gx_b2, e20]
  obtain ⟨z, ⟨ovz, capz, Hz, yz, kz⟩, ez⟩ := gx_lq (F := fun f (z : HX × Int32) => f_X1_writeConfiguration_b40 D f z.1 Y.1 z.2) (I := fun m z => ∃ ov1 cap1, hx_sb8 z.1 Y.2.2.2.2.2.2.2.1 ov1 cap1 (wcT A.1 A.2.1 m) ∧ sby h z.1 Y.2.2.2.2.2.2.2.1 ov ov1 (1 + 4 * m) ∧ z.2 = nI m) A.1.vn.length (by
    intro f m z hm hI
    obtain ⟨ov1, cap1, Hm, ym, em⟩ := hI
    have lm := lenT m
    have nl := nm_len hF.2.2.2.2.2.2.1 m
    obtain ⟨q1, q2, q3, q4, q5, q6, q7⟩ := rdf _ _ _ ym
    obtain ⟨_, _, q8, _⟩ := vmat _ _ _ ym
    obtain ⟨ha, ova, capa, ea, Ha, ya⟩ := chr _ _ _ _ _ 32 ym Hm (by decide) (by omega)
    obtain ⟨t1, t2, t3, t4, t5, t6, t7⟩ := rdf _ _ _ ya
    obtain ⟨bv, gv, sv⟩ := names ha ova _ (fun F => F.vn) vl 3 A.1.vn ya df3 m hm
    obtain ⟨hb, ovb, capb, eb, Hb, yb⟩ := app _ _ _ _ _ bv _ ya Ha sv (by rw [List.length_append, List.length_singleton]; omega)
    obtain ⟨hc, ovc, capc, ec, Hc, yc⟩ := chr _ _ _ _ _ 61 yb Hb (by decide) (by rw [List.length_append, List.length_append, List.length_singleton]; omega)
    obtain ⟨u1, u2, u3, u4, u5, u6, u7⟩ := rdf _ _ _ yc
    obtain ⟨_, kDc, _, _, ncc⟩ := vmat _ _ _ yc
    have vv := cf_val_lt cq m
    obtain ⟨hd, ovd, capd, ed, Hd, yd⟩ := sb_dig (D := D) (v := cf_val A.2.1.cf m) yc.2.1 Hc vv (by rw [List.length_append, List.length_append, List.length_append, List.length_singleton, List.length_singleton]; omega) kDc kD' ncc
    have yd' := yc.tr yd
    refine ⟨(hd, nI (m + 1)), ⟨ovd, capd, Hd, by rw [show 1 + 4 * (m + 1) = 1 + 4 * m + 1 + 1 + 1 + 1 by omega]; exact yd', rfl⟩, ?_⟩
    have ev : f_X1_valueIn D hc (nI (cf_c A.2.1.cf % 1000)) (nI m) = some (nI (cf_val A.2.1.cf m)) := by
      rw [f_val, cval_nI (by omega) (show m < 3 by omega), cf_c_val cq (show m < 3 by omega)]
    show f_X1_writeConfiguration_b40 D (f + 1) z.1 Y.1 z.2 = f_X1_writeConfiguration_b40 D f hd Y.1 (nI (m + 1))
    rw [em]
    simp only [f_X1_writeConfiguration_b40, q1, q4, q5, if_neg (nI_ge hm (show A.1.vn.length < 2 ^ 31 by omega)), q8, Option.bind_some, show (32 : Int32) = nI 32 from rfl, show (61 : Int32) = nI 61 from rfl, ea, gx_b2, t1, t4, gv, cast ha ova _ bv _ ya sv, eb, ec, u2, u7, ev, ed, gx_c1]) A.1.vn.length 0 gx_fuel (h20, 0) (by omega) (by rw [pl_fl]; omega) ⟨ov20, cap20, by rw [List.nil_append] at H20; exact H20, y20, rfl⟩
  obtain ⟨u, hu⟩ : ∃ g, gx_fuel - A.1.vn.length = g + 1 := ⟨gx_fuel - A.1.vn.length - 1, by rw [pl_fl]; omega⟩
  obtain ⟨hz, iz⟩ := z
  simp only at kz Hz yz
  subst kz
  obtain ⟨q1, q2, q3, q4, q5, q6, q7⟩ := rdf _ _ _ yz
  obtain ⟨_, _, q8, _⟩ := vmat _ _ _ yz
  refine ⟨hz, ?_, ?_, yz.1, by have := yz.2.2.2.2.1; omega, yz.2.2.2.2.2.1, by have := yz.2.2.2.2.2.2; omega⟩
  · rw [begin_]
    rw [hu] at ez
    rw [show f_X1_writeConfiguration_b40 D gx_fuel h20 Y.1 0 = _ from ez]
    simp only [f_X1_writeConfiguration_b40, f_X1_writeConfiguration_b110, q1, q4, q5, q8, if_pos (nI_le (Nat.le_refl A.1.vn.length) (show A.1.vn.length < 2 ^ 31 by omega)), Option.bind_some, sb_len Hz]
  · have same : ∀ z, z < h.1 → z ≠ Y.2.2.2.2.2.2.2.1 → z ≠ ov → hz.2.2 z = h.2.2 z := yz.2.2.2.1
    have lti : Y.2.1 < h.1 := by obtain ⟨f, i1, _⟩ := hin; exact w.lt i1
    obtain ⟨_, hd0, g0, k4, k4', _⟩ := id hq
    exact cI.fin (A1 := (A.1, A.2.1, A.2.2.1, A.2.2.2.1, A.2.2.2.2.1, A.2.2.2.2.2.1, A.2.2.2.2.2.2.1, wcT A.1 A.2.1 A.1.vn.length)) HG w hx yz.1 yz.2.1 yz.2.2.1 (fun z hz hn => by
      simp only [W5, List.mem_cons, List.not_mem_nil, or_false, not_or] at hn
      exact same z hz hn.2.2.2.2.1 hn.2.2.2.2.2) ((same _ ltx n4 n5).trans hx) (hin.kp (same _ lti n8 n9)) Hz (hq.kp (same _ (w.lt k4) n10 n11) (same _ (w.lt k4') n12 n13)) (hG_same hG)

/-- the model -/
def mq12 (s t : MS) : Prop := (∀ j, j ≠ 30 → t.1 j = s.1 j) ∧ ∀ q, q ≠ 12 → t.2 q = s.2 q
theorem mq12.tr {a b c : MS} (x : mq12 a b) (y : mq12 b c) : mq12 a c := ⟨fun j h => (y.1 j h).trans (x.1 j h), fun q h => (y.2 q h).trans (x.2 q h)⟩
theorem mI.outp {s t : MS} {A : AT} {ob : List Nat} (H : mI s A) (q : mq12 s t) (I : m_out t ob) : mI t (A.1, A.2.1, A.2.2.1, A.2.2.2.1, A.2.2.2.2.1, A.2.2.2.2.2.1, A.2.2.2.2.2.2.1, ob) := by
  obtain ⟨q1, q2, q3, q4, q5, q6, q7, q8⟩ := H
  refine ⟨by rw [q.2 0 (by decide)]; exact q1, by rw [q.2 0 (by decide)]; exact q2, ?_, ?_, ?_, by rw [q.1 14 (by decide)]; exact q6, by rw [q.1 15 (by decide)]; exact q7, I⟩
  · unfold m_hs
    rw [q.2 3 (by decide), q.1 4 (by decide)]
    exact q3
  · revert q4
    show m_sv s A.1 A.2.2.1 → m_sv t A.1 A.2.2.1
    cases A.2.2.1 with
    | none => intro z; show t.1 5 = 0; rw [q.1 5 (by decide)]; exact z
    | some R => intro z; show t.1 5 = 1 ∧ m_df (t.2 2) A.1 ∧ m_rn (t.2 2) R; rw [q.1 5 (by decide), q.2 2 (by decide)]; exact z
  · unfold m_in
    rw [q.2 6 (by decide), q.1 13 (by decide)]
    exact q5
theorem m_write {D : gx_D} {b : HX} {o c : Nat} {s : MS} {ob : List Nat} (I : m_out s ob) (hl : ob.length < 60) : ∃ t, f_X9_write D b o s (nI c) = some t ∧ mq12 s t ∧ m_out t (ob ++ [c]) := by
  refine ⟨ms_p (ms_u s 12 ob.length (nI c)) 30 (nI ob.length + 1), ?_, ⟨fun j hj => ms_p1n hj, fun q hq => if_neg hq⟩, ?_, fun k x hk => ?_⟩
  · unfold f_X9_write
    simp only [I.1, ms_si_n (s := s) (j := 12) (k := ob.length) (by decide) rfl (show ob.length < ms_len 12 from hl), Option.bind_some, ms_pf]
    have : (ms_u s 12 ob.length (nI c)).1 30 = nI ob.length := I.1
    rw [this]
  · show (if (30 : Nat) = 30 then nI ob.length + 1 else s.1 30) = _
    rw [if_pos rfl, nI_1, List.length_append, List.length_singleton]
  · show (if (12 : Nat) = 12 then upd (s.2 12) ob.length (nI c) else s.2 12) k = nI x
    rw [if_pos rfl]
    by_cases e : k = ob.length
    · subst e
      rw [List.getElem?_append_right (Nat.le_refl _), Nat.sub_self] at hk
      cases hk
      rw [pk_us]
    · have : k < ob.length := by
        have := (List.getElem?_eq_some_iff.1 hk).1
        rw [List.length_append, List.length_singleton] at this
        omega
      rw [List.getElem?_append_left this] at hk
      rw [pk_un e]
      exact I.2 k x hk
theorem m_wname {D : gx_D} {b : HX} {o c k : Nat} {s : MS} {ob : List Nat} {xs : List (List Nat)} (I : m_out s ob) (N : m_nm (s.2 0) c xs) (hk : k < xs.length) (hx : (xs.getD k []).length ≤ 6) (hl : ob.length + (xs.getD k []).length ≤ 60) (hc : c + 7 * k + 7 ≤ 504) : ∃ t, f_X9_writeName D b o s (nI (c + 7 * k)) = some t ∧ mq12 s t ∧ m_out t (ob ++ xs.getD k []) := by
  have ek : xs[k]? = some (xs.getD k []) := by rw [List.getD_eq_getElem?_getD, List.getElem?_eq_getElem hk]; rfl
  obtain ⟨n1, n2⟩ := N k _ ek
  generalize xs.getD k [] = x at *
  unfold f_X9_writeName
  obtain ⟨z, ⟨k1, k2, k3⟩, kz⟩ := gx_lq (F := fun f (z : MS × Int32) => f_X9_writeName_b2 D b o f z.1 (nI (c + 7 * k)) z.2) (I := fun m z => mq12 s z.1 ∧ m_out z.1 (ob ++ x.take m) ∧ z.2 = nI m) x.length (by
    intro f m z hm hI
    obtain ⟨k1, k2, k3⟩ := hI
    obtain ⟨zs, zi⟩ := z
    simp only at k1 k2 k3
    subst k3
    have w0 : zs.2 0 = s.2 0 := k1.2 0 (by decide)
    obtain ⟨t, t1, t2, t3⟩ := m_write (D := D) (b := b) (o := o) (c := x[m]) k2 (by rw [List.length_append, List.length_take]; omega)
    refine ⟨(t, nI (m + 1)), ⟨k1.tr t2, by rw [List.take_succ_eq_append_getElem hm, ← List.append_assoc]; exact t3, rfl⟩, ?_⟩
    have e1 : ms_ai zs 0 (nI (c + 7 * k)) = some (nI x.length) := by rw [ms_w (k := c + 7 * k) rfl (by omega), w0, n1]
    have e2 : ms_ai zs 0 (nI (c + 7 * k + 1) + nI m) = some (nI x[m]) := by rw [nI_add, ms_w (k := c + 7 * k + 1 + m) rfl (by omega), w0, n2 m _ (List.getElem?_eq_getElem hm)]
    show f_X9_writeName_b2 D b o (f + 1) zs _ (nI m) = _
    simp only [f_X9_writeName_b2, e1, e2, if_neg (nI_ge hm (show x.length < 2 ^ 31 by omega)), Option.bind_some, t1, gx_c1]) x.length 0 gx_fuel (s, 0) (by omega) (by rw [pl_fl]; omega) ⟨⟨fun _ _ => rfl, fun _ _ => rfl⟩, by simpa using I, rfl⟩
  obtain ⟨zs, zi⟩ := z
  simp only at k1 k2 k3
  subst k3
  obtain ⟨u, hu⟩ : ∃ g, gx_fuel - x.length = g + 1 := ⟨gx_fuel - x.length - 1, by rw [pl_fl]; omega⟩
  rw [hu] at kz
  refine ⟨zs, ?_, k1, by rw [List.take_length] at k2; exact k2⟩
  rw [show f_X9_writeName_b2 D b o gx_fuel s (nI (c + 7 * k)) 0 = _ from kz]
  have w0 : zs.2 0 = s.2 0 := k1.2 0 (by decide)
  have e1 : ms_ai zs 0 (nI (c + 7 * k)) = some (nI x.length) := by rw [ms_w (k := c + 7 * k) rfl (by omega), w0, n1]
  simp only [f_X9_writeName_b2, e1, Option.bind_some, if_pos (nI_le (Nat.le_refl x.length) (show x.length < 2 ^ 31 by omega))]
theorem mc_writeConfiguration {D : gx_D} {bh : HX} {o : Nat} {s : MS} {A : AT} (H : mI s A) (hA : a_ok A) : ∃ t, f_X9_writeConfiguration D bh o s = some (nI (wcT A.1 A.2.1 A.1.vn.length).length, t) ∧ mI t (A.1, A.2.1, A.2.2.1, A.2.2.2.1, A.2.2.2.2.1, A.2.2.2.2.2.1, A.2.2.2.2.2.2.1, wcT A.1 A.2.1 A.1.vn.length) := by
  have H6 : mI (ms_p s 6 0) A := H.p6
  have hF := hA.1
  have hR := hA.2.1
  have cq := hR.2.2.1
  have lenT := wcT_len hF (R := A.2.1)
  have vcap := hF.2.2.1.2
  have hst := hR.2.2.2.1
  have scap := hF.1.2
  obtain ⟨hdf, hrn, _⟩ := id H6
  obtain ⟨d0, d1, d2, _, dn1, dn2, dn3, _⟩ := hdf
  obtain ⟨_, r5, r6, _⟩ := hrn
  obtain ⟨s1, hs1⟩ : ∃ s1, s1 = ms_p (ms_p s 6 0) 30 0 := ⟨_, rfl⟩
  have w1 : s1.2 0 = (ms_p s 6 0).2 0 := by rw [hs1]; rfl
  have q1 : mq12 (ms_p s 6 0) s1 := by rw [hs1]; exact ⟨fun j hj => ms_p1n hj, fun _ _ => rfl⟩
  have I1 : m_out s1 [] := by rw [hs1]; exact ⟨rfl, fun k c hk => by simp at hk⟩
  have nl := nm_len hF.2.2.2.2.1 A.2.1.cf.1
  obtain ⟨t5, e5, q5, I5⟩ := m_wname (D := D) (b := bh) (o := o) (c := 357) (k := A.2.1.cf.1) I1 (by rw [w1]; exact dn1) hst nl (by rw [List.length_nil]; omega) (by omega)
  have q5 := q1.tr q5
  obtain ⟨z, ⟨k1, k2, k3⟩, kz⟩ := gx_lq (F := fun f (z : MS × Int32) => f_X9_writeConfiguration_b29 D bh o f z.1 z.2) (I := fun m z => mq12 (ms_p s 6 0) z.1 ∧ m_out z.1 (wcT A.1 A.2.1 m) ∧ z.2 = nI m) A.1.vn.length (by
    intro f m z hm hI
    obtain ⟨k1, k2, k3⟩ := hI
    obtain ⟨zs, zi⟩ := z
    simp only at k1 k2 k3
    subst k3
    have lm := lenT m
    have nv := nm_len hF.2.2.2.2.2.2.1 m
    obtain ⟨ta, ea, qa, Ia⟩ := m_write (D := D) (b := bh) (o := o) (c := 32) k2 (by omega)
    have qa := k1.tr qa
    obtain ⟨tb, eb, qb, Ib⟩ := m_wname (D := D) (b := bh) (o := o) (c := 483) (k := m) Ia (by rw [qa.2 0 (by decide)]; exact dn3) hm nv (by rw [List.length_append, List.length_singleton]; omega) (by omega)
    have qb := qa.tr qb
    obtain ⟨tc, ec, qc, Ic⟩ := m_write (D := D) (b := bh) (o := o) (c := 61) Ib (by rw [List.length_append, List.length_append, List.length_singleton]; omega)
    have qc := qb.tr qc
    obtain ⟨td, ed, qd, Id⟩ := m_write (D := D) (b := bh) (o := o) (c := 48 + cf_val A.2.1.cf m) Ic (by rw [List.length_append, List.length_append, List.length_append, List.length_singleton, List.length_singleton]; omega)
    have qd := qc.tr qd
    refine ⟨(td, nI (m + 1)), ⟨qd, Id, rfl⟩, ?_⟩
    have a2 : ms_ai zs 0 2 = some (nI A.1.vn.length) := by rw [ms_w (x := 2) (k := 2) rfl (by decide), k1.2 0 (by decide)]; exact congrArg some d2
    have a6 : ms_ai tc 0 ((6 : Int32) + nI m) = some (nI (cf_val A.2.1.cf m)) := by
      rw [show (6 : Int32) + nI m = nI (6 + m) by rw [show (6 : Int32) = nI 6 from rfl, nI_add], ms_w (k := 6 + m) rfl (by omega), qc.2 0 (by decide)]
      exact congrArg some (r6 m (by omega))
    have i7 : (483 : Int32) + 7 * nI m = nI (483 + 7 * m) := by rw [show (483 : Int32) = nI 483 from rfl, show (7 : Int32) = nI 7 from rfl, pk_mul, nI_add]
    have i48 : (48 : Int32) + nI (cf_val A.2.1.cf m) = nI (48 + cf_val A.2.1.cf m) := by rw [show (48 : Int32) = nI 48 from rfl, nI_add]
    show f_X9_writeConfiguration_b29 D bh o (f + 1) zs (nI m) = _
    simp only [f_X9_writeConfiguration_b29, a2, if_neg (nI_ge hm (show A.1.vn.length < 2 ^ 31 by omega)), Option.bind_some, show (32 : Int32) = nI 32 from rfl, show (61 : Int32) = nI 61 from rfl, ea, i7, eb, ec, a6, i48, ed, gx_c1]) A.1.vn.length 0 gx_fuel (t5, 0) (by omega) (by rw [pl_fl]; omega) ⟨q5, by rw [List.nil_append] at I5; exact I5, rfl⟩
  obtain ⟨zs, zi⟩ := z
  simp only at k1 k2 k3
  subst k3
  obtain ⟨u, hu⟩ : ∃ g, gx_fuel - A.1.vn.length = g + 1 := ⟨gx_fuel - A.1.vn.length - 1, by rw [pl_fl]; omega⟩
  rw [hu] at kz
  refine ⟨zs, ?_, H6.outp k1 k2⟩
  have a5 : ms_ai s1 0 5 = some (nI A.2.1.cf.1) := by rw [ms_w (x := 5) (k := 5) rfl (by decide), w1]; exact congrArg some r5
  have i7 : (357 : Int32) + 7 * nI A.2.1.cf.1 = nI (357 + 7 * A.2.1.cf.1) := by rw [show (357 : Int32) = nI 357 from rfl, show (7 : Int32) = nI 7 from rfl, pk_mul, nI_add]
  have a2 : ms_ai zs 0 2 = some (nI A.1.vn.length) := by rw [ms_w (x := 2) (k := 2) rfl (by decide), k1.2 0 (by decide)]; exact congrArg some d2
  unfold f_X9_writeConfiguration ms_pf
  rw [Option.bind_some, Option.bind_some, ← hs1, a5, Option.bind_some, i7, e5, Option.bind_some]
  rw [show f_X9_writeConfiguration_b29 D bh o gx_fuel t5 0 = _ from kz]
  simp only [f_X9_writeConfiguration_b29, f_X9_writeConfiguration_b85, a2, Option.bind_some, if_pos (nI_le (Nat.le_refl A.1.vn.length) (show A.1.vn.length < 2 ^ 31 by omega))]
  rw [k2.1]
