/-! one round of the law's loop, and the loop -/
set_option maxRecDepth 100000
set_option linter.unusedVariables false
section LWG
variable {D : gx_D} {o p0 L N i : Nat} {xs : Nat → Int32} {Y : YT} {h : HX} {s : MS} {A : AT} {k : (HX × MS) → Option Nat → Option Nat → Option Nat → Int32 → Option ((Bool) × HX)}
theorem law_go (C : LC D o p0 L xs Y N h s A) (hL : L ≤ 144) (hi : i + 6 ≤ L) (hN : N < 9000) (y : Int32) : goL D o p0 L xs Y N i h (lc_sw D o k (h, s) p0 (some Y.1) (some Y.2.2.2.2.2.2.2.2) (nI i) y) k := by
  unfold lc_sw
  by_cases c0 : y = (0 : Int32)
  · rw [if_pos c0]; exact case_0 C hL hi
  rw [if_neg c0]
  by_cases c1 : y = (1 : Int32)
  · rw [if_pos c1]; exact case_1 C hL hi
  rw [if_neg c1]
  by_cases c2 : y = (2 : Int32)
  · rw [if_pos c2]; exact case_2 C
  rw [if_neg c2]
  by_cases c3 : y = (3 : Int32)
  · rw [if_pos c3]; exact case_3 C hN
  rw [if_neg c3]
  by_cases c4 : y = (4 : Int32)
  · rw [if_pos c4]; exact case_4 C
  rw [if_neg c4]
  by_cases c5 : y = (5 : Int32)
  · rw [if_pos c5]; exact case_5 C
  rw [if_neg c5]
  by_cases c6 : y = (6 : Int32)
  · rw [if_pos c6]; exact case_6 C
  rw [if_neg c6]
  by_cases c7 : y = (7 : Int32)
  · rw [if_pos c7]; exact case_7 C
  rw [if_neg c7]
  by_cases c8 : y = (8 : Int32)
  · rw [if_pos c8]; exact case_8 C
  rw [if_neg c8]
  by_cases c9 : y = (9 : Int32)
  · rw [if_pos c9]; exact case_9 C
  rw [if_neg c9]
  by_cases c10 : y = (10 : Int32)
  · rw [if_pos c10]; exact case_10 C
  rw [if_neg c10]
  by_cases c11 : y = (11 : Int32)
  · rw [if_pos c11]; exact case_11 C hL hi
  rw [if_neg c11]
  by_cases c12 : y = (12 : Int32)
  · rw [if_pos c12]; exact case_12 C hL hi
  rw [if_neg c12]
  by_cases c13 : y = (13 : Int32)
  · rw [if_pos c13]; exact case_13 C hL hi
  rw [if_neg c13]
  by_cases c14 : y = (14 : Int32)
  · rw [if_pos c14]; exact case_14 C
  rw [if_neg c14]
  by_cases c15 : y = (15 : Int32)
  · rw [if_pos c15]; exact case_15 C hL hi
  rw [if_neg c15]
  by_cases c16 : y = (16 : Int32)
  · rw [if_pos c16]; exact case_16 C hL hi
  rw [if_neg c16]
  by_cases c17 : y = (17 : Int32)
  · rw [if_pos c17]; exact case_17 C hL hi
  rw [if_neg c17]
  by_cases c18 : y = (18 : Int32)
  · rw [if_pos c18]; exact case_18 C hL hi
  rw [if_neg c18]
  by_cases c19 : y = (19 : Int32)
  · rw [if_pos c19]; exact case_19 C hL hi
  rw [if_neg c19]
  by_cases c20 : y = (20 : Int32)
  · rw [if_pos c20]; exact case_20 C hL hi
  rw [if_neg c20]
  by_cases c21 : y = (21 : Int32)
  · rw [if_pos c21]; exact case_21 C hL hi
  rw [if_neg c21]
  by_cases c22 : y = (22 : Int32)
  · rw [if_pos c22]; exact case_22 C hL hi
  rw [if_neg c22]
  by_cases c23 : y = (23 : Int32)
  · rw [if_pos c23]; exact case_23 C hL hi
  rw [if_neg c23]
  by_cases c24 : y = (24 : Int32)
  · rw [if_pos c24]; exact case_24 C hL hi
  rw [if_neg c24]
  by_cases c25 : y = (25 : Int32)
  · rw [if_pos c25]; exact case_25 C hL hi
  rw [if_neg c25]
  by_cases c26 : y = (26 : Int32)
  · rw [if_pos c26]; exact case_26 C hL hi
  rw [if_neg c26]
  by_cases c27 : y = (27 : Int32)
  · rw [if_pos c27]; exact case_27 C
  rw [if_neg c27]
  by_cases c28 : y = (28 : Int32)
  · rw [if_pos c28]; exact case_28 C hL hi
  rw [if_neg c28]
  by_cases c29 : y = (29 : Int32)
  · rw [if_pos c29]; exact case_29 C hL hi
  rw [if_neg c29]
  by_cases c30 : y = (30 : Int32)
  · rw [if_pos c30]; exact case_30 C
  rw [if_neg c30]
  by_cases c31 : y = (31 : Int32)
  · rw [if_pos c31]; exact case_31 C
  rw [if_neg c31]
  by_cases c32 : y = (32 : Int32)
  · rw [if_pos c32]; exact case_32 C hL hi
  rw [if_neg c32]
  by_cases c33 : y = (33 : Int32)
  · rw [if_pos c33]; exact case_33 C
  rw [if_neg c33]
  by_cases c34 : y = (34 : Int32)
  · rw [if_pos c34]; exact case_34 C
  rw [if_neg c34]
  by_cases c35 : y = (35 : Int32)
  · rw [if_pos c35]; exact case_35 C
  rw [if_neg c35]
  by_cases c36 : y = (36 : Int32)
  · rw [if_pos c36]; exact case_36 C
  rw [if_neg c36]
  by_cases c37 : y = (37 : Int32)
  · rw [if_pos c37]; exact case_37 C
  rw [if_neg c37]
  by_cases c38 : y = (38 : Int32)
  · rw [if_pos c38]; exact case_38 C hL hi
  rw [if_neg c38]
  by_cases c39 : y = (39 : Int32)
  · rw [if_pos c39]; exact case_39 C hL hi
  rw [if_neg c39]
  by_cases c40 : y = (40 : Int32)
  · rw [if_pos c40]; exact case_40 C
  rw [if_neg c40]
  by_cases c41 : y = (41 : Int32)
  · rw [if_pos c41]; exact case_41 C hL hi
  rw [if_neg c41]
  by_cases c42 : y = (42 : Int32)
  · rw [if_pos c42]; exact case_42 C hL hi
  rw [if_neg c42]
  by_cases c43 : y = (43 : Int32)
  · rw [if_pos c43]; exact case_43 C hL hi
  rw [if_neg c43]
  by_cases c44 : y = (44 : Int32)
  · rw [if_pos c44]; exact case_44 C hL hi
  rw [if_neg c44]
  by_cases c45 : y = (45 : Int32)
  · rw [if_pos c45]; exact case_45 C
  rw [if_neg c45]
  by_cases c46 : y = (46 : Int32)
  · rw [if_pos c46]; exact case_46 C
  rw [if_neg c46]
  by_cases c47 : y = (47 : Int32)
  · rw [if_pos c47]; exact case_47 C
  rw [if_neg c47]
  by_cases c48 : y = (48 : Int32)
  · rw [if_pos c48]; exact case_48 C
  rw [if_neg c48]
  by_cases c49 : y = (49 : Int32)
  · rw [if_pos c49]; exact case_49 C hL hi
  rw [if_neg c49]
  by_cases c50 : y = (50 : Int32)
  · rw [if_pos c50]; exact case_50 C hL hi
  rw [if_neg c50]
  by_cases c51 : y = (51 : Int32)
  · rw [if_pos c51]; exact case_51 C
  rw [if_neg c51]
  by_cases c52 : y = (52 : Int32)
  · rw [if_pos c52]; exact case_52 C
  rw [if_neg c52]
  by_cases c53 : y = (53 : Int32)
  · rw [if_pos c53]; exact case_53 C hL hi
  rw [if_neg c53]
  by_cases c54 : y = (54 : Int32)
  · rw [if_pos c54]; exact case_54 C hL hi
  rw [if_neg c54]
  by_cases c55 : y = (55 : Int32)
  · rw [if_pos c55]; exact case_55 C
  rw [if_neg c55]
  by_cases c56 : y = (56 : Int32)
  · rw [if_pos c56]; exact case_56 C hL hi
  rw [if_neg c56]
  by_cases c57 : y = (57 : Int32)
  · rw [if_pos c57]; exact case_57 C
  rw [if_neg c57]
  by_cases c58 : y = (58 : Int32)
  · rw [if_pos c58]; exact case_58 C hL hi
  rw [if_neg c58]
  rw [if_pos (lc_rest c0 c1 c2 c3 c4 c5 c6 c7 c8 c9 c10 c11 c12 c13 c14 c15 c16 c17 c18 c19 c20 c21 c22 c23 c24 c25 c26 c27 c28 c29 c30 c31 c32 c33 c34 c35 c36 c37 c38 c39 c40 c41 c42 c43 c44 c45 c46 c47 c48 c49 c50 c51 c52 c53 c54 c55 c56 c57 c58)]
  exact case_x C
theorem nI_sub6 {L i : Nat} (hL : L ≤ 144) (hi : i ≤ 144) : (nI L - (6 : Int32) < nI i) ↔ L < i + 6 := by
  rw [Int32.lt_iff_toInt_lt, Int32.toInt_sub, nI_toInt (by omega), nI_toInt (by omega)]
  show Int.bmod ((L : Int) - 6) (2 ^ 32) < (i : Int) ↔ _
  rw [Int.bmod_eq_of_le (by omega) (by omega)]
  omega
theorem law_loop (hL : L ≤ 144) (h1 : gx_apt D) (h2 : gx_apt2 D) : ∀ (m f i N : Nat) (h : HX) (s : MS) (A : AT), L < i + 6 * (m + 1) → m < f → N + 31 * m < 9000 → i ≤ 144 → LI D o p0 L xs Y N h s A → ∃ h' s', f_L_law_b23 D o f (h, s) (some p0) (some Y.1) (some Y.2.2.2.2.2.2.2.2) (nI i) = some (true, mh h' o s') ∧ bnd h h' (16300 * m) (195600 * m)
  | m, 0, i, N, h, s, A, _, hf, _, _, _ => absurd hf (by omega)
  | m, f + 1, i, N, h, s, A, hm, hf, hN, hi, H => by
    have C := H.fz h1 h2
    have len : hx_len (law_fz h (some Y.1) (some Y.2.2.2.2.2.2.2.2)) p0 = some (nI L) := (hx_oi.mk C.2.2.2.2.1).len
    show ∃ h' s', f_L_law_it D o (f_L_law_b23 D o f) (law_fz h (some Y.1) (some Y.2.2.2.2.2.2.2.2), s) (some p0) (some Y.1) (some Y.2.2.2.2.2.2.2.2) (nI i) = _ ∧ _
    by_cases c : L < i + 6
    · refine ⟨law_fz h (some Y.1) (some Y.2.2.2.2.2.2.2.2), s, ?_, bnd.rf⟩
      rw [lc_end len ((nI_sub6 hL hi).2 c)]
    · have a0 := (scr_at C.2.2.2.2.1 hL (show i + 6 ≤ L by omega)).1
      obtain ⟨h3, s3, A3, e3, H3, B3⟩ := law_go (k := f_L_law_b23 D o f) C hL (show i + 6 ≤ L by omega) (by omega) (xs i &&& (63 : Int32))
      cases m with
      | zero => omega
      | succ m =>
        obtain ⟨h4, s4, e4, B4⟩ := law_loop hL h1 h2 m f (i + 6) (N + 31) h3 s3 A3 (by omega) (by omega) (by omega) (by omega) H3
        refine ⟨h4, s4, ?_, ?_⟩
        · rw [lc_it len (fun q => c ((nI_sub6 hL hi).1 q)) a0, e3, show (6 : Int32) = nI 6 from rfl, nI_add]
          exact e4
        · obtain ⟨b1, b2, b3, b4⟩ := B3
          obtain ⟨d1, d2, d3, d4⟩ := B4
          have b1 : h.1 ≤ h3.1 := b1
          have b2 : h3.1 ≤ h.1 + 16300 := b2
          have b3 : h.2.1 ≤ h3.2.1 := b3
          have b4 : h3.2.1 ≤ h.2.1 + 195600 := b4
          exact ⟨by omega, by omega, by omega, by omega⟩
end LWG
