/-! the model's array while a setup is read -/
set_option maxRecDepth 100000
set_option linter.unusedSimpArgs false
def mSP (w : Nat → Int32) (S : SP) : Prop := m_df w S.1 ∧ m_ivs w S.2 ∧ ∀ k, (5 ≤ k ∧ k < 9) ∨ (12 ≤ k ∧ k < 93) → w k = 0
def sp_nc (S : SP) : Prop := sp_ok S ∧ nc_ok S.1.sn ∧ nc_ok S.1.en ∧ nc_ok S.1.vn
theorem mSP.sn {w : Nat → Int32} {S : SP} (H : mSP w S) (K : sp_nc S) : mnL w 357 0 S.1.sn := ⟨H.1.2.2.2.2.1, H.1.1, by decide, K.1.1.1, by have := K.1.1.1; omega, K.1.2.1.1, K.2.1⟩
theorem mSP.en {w : Nat → Int32} {S : SP} (H : mSP w S) (K : sp_nc S) : mnL w 427 1 S.1.en := ⟨H.1.2.2.2.2.2.1, H.1.2.1, by decide, by have := K.1.1.2.1; omega, by have := K.1.1.2.1; omega, K.1.2.1.2.1, K.2.2.1⟩
theorem mSP.vn {w : Nat → Int32} {S : SP} (H : mSP w S) (K : sp_nc S) : mnL w 483 2 S.1.vn := ⟨H.1.2.2.2.2.2.2.1, H.1.2.2.1, by decide, by have := K.1.1.2.2.1; omega, by have := K.1.1.2.2.1; omega, K.1.2.1.2.2, K.2.2.2⟩
theorem m_nm_ext {w w' : Nat → Int32} {c : Nat} {xs : List (List Nat)} (h : m_nm w c xs) (hn : nm_ok xs) (k : ∀ i, c ≤ i → i < c + 7 * xs.length → w' i = w i) : m_nm w' c xs := fun j x hj => by
  obtain ⟨h1, h2⟩ := h j x hj
  have hlt := (List.getElem?_eq_some_iff.1 hj).1
  have := (hn x (List.mem_of_getElem? hj)).2
  refine ⟨by rw [k _ (by omega) (by omega)]; exact h1, fun i y hi => ?_⟩
  have := (List.getElem?_eq_some_iff.1 hi).1
  rw [k _ (by omega) (by omega)]
  exact h2 i y hi
theorem m_tr_ext {w w' : Nat → Int32} {c : Nat} {t : TR} (h : m_tr w c t) (k : ∀ i, c ≤ i → i < c + 9 → w' i = w i) : m_tr w' c t := by
  obtain ⟨t1, t2, t3, t4, t5⟩ := h
  refine ⟨by rw [k _ (by omega) (by omega)]; exact t1, by rw [k _ (by omega) (by omega)]; exact t2, by rw [k _ (by omega) (by omega)]; exact t3, ?_, ?_⟩
  · revert t4
    cases t.2.2.2.1 with
    | none => intro h; show w' _ = _; rw [k _ (by omega) (by omega)]; exact h
    | some p => intro h; show w' _ = _ ∧ w' _ = _ ∧ w' _ = _; rw [k _ (by omega) (by omega), k _ (by omega) (by omega), k _ (by omega) (by omega)]; exact h
  · revert t5
    cases t.2.2.2.2 with
    | none => intro h; show w' _ = _; rw [k _ (by omega) (by omega)]; exact h
    | some p => intro h; show w' _ = _ ∧ w' _ = _ ∧ w' _ = _; rw [k _ (by omega) (by omega), k _ (by omega) (by omega), k _ (by omega) (by omega)]; exact h
theorem m_trs_ext {w w' : Nat → Int32} {ts : List TR} (h : m_trs w ts) (k : ∀ i, i = 3 ∨ (93 ≤ i ∧ i < 93 + 9 * ts.length) → w' i = w i) : m_trs w' ts := ⟨by rw [k 3 (by omega)]; exact h.1, fun j t hj => by
  have hlt := (List.getElem?_eq_some_iff.1 hj).1
  exact m_tr_ext (h.2 j t hj) (fun i h1 h2 => k i (by omega))⟩
theorem m_nm_snoc {w w' : Nat → Int32} {c : Nat} {xs : List (List Nat)} {x : List Nat} (h : m_nm w c xs) (hn : nm_ok xs) (k : ∀ i, c ≤ i → i < c + 7 * xs.length → w' i = w i) (e1 : w' (c + 7 * xs.length) = nI x.length) (e2 : ∀ i y, x[i]? = some y → w' (c + 7 * xs.length + 1 + i) = nI y) : m_nm w' c (xs ++ [x]) := fun j y hj => by
  by_cases e : j < xs.length
  · rw [List.getElem?_append_left e] at hj
    exact m_nm_ext h hn k j y hj
  · rw [List.getElem?_append_right (by omega)] at hj
    obtain ⟨y1, y2⟩ := List.getElem?_eq_some_iff.1 hj
    simp only [List.length_singleton] at y1
    have c4 : j = xs.length := by omega
    simp only [show j - xs.length = 0 by omega, List.getElem_singleton] at y2
    subst y2 c4
    exact ⟨e1, e2⟩
theorem m_trs_snoc {w w' : Nat → Int32} {ts : List TR} {t : TR} (h : m_trs w ts) (k : ∀ i, 93 ≤ i → i < 93 + 9 * ts.length → w' i = w i) (e3 : w' 3 = nI (ts.length + 1)) (e1 : m_tr w' (93 + 9 * ts.length) t) : m_trs w' (ts ++ [t]) := by
  refine ⟨by rw [e3, List.length_append, List.length_singleton], fun j y hj => ?_⟩
  by_cases e : j < ts.length
  · rw [List.getElem?_append_left e] at hj
    exact m_tr_ext (h.2 j y hj) (fun i h1 h2 => k i (by omega) (by omega))
  · rw [List.getElem?_append_right (by omega)] at hj
    obtain ⟨y1, y2⟩ := List.getElem?_eq_some_iff.1 hj
    simp only [List.length_singleton] at y1
    have c4 : j = ts.length := by omega
    simp only [show j - ts.length = 0 by omega, List.getElem_singleton] at y2
    subst y2 c4
    exact e1
section MSS
variable {w w' : Nat → Int32} {S : SP}
theorem mSP.addS {x : List Nat} (H : mSP w S) (K : sp_nc S) (hl : S.1.sn.length < 10) (k : ∀ i, i ≠ 0 → (i < 357 + 7 * S.1.sn.length ∨ 357 + 7 * S.1.sn.length + 7 ≤ i) → w' i = w i) (e0 : w' 0 = nI (S.1.sn.length + 1)) (e1 : w' (357 + 7 * S.1.sn.length) = nI x.length) (e2 : ∀ i y, x[i]? = some y → w' (357 + 7 * S.1.sn.length + 1 + i) = nI y) : mSP w' ((S.1.sn ++ [x], S.1.en, S.1.vn, S.1.ts, S.1.ini), S.2) := by
  obtain ⟨⟨q0, q1, q2, q3, q4, q5, q6, q7⟩, q8, q9⟩ := H
  obtain ⟨⟨⟨l1, l2, l3, l4, l5⟩, ⟨n1, n2, n3⟩, _⟩, _⟩ := K
  refine ⟨⟨?_, (k 1 (by decide) (by omega)).trans q1, (k 2 (by decide) (by omega)).trans q2, m_trs_ext (ts := S.1.ts) q3 (fun i hi => k i (by omega) (by omega)), m_nm_snoc q4 n1 (fun i h1 h2 => k i (by omega) (by omega)) e1 e2, m_nm_ext (xs := S.1.en) q5 n2 (fun i h1 h2 => k i (by omega) (by omega)), m_nm_ext (xs := S.1.vn) q6 n3 (fun i h1 h2 => k i (by omega) (by omega)), fun v hv => (k _ (by omega) (by omega)).trans (q7 v hv)⟩, m_ivs_ext (is := S.2) q8 l5 (fun i hi => k i (by omega) (by omega)), fun i hi => (k i (by omega) (by omega)).trans (q9 i hi)⟩
  show w' 0 = nI (S.1.sn ++ [x]).length
  rw [e0, List.length_append, List.length_singleton]
theorem mSP.addE {x : List Nat} (H : mSP w S) (K : sp_nc S) (hl : S.1.en.length < 8) (k : ∀ i, i ≠ 1 → (i < 427 + 7 * S.1.en.length ∨ 427 + 7 * S.1.en.length + 7 ≤ i) → w' i = w i) (e0 : w' 1 = nI (S.1.en.length + 1)) (e1 : w' (427 + 7 * S.1.en.length) = nI x.length) (e2 : ∀ i y, x[i]? = some y → w' (427 + 7 * S.1.en.length + 1 + i) = nI y) : mSP w' ((S.1.sn, S.1.en ++ [x], S.1.vn, S.1.ts, S.1.ini), S.2) := by
  obtain ⟨⟨q0, q1, q2, q3, q4, q5, q6, q7⟩, q8, q9⟩ := H
  obtain ⟨⟨⟨l1, l2, l3, l4, l5⟩, ⟨n1, n2, n3⟩, _⟩, _⟩ := K
  refine ⟨⟨(k 0 (by decide) (by omega)).trans q0, ?_, (k 2 (by decide) (by omega)).trans q2, m_trs_ext (ts := S.1.ts) q3 (fun i hi => k i (by omega) (by omega)), m_nm_ext (xs := S.1.sn) q4 n1 (fun i h1 h2 => k i (by omega) (by omega)), m_nm_snoc q5 n2 (fun i h1 h2 => k i (by omega) (by omega)) e1 e2, m_nm_ext (xs := S.1.vn) q6 n3 (fun i h1 h2 => k i (by omega) (by omega)), fun v hv => (k _ (by omega) (by omega)).trans (q7 v hv)⟩, m_ivs_ext (is := S.2) q8 l5 (fun i hi => k i (by omega) (by omega)), fun i hi => (k i (by omega) (by omega)).trans (q9 i hi)⟩
  show w' 1 = nI (S.1.en ++ [x]).length
  rw [e0, List.length_append, List.length_singleton]
theorem mSP.addV {x : List Nat} {v : Nat} (H : mSP w S) (K : sp_nc S) (hl : S.1.vn.length < 3) (k : ∀ i, i ≠ 2 → i ≠ 9 + S.1.vn.length → (i < 483 + 7 * S.1.vn.length ∨ 483 + 7 * S.1.vn.length + 7 ≤ i) → w' i = w i) (e0 : w' 2 = nI (S.1.vn.length + 1)) (e1 : w' (483 + 7 * S.1.vn.length) = nI x.length) (e2 : ∀ i y, x[i]? = some y → w' (483 + 7 * S.1.vn.length + 1 + i) = nI y) (e3 : w' (9 + S.1.vn.length) = nI v) : mSP w' ((S.1.sn, S.1.en, S.1.vn ++ [x], S.1.ts, cf_set S.1.ini S.1.vn.length v), S.2) := by
  obtain ⟨⟨q0, q1, q2, q3, q4, q5, q6, q7⟩, q8, q9⟩ := H
  obtain ⟨⟨⟨l1, l2, l3, l4, l5⟩, ⟨n1, n2, n3⟩, _⟩, _⟩ := K
  refine ⟨⟨(k 0 (by decide) (by omega) (by omega)).trans q0, (k 1 (by decide) (by omega) (by omega)).trans q1, ?_, m_trs_ext (ts := S.1.ts) q3 (fun i hi => k i (by omega) (by omega) (by omega)), m_nm_ext (xs := S.1.sn) q4 n1 (fun i h1 h2 => k i (by omega) (by omega) (by omega)), m_nm_ext (xs := S.1.en) q5 n2 (fun i h1 h2 => k i (by omega) (by omega) (by omega)), m_nm_snoc q6 n3 (fun i h1 h2 => k i (by omega) (by omega) (by omega)) e1 e2, fun j hj => ?_⟩, m_ivs_ext (is := S.2) q8 l5 (fun i hi => k i (by omega) (by omega) (by omega)), fun i hi => (k i (by omega) (by omega) (by omega)).trans (q9 i hi)⟩
  · show w' 2 = nI (S.1.vn ++ [x]).length
    rw [e0, List.length_append, List.length_singleton]
  · show w' (9 + j) = nI (cf_val (cf_set S.1.ini S.1.vn.length v) j)
    obtain ⟨m, hm⟩ : ∃ m, m = S.1.vn.length := ⟨_, rfl⟩
    rw [← hm] at hl e3 ⊢
    by_cases c : j = m
    · subst c
      rw [e3]
      match j, hl with
      | 0, _ => rfl
      | 1, _ => rfl
      | 2, _ => rfl
      | n + 3, h => omega
    · rw [k _ (by omega) (by omega) (by omega), q7 j hj]
      match m, j, hl, hj with
      | 0, 1, _, _ => rfl
      | 0, 2, _, _ => rfl
      | 1, 0, _, _ => rfl
      | 1, 2, _, _ => rfl
      | 2, 0, _, _ => rfl
      | 2, 1, _, _ => rfl
      | 0, 0, _, _ => exact absurd rfl c
      | 1, 1, _, _ => exact absurd rfl c
      | 2, 2, _, _ => exact absurd rfl c
      | n + 3, _, h, _ => omega
      | _, n + 3, _, h => omega
theorem mSP.addT {t : TR} (H : mSP w S) (K : sp_nc S) (hl : S.1.ts.length < 24) (k : ∀ i, i ≠ 3 → (i < 93 + 9 * S.1.ts.length ∨ 93 + 9 * S.1.ts.length + 9 ≤ i) → w' i = w i) (e3 : w' 3 = nI (S.1.ts.length + 1)) (e1 : m_tr w' (93 + 9 * S.1.ts.length) t) : mSP w' ((S.1.sn, S.1.en, S.1.vn, S.1.ts ++ [t], S.1.ini), S.2) := by
  obtain ⟨⟨q0, q1, q2, q3, q4, q5, q6, q7⟩, q8, q9⟩ := H
  obtain ⟨⟨⟨l1, l2, l3, l4, l5⟩, ⟨n1, n2, n3⟩, _⟩, _⟩ := K
  exact ⟨⟨(k 0 (by decide) (by omega)).trans q0, (k 1 (by decide) (by omega)).trans q1, (k 2 (by decide) (by omega)).trans q2, m_trs_snoc q3 (fun i h1 h2 => k i (by omega) (by omega)) e3 e1, m_nm_ext (xs := S.1.sn) q4 n1 (fun i h1 h2 => k i (by omega) (by omega)), m_nm_ext (xs := S.1.en) q5 n2 (fun i h1 h2 => k i (by omega) (by omega)), m_nm_ext (xs := S.1.vn) q6 n3 (fun i h1 h2 => k i (by omega) (by omega)), fun v hv => (k _ (by omega) (by omega)).trans (q7 v hv)⟩, m_ivs_ext (is := S.2) q8 l5 (fun i hi => k i (by omega) (by omega)), fun i hi => (k i (by omega) (by omega)).trans (q9 i hi)⟩
theorem mSP.addI {i0 : IV} (H : mSP w S) (K : sp_nc S) (hl : S.2.length < 12) (k : ∀ i, i ≠ 4 → (i < 309 + 4 * S.2.length ∨ 309 + 4 * S.2.length + 4 ≤ i) → w' i = w i) (e3 : w' 4 = nI (S.2.length + 1)) (e1 : m_iv w' (309 + 4 * S.2.length) i0) : mSP w' (S.1, S.2 ++ [i0]) := by
  obtain ⟨⟨q0, q1, q2, q3, q4, q5, q6, q7⟩, ⟨q8, q8'⟩, q9⟩ := H
  obtain ⟨⟨⟨l1, l2, l3, l4, l5⟩, ⟨n1, n2, n3⟩, _⟩, _⟩ := K
  refine ⟨⟨(k 0 (by decide) (by omega)).trans q0, (k 1 (by decide) (by omega)).trans q1, (k 2 (by decide) (by omega)).trans q2, m_trs_ext (ts := S.1.ts) q3 (fun i hi => k i (by omega) (by omega)), m_nm_ext (xs := S.1.sn) q4 n1 (fun i h1 h2 => k i (by omega) (by omega)), m_nm_ext (xs := S.1.en) q5 n2 (fun i h1 h2 => k i (by omega) (by omega)), m_nm_ext (xs := S.1.vn) q6 n3 (fun i h1 h2 => k i (by omega) (by omega)), fun v hv => (k _ (by omega) (by omega)).trans (q7 v hv)⟩, ⟨?_, fun j y hj => ?_⟩, fun i hi => (k i (by omega) (by omega)).trans (q9 i hi)⟩
  · show w' 4 = nI (S.2 ++ [i0]).length
    rw [e3, List.length_append, List.length_singleton]
  · have hj : (S.2 ++ [i0])[j]? = some y := hj
    by_cases e : j < S.2.length
    · rw [List.getElem?_append_left e] at hj
      obtain ⟨t1, t2, t3, t4⟩ := q8' j y hj
      exact ⟨(k _ (by omega) (by omega)).trans t1, (k _ (by omega) (by omega)).trans t2, (k _ (by omega) (by omega)).trans t3, (k _ (by omega) (by omega)).trans t4⟩
    · rw [List.getElem?_append_right (by omega)] at hj
      obtain ⟨y1, y2⟩ := List.getElem?_eq_some_iff.1 hj
      simp only [List.length_singleton] at y1
      have c4 : j = S.2.length := by omega
      simp only [show j - S.2.length = 0 by omega, List.getElem_singleton] at y2
      subst y2 c4
      exact e1
end MSS
section MSO
variable {D : gx_D} {b : HX} {o p : Nat} {s : MS} {ib : List Nat} {S : SP}
theorem mw_F {s : MS} {w : Nat → Int32} : mfq [0] s (mw s w) := ⟨⟨fun _ _ => rfl, fun h => ⟨h, rfl⟩⟩, fun q hq => if_neg (by simpa using hq)⟩
theorem MT.w (T : MT s ib p) (w : Nat → Int32) : MT (mw s w) ib p := T.mov (V := [0]) mw_F (by decide) (fun _ _ _ => rfl)
theorem mw_2' {s : MS} {w : Nat → Int32} {q : Nat} (h : q ≠ 0) : (mw s w).2 q = s.2 q := if_neg h
theorem mw_x {s : MS} {k : Nat} {x y : Int32} (hx : x = nI k) (hk : k < 504) : ms_si s 0 x y = some (mw s (upd (s.2 0) k y)) := by
  have := mw_w (s := s) (w := s.2 0) (y := y) hx hk
  rw [← mw_s] at this
  exact this
theorem mw_y {s : MS} {w : Nat → Int32} {k : Nat} {x y : Int32} (hx : x = nI k) (hk : k < 504) : ms_si (mw s w) 0 x y = some (mw s (upd w k y)) := mw_w hx hk
theorem m_leads (H : mSP (s.2 0) S) (K : sp_nc S) (hl : S.1.ts.length < 24) (a e t : Nat) : ∃ w, f_X9_leads D b o s (nI a) (nI e) (nI t) = some (mw s w) ∧ mSP w ((S.1.sn, S.1.en, S.1.vn, S.1.ts ++ [(a, e, t, none, none)], S.1.ini), S.2) := by
  obtain ⟨L, hL⟩ : ∃ L, L = S.1.ts.length := ⟨_, rfl⟩
  have w3 := H.1.2.2.2.1.1
  have ix : ∀ k, (93 : Int32) + 9 * nI L + nI k = nI (93 + 9 * L + k) := fun k => by rw [show (93 : Int32) = nI 93 from rfl, show (9 : Int32) = nI 9 from rfl, pk_mul, nI_add, nI_add]
  have u3 : upd (upd (upd (upd (upd (s.2 0) (93 + 9 * L + 0) (nI a)) (93 + 9 * L + 1) (nI e)) (93 + 9 * L + 2) (nI t)) (93 + 9 * L + 3) (-1)) (93 + 9 * L + 6) (-1) 3 = nI L := by
    rw [pk_un (by omega), pk_un (by omega), pk_un (by omega), pk_un (by omega), pk_un (by omega), w3, hL]
  refine ⟨upd (upd (upd (upd (upd (upd (s.2 0) (93 + 9 * L + 0) (nI a)) (93 + 9 * L + 1) (nI e)) (93 + 9 * L + 2) (nI t)) (93 + 9 * L + 3) (-1)) (93 + 9 * L + 6) (-1)) 3 (nI (L + 1)), ?_, ?_⟩
  · unfold f_X9_leads
    rw [ms_w (x := 3) (k := 3) rfl (by decide), Option.bind_some, w3, ← hL, show (93 : Int32) + 9 * nI L + 0 = nI (93 + 9 * L + 0) from ix 0, show (93 : Int32) + 9 * nI L + 1 = nI (93 + 9 * L + 1) from ix 1, show (93 : Int32) + 9 * nI L + 2 = nI (93 + 9 * L + 2) from ix 2, show (93 : Int32) + 9 * nI L + 3 = nI (93 + 9 * L + 3) from ix 3, show (93 : Int32) + 9 * nI L + 6 = nI (93 + 9 * L + 6) from ix 6, mw_x rfl (by omega), Option.bind_some, mw_y rfl (by omega), Option.bind_some, mw_y rfl (by omega), Option.bind_some, mw_y rfl (by omega), Option.bind_some, mw_y rfl (by omega), Option.bind_some, mw_r (x := 3) (k := 3) rfl (by decide), Option.bind_some, u3, nI_1, mw_y (x := 3) (k := 3) rfl (by decide), Option.bind_some]
  · refine H.addT K hl (fun i h3 hi => ?_) ?_ ?_
    · rw [← hL] at hi
      rw [pk_un h3, pk_un (by omega), pk_un (by omega), pk_un (by omega), pk_un (by omega), pk_un (by omega)]
    · rw [pk_us, ← hL]
    · rw [← hL]
      refine ⟨?_, ?_, ?_, ?_, ?_⟩
      · rw [pk_un (by omega), pk_un (by omega), pk_un (by omega), pk_un (by omega), pk_un (by omega), Nat.add_zero, pk_us]
      · rw [pk_un (by omega), pk_un (by omega), pk_un (by omega), pk_un (by omega), pk_us]
      · rw [pk_un (by omega), pk_un (by omega), pk_un (by omega), pk_us]
      · show upd _ _ _ (93 + 9 * L + 3) = -1
        rw [pk_un (by omega), pk_un (by omega), pk_us]
      · show upd _ _ _ (93 + 9 * L + 6) = -1
        rw [pk_un (by omega), pk_us]
theorem snoc_get {α : Type} {xs : List α} {x y : α} {j : Nat} (hj : (xs ++ [x])[j]? = some y) : (j < xs.length ∧ xs[j]? = some y) ∨ (j = xs.length ∧ y = x) := by
  by_cases e : j < xs.length
  · rw [List.getElem?_append_left e] at hj
    exact Or.inl ⟨e, hj⟩
  · rw [List.getElem?_append_right (by omega)] at hj
    obtain ⟨y1, y2⟩ := List.getElem?_eq_some_iff.1 hj
    simp only [List.length_singleton] at y1
    simp only [show j - xs.length = 0 by omega, List.getElem_singleton] at y2
    exact Or.inr ⟨by omega, y2.symm⟩
/-- the latest transition changed -/
theorem mSP.lastT {w w' : Nat → Int32} {F : DF} {is : List IV} {ts : List TR} {t t' : TR} (H : mSP w ((F.sn, F.en, F.vn, ts ++ [t], F.ini), is)) (K : sp_nc (F, is)) (hl : ts.length < 24) (k : ∀ i, (i < 93 + 9 * ts.length ∨ 93 + 9 * ts.length + 9 ≤ i) → w' i = w i) (e1 : m_tr w' (93 + 9 * ts.length) t') : mSP w' ((F.sn, F.en, F.vn, ts ++ [t'], F.ini), is) := by
  obtain ⟨⟨q0, q1, q2, ⟨q3, q3'⟩, q4, q5, q6, q7⟩, q8, q9⟩ := H
  obtain ⟨⟨⟨l1, l2, l3, l4, l5⟩, ⟨n1, n2, n3⟩, _⟩, _⟩ := K
  refine ⟨⟨(k 0 (by omega)).trans q0, (k 1 (by omega)).trans q1, (k 2 (by omega)).trans q2, ⟨?_, fun j y hj => ?_⟩, m_nm_ext (xs := F.sn) q4 n1 (fun i h1 h2 => k i (by omega)), m_nm_ext (xs := F.en) q5 n2 (fun i h1 h2 => k i (by omega)), m_nm_ext (xs := F.vn) q6 n3 (fun i h1 h2 => k i (by omega)), fun v hv => (k _ (by omega)).trans (q7 v hv)⟩, m_ivs_ext q8 l5 (fun i hi => k i (by omega)), fun i hi => (k i (by omega)).trans (q9 i hi)⟩
  · rw [k 3 (by omega), q3]
    show nI (ts ++ [t]).length = nI (ts ++ [t']).length
    rw [List.length_append, List.length_append]
    rfl
  · rcases snoc_get hj with ⟨h1, h2⟩ | ⟨rfl, rfl⟩
    · exact m_tr_ext (q3' j y (by rw [← h2]; exact List.getElem?_append_left h1)) (fun i a b => k i (by omega))
    · exact e1
theorem m_lastix {L : Nat} (c : Nat) : (93 : Int32) + 9 * (nI (L + 1) - 1) + nI c = nI (93 + 9 * L + c) := by
  rw [show (93 : Int32) = nI 93 from rfl, show (9 : Int32) = nI 9 from rfl, show (1 : Int32) = nI 1 from rfl, pk_sub (by omega), pk_mul, nI_add, nI_add]
  rfl
theorem m_guards {F : DF} {is : List IV} {ts : List TR} {a e t : Nat} {g : CP} {ac : Option AC} (H : mSP (s.2 0) ((F.sn, F.en, F.vn, ts ++ [(a, e, t, none, ac)], F.ini), is)) (K : sp_nc (F, is)) (hl : ts.length < 24) : ∃ w, f_X9_guards D b o s (nI g.1) (nI g.2.1) (nI g.2.2) = some (mw s w) ∧ mSP w ((F.sn, F.en, F.vn, ts ++ [(a, e, t, some g, ac)], F.ini), is) := by
  obtain ⟨L, hL⟩ : ∃ L, L = ts.length := ⟨_, rfl⟩
  have w3 : s.2 0 3 = nI (L + 1) := by rw [hL]; exact H.1.2.2.2.1.1.trans (by show nI (ts ++ [_]).length = _; rw [List.length_append]; rfl)
  refine ⟨upd (upd (upd (s.2 0) (93 + 9 * L + 3) (nI g.1)) (93 + 9 * L + 4) (nI g.2.1)) (93 + 9 * L + 5) (nI g.2.2), ?_, ?_⟩
  · unfold f_X9_guards
    rw [ms_w (x := 3) (k := 3) rfl (by decide), Option.bind_some, w3, show (93 : Int32) + 9 * (nI (L + 1) - 1) + 3 = nI (93 + 9 * L + 3) from m_lastix 3, show (93 : Int32) + 9 * (nI (L + 1) - 1) + 4 = nI (93 + 9 * L + 4) from m_lastix 4, show (93 : Int32) + 9 * (nI (L + 1) - 1) + 5 = nI (93 + 9 * L + 5) from m_lastix 5, mw_x rfl (by omega), Option.bind_some, mw_y rfl (by omega), Option.bind_some, mw_y rfl (by omega), Option.bind_some]
  · have old := H.1.2.2.2.1.2 L _ (by rw [hL]; show (ts ++ [_])[ts.length]? = _; rw [List.getElem?_append_right (Nat.le_refl _), Nat.sub_self]; rfl)
    obtain ⟨t1, t2, t3, t4, t5⟩ := old
    refine H.lastT K hl (fun i hi => ?_) ?_
    · rw [← hL] at hi
      rw [pk_un (by omega), pk_un (by omega), pk_un (by omega)]
    · rw [← hL]
      have un : ∀ i, i < 93 + 9 * L + 3 ∨ 93 + 9 * L + 6 ≤ i → upd (upd (upd (s.2 0) (93 + 9 * L + 3) (nI g.1)) (93 + 9 * L + 4) (nI g.2.1)) (93 + 9 * L + 5) (nI g.2.2) i = s.2 0 i := fun i hi => by rw [pk_un (by omega), pk_un (by omega), pk_un (by omega)]
      refine ⟨(un _ (by omega)).trans t1, (un _ (by omega)).trans t2, (un _ (by omega)).trans t3, ⟨?_, ?_, ?_⟩, ?_⟩
      · rw [pk_un (by omega), pk_un (by omega), pk_us]
      · rw [pk_un (by omega), pk_us]
      · rw [pk_us]
      · revert t5
        cases ac with
        | none => intro h; show upd _ _ _ _ = _; rw [un _ (by omega)]; exact h
        | some q => intro h; show upd _ _ _ _ = _ ∧ upd _ _ _ _ = _ ∧ upd _ _ _ _ = _; rw [un _ (by omega), un _ (by omega), un _ (by omega)]; exact h
theorem m_acts {F : DF} {is : List IV} {ts : List TR} {a e t : Nat} {g : Option CP} {ac : AC} (H : mSP (s.2 0) ((F.sn, F.en, F.vn, ts ++ [(a, e, t, g, none)], F.ini), is)) (K : sp_nc (F, is)) (hl : ts.length < 24) : ∃ w, f_X9_acts D b o s (nI ac.1) (nI ac.2.1) (nI ac.2.2) = some (mw s w) ∧ mSP w ((F.sn, F.en, F.vn, ts ++ [(a, e, t, g, some ac)], F.ini), is) := by
  obtain ⟨L, hL⟩ : ∃ L, L = ts.length := ⟨_, rfl⟩
  have w3 : s.2 0 3 = nI (L + 1) := by rw [hL]; exact H.1.2.2.2.1.1.trans (by show nI (ts ++ [_]).length = _; rw [List.length_append]; rfl)
  refine ⟨upd (upd (upd (s.2 0) (93 + 9 * L + 6) (nI ac.1)) (93 + 9 * L + 7) (nI ac.2.1)) (93 + 9 * L + 8) (nI ac.2.2), ?_, ?_⟩
  · unfold f_X9_acts
    rw [ms_w (x := 3) (k := 3) rfl (by decide), Option.bind_some, w3, show (93 : Int32) + 9 * (nI (L + 1) - 1) + 6 = nI (93 + 9 * L + 6) from m_lastix 6, show (93 : Int32) + 9 * (nI (L + 1) - 1) + 7 = nI (93 + 9 * L + 7) from m_lastix 7, show (93 : Int32) + 9 * (nI (L + 1) - 1) + 8 = nI (93 + 9 * L + 8) from m_lastix 8, mw_x rfl (by omega), Option.bind_some, mw_y rfl (by omega), Option.bind_some, mw_y rfl (by omega), Option.bind_some]
  · have old := H.1.2.2.2.1.2 L _ (by rw [hL]; show (ts ++ [_])[ts.length]? = _; rw [List.getElem?_append_right (Nat.le_refl _), Nat.sub_self]; rfl)
    obtain ⟨t1, t2, t3, t4, t5⟩ := old
    refine H.lastT K hl (fun i hi => ?_) ?_
    · rw [← hL] at hi
      rw [pk_un (by omega), pk_un (by omega), pk_un (by omega)]
    · rw [← hL]
      have un : ∀ i, i < 93 + 9 * L + 6 → upd (upd (upd (s.2 0) (93 + 9 * L + 6) (nI ac.1)) (93 + 9 * L + 7) (nI ac.2.1)) (93 + 9 * L + 8) (nI ac.2.2) i = s.2 0 i := fun i hi => by rw [pk_un (by omega), pk_un (by omega), pk_un (by omega)]
      refine ⟨(un _ (by omega)).trans t1, (un _ (by omega)).trans t2, (un _ (by omega)).trans t3, ?_, ⟨?_, ?_, ?_⟩⟩
      · revert t4
        cases g with
        | none => intro h; show upd _ _ _ _ = _; rw [un _ (by omega)]; exact h
        | some q => intro h; show upd _ _ _ _ = _ ∧ upd _ _ _ _ = _ ∧ upd _ _ _ _ = _; rw [un _ (by omega), un _ (by omega), un _ (by omega)]; exact h
      · rw [pk_un (by omega), pk_un (by omega), pk_us]
      · rw [pk_un (by omega), pk_us]
      · rw [pk_us]
theorem m_keepsS (H : mSP (s.2 0) S) (K : sp_nc S) (hl : S.2.length < 12) (i : Option Nat) (c : CP) : ∃ w x, f_X9_keeps D b o s (oI i) (nI c.1) (nI c.2.1) (nI c.2.2) = some (x, mw s w) ∧ mSP w (S.1, S.2 ++ [(i, c)]) := by
  obtain ⟨L, hL⟩ : ∃ L, L = S.2.length := ⟨_, rfl⟩
  have w4 := H.2.1.1
  have ix : ∀ k, (309 : Int32) + 4 * nI L + nI k = nI (309 + 4 * L + k) := fun k => by rw [show (309 : Int32) = nI 309 from rfl, show (4 : Int32) = nI 4 from rfl, pk_mul, nI_add, nI_add]
  have u4 : upd (upd (upd (upd (s.2 0) (309 + 4 * L + 0) (oI i)) (309 + 4 * L + 1) (nI c.1)) (309 + 4 * L + 2) (nI c.2.1)) (309 + 4 * L + 3) (nI c.2.2) 4 = nI L := by
    rw [pk_un (by omega), pk_un (by omega), pk_un (by omega), pk_un (by omega), w4, hL]
  refine ⟨upd (upd (upd (upd (upd (s.2 0) (309 + 4 * L + 0) (oI i)) (309 + 4 * L + 1) (nI c.1)) (309 + 4 * L + 2) (nI c.2.1)) (309 + 4 * L + 3) (nI c.2.2)) 4 (nI (L + 1)), nI (L + 1) - 1, ?_, ?_⟩
  · unfold f_X9_keeps
    rw [ms_w (x := 4) (k := 4) rfl (by decide), Option.bind_some, w4, ← hL, show (309 : Int32) + 4 * nI L + 0 = nI (309 + 4 * L + 0) from ix 0, show (309 : Int32) + 4 * nI L + 1 = nI (309 + 4 * L + 1) from ix 1, show (309 : Int32) + 4 * nI L + 2 = nI (309 + 4 * L + 2) from ix 2, show (309 : Int32) + 4 * nI L + 3 = nI (309 + 4 * L + 3) from ix 3, mw_x rfl (by omega), Option.bind_some, mw_y rfl (by omega), Option.bind_some, mw_y rfl (by omega), Option.bind_some, mw_y rfl (by omega), Option.bind_some, mw_r (x := 4) (k := 4) rfl (by decide), Option.bind_some, u4, nI_1, mw_y (x := 4) (k := 4) rfl (by decide), Option.bind_some, mw_r (x := 4) (k := 4) rfl (by decide), Option.bind_some, pk_us]
  · refine H.addI K hl (fun j h4 hj => ?_) ?_ ?_
    · rw [← hL] at hj
      rw [pk_un h4, pk_un (by omega), pk_un (by omega), pk_un (by omega), pk_un (by omega)]
    · rw [pk_us, ← hL]
    · rw [← hL]
      refine ⟨?_, ?_, ?_, ?_⟩
      · rw [pk_un (by omega), pk_un (by omega), pk_un (by omega), pk_un (by omega), Nat.add_zero, pk_us]
      · rw [pk_un (by omega), pk_un (by omega), pk_un (by omega), pk_us]
      · rw [pk_un (by omega), pk_un (by omega), pk_us]
      · rw [pk_un (by omega), pk_us]
end MSO
