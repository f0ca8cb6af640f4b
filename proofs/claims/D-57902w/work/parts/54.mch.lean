/-! what the model holds between two calls; its changes -/
set_option maxRecDepth 100000
set_option linter.unusedSimpArgs false
def m_hs (s : MS) (F : DF) (hs : List RN) : Prop := s.1 4 = nI hs.length ∧ ∀ (j : Nat) (R : RN), hs[j]? = some R → m_df (fun k => s.2 3 (504 * j + k)) F ∧ m_rn (fun k => s.2 3 (504 * j + k)) R
def m_sv (s : MS) (F : DF) : Option RN → Prop
  | none => s.1 5 = 0
  | some R => s.1 5 = 1 ∧ m_df (s.2 2) F ∧ m_rn (s.2 2) R
def m_in (s : MS) (ib : List Nat) : Prop := s.1 13 = nI ib.length ∧ ∀ (k b : Nat), ib[k]? = some b → s.2 6 k = nI b
def m_out (s : MS) (ob : List Nat) : Prop := s.1 30 = nI ob.length ∧ ∀ (k c : Nat), ob[k]? = some c → s.2 12 k = nI c
def mI (s : MS) (A : AT) : Prop := m_df (s.2 0) A.1 ∧ m_rn (s.2 0) A.2.1 ∧ m_hs s A.1 A.2.2.2.1 ∧ m_sv s A.1 A.2.2.1 ∧ m_in s A.2.2.2.2.1 ∧ s.1 14 = A.2.2.2.2.2.1 ∧ s.1 15 = A.2.2.2.2.2.2.1 ∧ m_out s A.2.2.2.2.2.2.2
theorem mI.of {a b : MS} {A : AT} (H : mI a A) (h0 : b.2 0 = a.2 0) (h2 : b.2 2 = a.2 2) (h3 : b.2 3 = a.2 3) (h6 : b.2 6 = a.2 6) (h12 : b.2 12 = a.2 12) (k : ∀ j, j = 4 ∨ j = 5 ∨ j = 13 ∨ j = 14 ∨ j = 15 ∨ j = 30 → b.1 j = a.1 j) : mI b A := by
  obtain ⟨q1, q2, q3, q4, q5, q6, q7, q8⟩ := H
  refine ⟨by rw [h0]; exact q1, by rw [h0]; exact q2, ?_, ?_, ?_, by rw [k 14 (by simp)]; exact q6, by rw [k 15 (by simp)]; exact q7, ?_⟩
  · unfold m_hs
    rw [h3, k 4 (by simp)]
    exact q3
  · revert q4
    cases A.2.2.1 with
    | none => intro q; show b.1 5 = 0; rw [k 5 (by simp)]; exact q
    | some R => intro q; show b.1 5 = 1 ∧ m_df (b.2 2) A.1 ∧ m_rn (b.2 2) R; rw [k 5 (by simp), h2]; exact q
  · unfold m_in
    rw [h6, k 13 (by simp)]
    exact q5
  · unfold m_out
    rw [h12, k 30 (by simp)]
    exact q8
theorem mI.q {a b : MS} {A : AT} (H : mI a A) (h : ms_q a b) : mI b A := H.of h.w (h.1 2 (by decide) (by decide) (by decide) (by decide)) (h.1 3 (by decide) (by decide) (by decide) (by decide)) (h.1 6 (by decide) (by decide) (by decide) (by decide)) (h.1 12 (by decide) (by decide) (by decide) (by decide)) (fun j hj => h.2 j (by omega) (by omega) (by omega))
theorem mI.p6 {s : MS} {A : AT} {x : Int32} (H : mI s A) : mI (ms_p s 6 x) A := H.of rfl rfl rfl rfl rfl (fun j hj => ms_p1n (by omega))
theorem mI.M {s : MS} {A : AT} (H : mI s A) (hA : a_ok A) : mM s A.1 A.2.1 := ⟨H.1, H.2.1, hA.1, hA.2.1⟩
theorem m_df_ext {w w' : Nat → Int32} {F : DF} (H : m_df w F) (hF : df_ok F) (k : ∀ i, i < 504 → (i < 4 ∨ (9 ≤ i ∧ i < 12) ∨ (93 ≤ i ∧ i < 309) ∨ 357 ≤ i) → w' i = w i) : m_df w' F := by
  obtain ⟨q0, q1, q2, ⟨q3, q3'⟩, q4, q5, q6, q7⟩ := H
  obtain ⟨⟨_, f1⟩, ⟨_, f2⟩, ⟨_, f3⟩, f4, n1, n2, n3, _⟩ := hF
  have nm : ∀ c m (xs : List (List Nat)), m_nm w c xs → nm_ok xs → xs.length ≤ m → 357 ≤ c → c + 7 * m ≤ 504 → m_nm w' c xs := fun c m xs h hn hl hc hm j x hj => by
    obtain ⟨h1, h2⟩ := h j x hj
    have hlt := (List.getElem?_eq_some_iff.1 hj).1
    have := (hn x (List.mem_of_getElem? hj)).2
    refine ⟨by rw [k _ (by omega) (by omega)]; exact h1, fun i y hi => ?_⟩
    have := (List.getElem?_eq_some_iff.1 hi).1
    rw [k _ (by omega) (by omega)]
    exact h2 i y hi
  refine ⟨by rw [k 0 (by decide) (by omega)]; exact q0, by rw [k 1 (by decide) (by omega)]; exact q1, by rw [k 2 (by decide) (by omega)]; exact q2, ⟨by rw [k 3 (by decide) (by omega)]; exact q3, fun j t hj => ?_⟩, nm 357 10 _ q4 n1 f1 (by decide) (by decide), nm 427 8 _ q5 n2 f2 (by decide) (by decide), nm 483 3 _ q6 n3 f3 (by decide) (by decide), fun v hv => by rw [k _ (by omega) (by omega)]; exact q7 v hv⟩
  have hlt := (List.getElem?_eq_some_iff.1 hj).1
  obtain ⟨t1, t2, t3, t4, t5⟩ := q3' j t hj
  refine ⟨by rw [k _ (by omega) (by omega)]; exact t1, by rw [k _ (by omega) (by omega)]; exact t2, by rw [k _ (by omega) (by omega)]; exact t3, ?_, ?_⟩
  · revert t4
    cases t.2.2.2.1 with
    | none => intro h; show w' _ = _; rw [k _ (by omega) (by omega)]; exact h
    | some p => intro h; show w' _ = _ ∧ w' _ = _ ∧ w' _ = _; rw [k _ (by omega) (by omega), k _ (by omega) (by omega), k _ (by omega) (by omega)]; exact h
  · revert t5
    cases t.2.2.2.2 with
    | none => intro h; show w' _ = _; rw [k _ (by omega) (by omega)]; exact h
    | some p => intro h; show w' _ = _ ∧ w' _ = _ ∧ w' _ = _; rw [k _ (by omega) (by omega), k _ (by omega) (by omega), k _ (by omega) (by omega)]; exact h
theorem m_ivs_ext {w w' : Nat → Int32} {is : List IV} (H : m_ivs w is) (hl : is.length ≤ 12) (k : ∀ i, i = 4 ∨ (309 ≤ i ∧ i < 357) → w' i = w i) : m_ivs w' is := by
  refine ⟨by rw [k 4 (by omega)]; exact H.1, fun j x hj => ?_⟩
  have hlt := (List.getElem?_eq_some_iff.1 hj).1
  obtain ⟨t1, t2, t3, t4⟩ := H.2 j x hj
  exact ⟨by rw [k _ (by omega)]; exact t1, by rw [k _ (by omega)]; exact t2, by rw [k _ (by omega)]; exact t3, by rw [k _ (by omega)]; exact t4⟩
theorem m_rn_ext {w w' : Nat → Int32} {F : DF} {R : RN} (H : m_rn w R) (hR : rn_ok F R) (k : ∀ i, i < 504 → w' i = w i) : m_rn w' R := by
  obtain ⟨q1, q2, q3, q4, q5, q6, q7, q8, q9, q10⟩ := H
  have hl := hR.1
  have ht := hR.2.2.2.2.2.2.2
  refine ⟨m_ivs_ext q1 hl (fun i hi => k i (by omega)), by rw [k 5 (by decide)]; exact q2, fun v hv => by rw [k _ (by omega)]; exact q3 v hv, by rw [k 12 (by decide)]; exact q4, fun j h1 h2 => by rw [k _ (by omega)]; exact q5 j h1 h2, by rw [k 17 (by decide)]; exact q6, by rw [k 18 (by decide)]; exact q7, fun j hj => by rw [k _ (by omega), k _ (by omega)]; exact q8 j hj, fun j hj => by rw [k _ (by omega)]; exact q9 j hj, fun j hj => by rw [k _ (by omega)]; exact q10 j hj⟩
/-- copies of 504 cells -/
theorem m_copies {D : gx_D} {b : HX} {o i j a c : Nat} {s : MS} {x y : Int32} (hx : x = nI a) (hy : y = nI c) (hi : i < 13) (hj : j < 13) (ti : ms_ty i = 0) (tj : ms_ty j = 0) (hij : i ≠ j) (ha : a + 504 ≤ ms_len i) (hc : c + 504 ≤ ms_len j) : ∃ g, f_X9_copies D b o s i x j y = some (s.1, fun q => if q = j then g else s.2 q) ∧ ∀ k, g k = if c ≤ k ∧ k < c + 504 then s.2 i (a + (k - c)) else s.2 j k := by
  subst hx hy
  have l1 := ms_len_lt i
  have l2 := ms_len_lt j
  obtain ⟨z, ⟨g, zz, hz⟩, z2⟩ := gx_lq (F := fun f (z : MS × Int32) => f_X9_copies_b3 D b o f z.1 i (nI a) j (nI c) z.2) (I := fun m z => ∃ g, z = ((s.1, fun q => if q = j then g else s.2 q), nI m) ∧ ∀ k, g k = if c ≤ k ∧ k < c + m then s.2 i (a + (k - c)) else s.2 j k) 504 (by
    intro f m z hm hI
    obtain ⟨g, rfl, hg⟩ := hI
    refine ⟨_, ⟨upd g (c + m) (s.2 i (a + m)), rfl, fun k => ?_⟩, ?_⟩
    · by_cases e : k = c + m
      · subst e
        rw [pk_us, if_pos (by omega), Nat.add_sub_cancel_left]
      · rw [pk_un e, hg k]
        by_cases e2 : c ≤ k ∧ k < c + m
        · rw [if_pos e2, if_pos (by omega)]
        · rw [if_neg e2, if_neg (by omega)]
    · have e1 : ms_ai (s.1, fun q => if q = j then g else s.2 q) i (nI (a + m)) = some (s.2 i (a + m)) := by
        rw [ms_ai_n hi ti (by omega)]
        simp only [if_neg hij]
      have e2 : ms_si (s.1, fun q => if q = j then g else s.2 q) j (nI (c + m)) (s.2 i (a + m)) = some (s.1, fun q => if q = j then upd g (c + m) (s.2 i (a + m)) else s.2 q) := by
        rw [ms_si_n hj tj (by omega)]
        unfold ms_u
        refine congrArg some (Prod.ext rfl ?_)
        funext q
        by_cases e : q = j
        · simp [e]
        · simp [e]
      simp only [f_X9_copies_b3, if_neg (show ¬ (504 : Int32) ≤ nI m from nI_ge (a := m) (b := 504) hm (by decide)), nI_add, e1, e2, Option.bind_some, gx_c1]) 504 0 gx_fuel (s, 0) (by omega) (by rw [pl_fl]; omega) ⟨s.2 j, by
      refine Prod.ext (Prod.ext rfl ?_) rfl
      funext q
      by_cases e : q = j
      · simp [e]
      · simp [e], fun k => by rw [if_neg (by omega)]⟩
  subst zz
  obtain ⟨u, hu⟩ : ∃ g, gx_fuel - 504 = g + 1 := ⟨gx_fuel - 505, by rw [pl_fl]⟩
  rw [hu] at z2
  refine ⟨g, ?_, hz⟩
  unfold f_X9_copies
  rw [show f_X9_copies_b3 D b o gx_fuel s i (nI a) j (nI c) 0 = _ from z2]
  simp only [f_X9_copies_b3, if_pos (show (504 : Int32) ≤ nI 504 by decide)]
/-- remembers: the history gets the run -/
theorem m_rem50 {D : gx_D} {b : HX} {o : Nat} {s : MS} {F : DF} {R : RN} {hs : List RN} (H0 : m_df (s.2 0) F) (H1 : m_rn (s.2 0) R) (hF : df_ok F) (hR : rn_ok F R) (H : m_hs s F hs) (hh : ∀ R, R ∈ hs → rn_ok F R) (hl : hs.length < 8) : ∃ g, f_X9_remembers_b50 D b o s = some (ms_p (s.1, fun q => if q = 3 then g else s.2 q) 4 (nI (hs.length + 1))) ∧ m_hs (ms_p (s.1, fun q => if q = 3 then g else s.2 q) 4 (nI (hs.length + 1))) F (hs ++ [R]) := by
  obtain ⟨g, e1, hg⟩ := m_copies (D := D) (b := b) (o := o) (i := 0) (j := 3) (a := 0) (c := 504 * hs.length) (s := s) (x := 0) (y := nI (504 * hs.length)) rfl rfl (by decide) (by decide) rfl rfl (by decide) (by decide) (by show _ ≤ 4032; omega)
  refine ⟨g, ?_, ?_, fun j R' hj => ?_⟩
  · unfold f_X9_remembers_b50 ms_pf
    rw [H.1, show (504 : Int32) = nI 504 by decide, pk_mul, e1, Option.bind_some, show (s.1, fun q => if q = 3 then g else s.2 q).1 4 = nI hs.length from H.1, nI_1, Option.bind_some]
  · rw [ms_p1, List.length_append, List.length_singleton]
  · show m_df (fun k => g (504 * j + k)) F ∧ m_rn (fun k => g (504 * j + k)) R'
    by_cases c : j < hs.length
    · rw [List.getElem?_append_left c] at hj
      obtain ⟨a1, a2⟩ := H.2 j R' hj
      have same : ∀ i, i < 504 → g (504 * j + i) = s.2 3 (504 * j + i) := fun i hi => by rw [hg, if_neg (by omega)]
      exact ⟨m_df_ext a1 hF (fun i hi _ => same i hi), m_rn_ext a2 (hh R' (List.mem_of_getElem? hj)) same⟩
    · rw [List.getElem?_append_right (by omega)] at hj
      obtain ⟨y1, y2⟩ := List.getElem?_eq_some_iff.1 hj
      simp only [List.length_singleton] at y1
      have c4 : j = hs.length := by omega
      subst c4
      simp only [Nat.sub_self, List.getElem_singleton] at y2
      subst y2
      have same : ∀ i, i < 504 → g (504 * hs.length + i) = s.2 0 i := fun i hi => by
        rw [hg, if_pos (by omega), Nat.zero_add, Nat.add_sub_cancel_left]
      exact ⟨m_df_ext H0 hF (fun i hi _ => same i hi), m_rn_ext H1 hR same⟩
theorem b11_s {D : gx_D} {b : HX} {o n : Nat} {h : MS} {v1 : Int32} : f_X9_remembers_b11 D b o (n + 1) h v1 = if (3528 : Int32) ≤ v1 then f_X9_remembers_b40 D b o h else (ms_ai h 3 (v1 + (504 : Int32))).bind fun x9 => (ms_si h 3 v1 x9).bind fun h10 => (f_X9_remembers_b11 D b o n) h10 ((v1 + (1 : Int32))) := by rw [f_X9_remembers_b11]
theorem m_remembers {D : gx_D} {b : HX} {o : Nat} {s : MS} {F : DF} {R : RN} {hs : List RN} (H0 : m_df (s.2 0) F) (H1 : m_rn (s.2 0) R) (hF : df_ok F) (hR : rn_ok F R) (H : m_hs s F hs) (hh : ∀ R, R ∈ hs → rn_ok F R) (hl : hs.length ≤ 8) : ∃ s', f_X9_remembers D b o s = some s' ∧ m_hs s' F (hsN hs R) ∧ (∀ q, q ≠ 3 → s'.2 q = s.2 q) ∧ ∀ q, q ≠ 4 → s'.1 q = s.1 q := by
  unfold f_X9_remembers hsN
  rw [H.1]
  by_cases c : hs.length = 8
  · rw [if_pos c, if_pos (by rw [c]; rfl)]
    obtain ⟨z, ⟨g, zz, hz⟩, z2⟩ := gx_lq (F := fun f (z : MS × Int32) => f_X9_remembers_b11 D b o f z.1 z.2) (I := fun m z => ∃ g, z = ((s.1, fun q => if q = 3 then g else s.2 q), nI m) ∧ ∀ k, g k = if k < m then s.2 3 (k + 504) else s.2 3 k) 3528 (by
      intro f m z hm hI
      obtain ⟨g, rfl, hg⟩ := hI
      refine ⟨_, ⟨upd g m (s.2 3 (m + 504)), rfl, fun k => ?_⟩, ?_⟩
      · by_cases e : k = m
        · subst e
          rw [pk_us, if_pos (by omega)]
        · rw [pk_un e, hg k]
          by_cases e2 : k < m
          · rw [if_pos e2, if_pos (by omega)]
          · rw [if_neg e2, if_neg (by omega)]
      · have e1 : ms_ai (s.1, fun q => if q = 3 then g else s.2 q) 3 (nI (m + 504)) = some (s.2 3 (m + 504)) := by
          rw [ms_ai_n (by decide) rfl (show m + 504 < 4032 by omega)]
          show some (g (m + 504)) = _
          rw [hg, if_neg (by omega)]
        have e2 : ms_si (s.1, fun q => if q = 3 then g else s.2 q) 3 (nI m) (s.2 3 (m + 504)) = some (s.1, fun q => if q = 3 then upd g m (s.2 3 (m + 504)) else s.2 q) := by
          rw [ms_si_n (by decide) rfl (show m < 4032 by omega)]
          unfold ms_u
          refine congrArg some (Prod.ext rfl ?_)
          funext q
          by_cases e : q = 3
          · simp [e]
          · simp [e]
        simp only [f_X9_remembers_b11, if_neg (show ¬ (3528 : Int32) ≤ nI m from nI_ge (a := m) (b := 3528) hm (by decide)), show (504 : Int32) = nI 504 by decide, nI_add, e1, e2, Option.bind_some, gx_c1]) 3528 0 gx_fuel (s, 0) (by omega) (by rw [pl_fl]; omega) ⟨s.2 3, by
        refine Prod.ext (Prod.ext rfl ?_) rfl
        funext q
        by_cases e : q = 3
        · simp [e]
        · simp [e], fun k => by rw [if_neg (by omega)]⟩
    subst zz
    obtain ⟨u, hu⟩ : ∃ g, gx_fuel - 3528 = g + 1 := ⟨gx_fuel - 3529, by rw [pl_fl]⟩
    rw [hu] at z2
    have e7 : nI hs.length - 1 = nI hs.tail.length := by
      rw [c, List.length_tail, c]
      decide
    have Ht : m_hs (ms_p (s.1, fun q => if q = 3 then g else s.2 q) 4 (nI hs.tail.length)) F hs.tail := by
      refine ⟨ms_p1, fun j R' hj => ?_⟩
      have hlt := (List.getElem?_eq_some_iff.1 hj).1
      rw [List.getElem?_tail] at hj
      rw [List.length_tail] at hlt
      obtain ⟨a1, a2⟩ := H.2 (j + 1) R' hj
      have same : ∀ i, i < 504 → g (504 * j + i) = s.2 3 (504 * (j + 1) + i) := fun i hi => by
        rw [hz, if_pos (by omega), show 504 * j + i + 504 = 504 * (j + 1) + i by omega]
      show m_df (fun k => g (504 * j + k)) F ∧ m_rn (fun k => g (504 * j + k)) R'
      exact ⟨m_df_ext a1 hF (fun i hi _ => same i hi), m_rn_ext a2 (hh R' (List.mem_of_getElem? hj)) same⟩
    obtain ⟨S, hS⟩ : ∃ S, S = ms_p (s.1, fun q => if q = 3 then g else s.2 q) 4 (nI hs.tail.length) := ⟨_, rfl⟩
    have S2 : ∀ q, q ≠ 3 → S.2 q = s.2 q := fun q hq => by rw [hS]; exact if_neg hq
    have S1 : ∀ q, q ≠ 4 → S.1 q = s.1 q := fun q hq => by rw [hS]; exact ms_p1n hq
    rw [← hS] at Ht
    obtain ⟨g2, y1, y2⟩ := m_rem50 (D := D) (b := b) (o := o) (s := S) (R := R) (by rw [S2 0 (by decide)]; exact H0) (by rw [S2 0 (by decide)]; exact H1) hF hR Ht (fun R' h => hh R' (List.mem_of_mem_tail h)) (by rw [List.length_tail]; omega)
    refine ⟨_, ?_, y2, fun q hq => ?_, fun q hq => ?_⟩
    · have z2' : f_X9_remembers_b11 D b o gx_fuel s 0 = f_X9_remembers_b11 D b o (u + 1) (s.1, fun q => if q = 3 then g else s.2 q) (nI 3528) := z2
      rw [z2', b11_s, if_pos (show (3528 : Int32) ≤ nI 3528 by decide)]
      unfold f_X9_remembers_b40 ms_pf
      rw [Option.bind_some, show (s.1, fun q => if q = 3 then g else s.2 q).1 4 = nI hs.length from H.1, e7, ← hS, y1]
    · show (if q = 3 then g2 else S.2 q) = _
      rw [if_neg hq, S2 q hq]
    · rw [ms_p1n hq]
      exact S1 q hq
  · rw [if_neg c, if_neg (show ¬ nI hs.length = 8 from nI_ne (b := 8) (by omega) (by decide) c)]
    obtain ⟨g2, y1, y2⟩ := m_rem50 (D := D) (b := b) (o := o) (s := s) (R := R) H0 H1 hF hR H hh (by omega)
    exact ⟨_, y1, y2, fun q hq => if_neg hq, fun q hq => ms_p1n hq⟩
