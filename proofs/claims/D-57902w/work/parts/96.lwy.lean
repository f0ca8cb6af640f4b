/-! the law's cases: the calls that may throw, and may change something -/
set_option maxRecDepth 100000
set_option linter.unusedVariables false
section LWE
variable {D : gx_D} {o p0 L N i : Nat} {xs : Nat → Int32} {Y : YT} {h : HX} {s : MS} {A : AT} {k : (HX × MS) → Option Nat → Option Nat → Option Nat → Int32 → Option ((Bool) × HX)}
theorem LC.up (C : LC D o p0 L xs Y N h s A) : acA (N + 31) A := C.2.2.2.2.2.up (Nat.le_add_right _ _)
theorem skb {h : HX} : bnd h (hx_skip h 1 6) 20 200 := ⟨Nat.le_add_right _ _, Nat.add_le_add_left (by decide) _, Nat.le_add_right _ _, Nat.add_le_add_left (by decide) _⟩
theorem WA.kn {c : Option ((Int32 ⊕ (String × Nat)) × HX)} {r : Int32} {h1 : HX} {A1 : AT} {m : HX → Option (Int32 × MS)} (e : c = some (.inl r, h1)) (E : cE D h1 Y A1) (B : bnd h h1 20 200) (M : ∀ b, ∃ s1, m b = some (r, s1) ∧ s1.1 6 = 0 ∧ mI s1 A1) (ok : a_ok A1) (ac : acA (N + 31) A1) {X : String → Nat → HX → Option (Int32 × HX)} : WA D Y N h (gx_bx c (fun x3 h4 => (some Y.2.2.2.2.2.2.2.2).bind fun a7 => (hx_sl h4 a7 (0 : Int32) (Int32.toInt64 x3)).bind fun h8 => some ((0 : Int32), h8)) X) m Int32.toInt64 := by
  obtain ⟨h2, e1, e2, e3, e4, e5⟩ := E.sl (Int32.toInt64 r)
  obtain ⟨s1, f1, f2, f3⟩ := M h2
  exact ⟨0, h2, Int32.toInt64 r, r, s1, A1, by rw [e, pl_bx_l, Option.bind_some, e1]; rfl, e2, B.eq e4 e5, fun _ => e3, f1, f2, f3, fun _ => rfl, ok, ac⟩
theorem WA.kb {c : Option ((Bool ⊕ (String × Nat)) × HX)} {r : Bool} {h1 : HX} {A1 : AT} {m : HX → Option (Bool × MS)} (e : c = some (.inl r, h1)) (E : cE D h1 Y A1) (B : bnd h h1 20 200) (M : ∀ b, ∃ s1, m b = some (r, s1) ∧ s1.1 6 = 0 ∧ mI s1 A1) (ok : a_ok A1) (ac : acA (N + 31) A1) {X : String → Nat → HX → Option (Int32 × HX)} {G : HX → Int64 → Int32 → Option Nat → Option (Int32 × HX)} (hG : ∀ h4 v, G h4 v 0 (some Y.2.2.2.2.2.2.2.2) = (hx_sl h4 Y.2.2.2.2.2.2.2.2 (0 : Int32) v).bind fun h8 => some ((0 : Int32), h8)) : WA D Y N h (gx_bx c (fun b3 h4 => if b3 = true then G h4 1 0 (some Y.2.2.2.2.2.2.2.2) else G h4 0 0 (some Y.2.2.2.2.2.2.2.2)) X) m cvB := by
  obtain ⟨h2, e1, e2, e3, e4, e5⟩ := E.sl (cvB r)
  obtain ⟨s1, f1, f2, f3⟩ := M h2
  refine ⟨0, h2, cvB r, r, s1, A1, ?_, e2, B.eq e4 e5, fun _ => e3, f1, f2, f3, fun _ => rfl, ok, ac⟩
  rw [e, pl_bx_l]
  cases r with
  | true => rw [if_pos rfl, hG]; rw [show cvB true = 1 from rfl] at e1; rw [e1]; rfl
  | false => rw [if_neg Bool.false_ne_true, hG]; rw [show cvB false = 0 from rfl] at e1; rw [e1]; rfl
theorem WA.ex {α β : Type} {c : Option ((α ⊕ (String × Nat)) × HX)} {E : String} {q : Nat} {h1 : HX} {A1 : AT} {m : HX → Option (β × MS)} {cv : β → Int64} {kc : Int32} (hk : kc ≠ 0) (e : c = some (.inr (E, q), h1)) (E1 : cE D h1 Y A1) (B : bnd h h1 20 200) {X : String → Nat → HX → Option (Int32 × HX)} (hX : X E q h1 = some (kc, h1)) (M : ∀ b, ∃ x s1, m b = some (x, s1) ∧ s1.1 6 = kc ∧ mI s1 A1) (ok : a_ok A1) (ac : acA (N + 31) A1) {K : α → HX → Option (Int32 × HX)} : WA D Y N h (gx_bx c K X) m cv := by
  obtain ⟨x, s1, f1, f2, f3⟩ := M h1
  exact ⟨kc, h1, 0, x, s1, A1, by rw [e, pl_bx_r, hX], E1, B, fun e => absurd e hk, f1, f2, f3, fun e => absurd e hk, ok, ac⟩
theorem LC.sr (C : LC D o p0 L xs Y N h s A) : ∃ fs fnd dl, cs_mx D h Y.1 Y.2.2.2.2.1 Y.2.2.2.2.2.1 Y.2.2.2.2.2.2.1 fs A.1 A.2.1 ∧ fs[12]? = some (.int fnd) ∧ fs[13]? = some (.int dl) ∧ ∀ h1 fnd' dl' kc ks, kc ≤ 20 → ks ≤ 200 → cs_post h h1 Y.1 Y.2.2.2.2.1 Y.2.2.2.2.2.1 Y.2.2.2.2.2.2.1 fs fnd' dl' kc ks → cE D h1 Y A ∧ bnd h h1 20 200 := by
  obtain ⟨op, d, r, p, fnd, dl, X⟩ := C.1.mx
  exact ⟨_, fnd, dl, X, rfl, rfl, fun h1 fnd' dl' kc ks hk hs P => ⟨C.1.srch (P.1.2.2.2.2 C.1.choose_spec.1) P X.1, ⟨P.1.1, by have := P.1.2.1; omega, P.1.2.2.1, by have := P.1.2.2.2.1; omega⟩⟩⟩
theorem mq_of {s1 : MS} {x : Int32} (H : mI s A) (q : ms_q (ms_p s 6 x) s1) : s1.1 6 = x ∧ mI s1 A := ⟨by rw [q.2 6 (by decide) (by decide) (by decide)]; rfl, H.p6.q q⟩
theorem c_noSt (C : LC D o p0 L xs Y N h s A) {z : Int32} (c : ixB z A.1.sn.length = false) : f_X1_findState D h Y.1 z = some (.inr (cIOOBE, h.1), hx_skip h 1 6) := by
  unfold f_X1_findState
  rw [C.1.A.2.1, Option.bind_some, (f_checkX C.vm z).2.1, c, if_neg Bool.false_ne_true, pl_bx_r]
theorem m_noX {b : HX} {z x : Int32} {m n : Nat} (hx : x = nI m) (hm : m < 504) (hw : s.2 0 m = nI n) (c : ixB z n = false) : f_X9_no D b o (ms_p s 6 0) z x = some (true, ms_p (ms_p s 6 0) 6 1) := by
  rw [m_no hx hm (s := ms_p s 6 0) hw, c]
  rfl
theorem acA.ch {R : RN} (H : acA N A) (hR : acB (N + 31) R) : acA (N + 31) (A.1, R, A.2.2.1, hsN A.2.2.2.1 A.2.1, A.2.2.2.2) := by
  refine ⟨hR, fun Q hQ => (H.2.1 Q hQ).up (Nat.le_add_right _ _), fun Q hQ => ?_⟩
  have hQ : Q ∈ (if A.2.2.2.1.length = 8 then A.2.2.2.1.tail else A.2.2.2.1) ++ [A.2.1] := hQ
  rcases List.mem_append.1 hQ with hQ | hQ
  · split at hQ
    · exact (H.2.2 Q (List.mem_of_mem_tail hQ)).up (Nat.le_add_right _ _)
    · exact (H.2.2 Q hQ).up (Nat.le_add_right _ _)
  · rw [List.mem_singleton.1 hQ]; exact H.1.up (Nat.le_add_right _ _)
theorem W_41 (C : LC D o p0 L xs Y N h s A) (z : Int32) : WA D Y N h (f_X0_isReachable D h (some Y.1) z (some Y.2.2.2.2.2.2.2.2)) (fun b => f_X9_isReachable D b o s z) cvB := by
  unfold f_X0_isReachable
  rw [Option.bind_some]
  cases c : ixB z A.1.sn.length with
  | false =>
    have e : f_X1_isReachable D h Y.1 z = some (.inr (cIOOBE, h.1), hx_skip h 1 6) := by
      unfold f_X1_isReachable
      rw [C.1.A.2.1, Option.bind_some, c_noSt C c, pl_bx_r]
    refine WA.ex (kc := 1) (by decide) e C.1.skip skb (if_pos rfl) (fun b => ⟨false, ms_p (ms_p s 6 0) 6 1, ?_, rfl, C.2.1.p6.p6⟩) C.ok C.up
    show f_X9_isReachable D b o s z = _
    unfold f_X9_isReachable ms_pf
    rw [Option.bind_some, m_noX (x := 0) (m := 0) rfl (by decide) C.M.1.1 c, pl_b2_s, if_pos rfl]
  | true =>
    obtain ⟨st, hst, rfl⟩ := ixB_t (by have := C.df.1.2; omega) c
    obtain ⟨fs, fnd, dl, X, e12, e13, K⟩ := C.sr
    obtain ⟨h1, e, _, P⟩ := c_isReachable X e12 e13 hst
    obtain ⟨E, B⟩ := K _ _ _ _ _ (by decide) (by decide) P
    exact WA.kb (G := f_X0_isReachable_b15 D) e E B (fun b => by
      obtain ⟨s1, f1, q⟩ := m_isReachable (D := D) (b := b) (o := o) C.M hst
      exact ⟨s1, f1, mq_of C.2.1 q⟩) C.ok C.up (fun _ _ => rfl)
theorem case_41 (C : LC D o p0 L xs Y N h s A) (hL : L ≤ 144) (hi : i + 6 ≤ L) : goL D o p0 L xs Y N i h (lc_41 D o k (h, s) p0 (some Y.1) (some Y.2.2.2.2.2.2.2.2) (nI i)) k := by
  obtain ⟨_, a1, a2, a3, _, _⟩ := scr_at C.2.2.2.2.1 hL hi
  obtain ⟨code, h1, v, x, s1, A1, e1, E, B, al, e2, th, M, tv, ok, ac⟩ : WA D Y N h (f_X0_isReachable D h (some Y.1) (xs (i + 1)) (some Y.2.2.2.2.2.2.2.2)) (fun b => f_X9_isReachable D b o s (xs (i + 1))) cvB := W_41 C _
  have e2 : f_X9_isReachable D h1 o s (xs (i + 1)) = some (x, s1) := e2
  have l : gx_le h h1 := le_X0_isReachable e1
  obtain ⟨_, b1, b2, b3, _, _⟩ := scr_at (C.sc l) hL hi
  refine ⟨h1, s1, A1, ?_, C.go l E M ok ac, B.up (by decide) (by decide)⟩
  unfold lc_41
  show (hx_ai h p0 0 (nI i + 1)).bind _ = _
  rw [a1, Option.bind_some]
  show gx_b2 (f_X0_isReachable D h (some Y.1) (xs (i + 1)) (some Y.2.2.2.2.2.2.2.2)) _ = _
  rw [e1, pl_b2_s]
  show (hx_ai h1 p0 0 (nI i + 1)).bind _ = _
  rw [b1, Option.bind_some]
  show gx_b2 (f_X9_isReachable D h1 o s (xs (i + 1))) _ = _
  rw [e2, pl_b2_s]
  show (if s1.1 6 = code then _ else _) = _
  rw [if_pos th]
  by_cases c : code = 0
  · rw [if_pos c]
    show (hx_al h1 Y.2.2.2.2.2.2.2.2 0).bind _ = _
    rw [al c, Option.bind_some]
    cases x with
    | true =>
      rw [if_pos rfl]
      show (if lg_cmp v 1 = 0 then _ else _) = _
      rw [if_pos (by rw [show v = 1 from tv c]; exact lg_0)]
      rfl
    | false =>
      rw [if_neg Bool.false_ne_true]
      show (if lg_cmp v 0 = 0 then _ else _) = _
      rw [if_pos (by rw [show v = 0 from tv c]; exact lg_0)]
      rfl
  · rw [if_neg c]
    rfl
theorem W_43 (C : LC D o p0 L xs Y N h s A) (z : Int32) : WA D Y N h (f_X0_stepsTo D h (some Y.1) z (some Y.2.2.2.2.2.2.2.2)) (fun b => f_X9_stepsTo D b o s z) Int32.toInt64 := by
  unfold f_X0_stepsTo
  rw [Option.bind_some]
  cases c : ixB z A.1.sn.length with
  | false =>
    have e : f_X1_stepsTo D h Y.1 z = some (.inr (cIOOBE, h.1), hx_skip h 1 6) := by
      unfold f_X1_stepsTo
      rw [C.1.A.2.1, Option.bind_some, c_noSt C c, pl_bx_r]
    refine WA.ex (kc := 1) (by decide) e C.1.skip skb (if_pos rfl) (fun b => ⟨0, ms_p (ms_p s 6 0) 6 1, ?_, rfl, C.2.1.p6.p6⟩) C.ok C.up
    show f_X9_stepsTo D b o s z = _
    unfold f_X9_stepsTo ms_pf
    rw [Option.bind_some, m_noX (x := 0) (m := 0) rfl (by decide) C.M.1.1 c, pl_b2_s, if_pos rfl]
  | true =>
    obtain ⟨st, hst, rfl⟩ := ixB_t (by have := C.df.1.2; omega) c
    obtain ⟨fs, fnd, dl, X, e12, e13, K⟩ := C.sr
    obtain ⟨h1, e, _, P⟩ := c_stepsTo X e12 e13 hst
    obtain ⟨E, B⟩ := K _ _ _ _ _ (by decide) (by decide) P
    exact WA.kn e E B (fun b => by
      obtain ⟨s1, f1, q⟩ := m_stepsTo (D := D) (b := b) (o := o) C.M hst
      exact ⟨s1, f1, mq_of C.2.1 q⟩) C.ok C.up
theorem case_43 (C : LC D o p0 L xs Y N h s A) (hL : L ≤ 144) (hi : i + 6 ≤ L) : goL D o p0 L xs Y N i h (lc_43 D o k (h, s) p0 (some Y.1) (some Y.2.2.2.2.2.2.2.2) (nI i)) k := by
  obtain ⟨_, a1, a2, a3, _, _⟩ := scr_at C.2.2.2.2.1 hL hi
  obtain ⟨code, h1, v, x, s1, A1, e1, E, B, al, e2, th, M, tv, ok, ac⟩ : WA D Y N h (f_X0_stepsTo D h (some Y.1) (xs (i + 1)) (some Y.2.2.2.2.2.2.2.2)) (fun b => f_X9_stepsTo D b o s (xs (i + 1))) Int32.toInt64 := W_43 C _
  have e2 : f_X9_stepsTo D h1 o s (xs (i + 1)) = some (x, s1) := e2
  have l : gx_le h h1 := le_X0_stepsTo e1
  obtain ⟨_, b1, b2, b3, _, _⟩ := scr_at (C.sc l) hL hi
  refine ⟨h1, s1, A1, ?_, C.go l E M ok ac, B.up (by decide) (by decide)⟩
  unfold lc_43
  show (hx_ai h p0 0 (nI i + 1)).bind _ = _
  rw [a1, Option.bind_some]
  show gx_b2 (f_X0_stepsTo D h (some Y.1) (xs (i + 1)) (some Y.2.2.2.2.2.2.2.2)) _ = _
  rw [e1, pl_b2_s]
  show (hx_ai h1 p0 0 (nI i + 1)).bind _ = _
  rw [b1, Option.bind_some]
  show gx_b2 (f_X9_stepsTo D h1 o s (xs (i + 1))) _ = _
  rw [e2, pl_b2_s]
  show (if s1.1 6 = code then _ else _) = _
  rw [if_pos th]
  by_cases c : code = 0
  · rw [if_pos c]
    show (hx_al h1 Y.2.2.2.2.2.2.2.2 0).bind _ = _
    rw [al c, Option.bind_some, if_pos (show lg_cmp v (Int32.toInt64 x) = 0 by rw [tv c]; exact lg_0)]
    rfl
  · rw [if_neg c]
    rfl
theorem W_44 (C : LC D o p0 L xs Y N h s A) (z : Int32) : WA D Y N h (f_X0_firstEventTo D h (some Y.1) z (some Y.2.2.2.2.2.2.2.2)) (fun b => f_X9_firstEventTo D b o s z) Int32.toInt64 := by
  unfold f_X0_firstEventTo
  rw [Option.bind_some]
  cases c : ixB z A.1.sn.length with
  | false =>
    have e : f_X1_firstEventTo D h Y.1 z = some (.inr (cIOOBE, h.1), hx_skip h 1 6) := by
      unfold f_X1_firstEventTo
      rw [C.1.A.2.1, Option.bind_some, c_noSt C c, pl_bx_r]
    refine WA.ex (kc := 1) (by decide) e C.1.skip skb (if_pos rfl) (fun b => ⟨0, ms_p (ms_p s 6 0) 6 1, ?_, rfl, C.2.1.p6.p6⟩) C.ok C.up
    show f_X9_firstEventTo D b o s z = _
    unfold f_X9_firstEventTo ms_pf
    rw [Option.bind_some, m_noX (x := 0) (m := 0) rfl (by decide) C.M.1.1 c, pl_b2_s, if_pos rfl]
  | true =>
    obtain ⟨st, hst, rfl⟩ := ixB_t (by have := C.df.1.2; omega) c
    obtain ⟨fs, fnd, dl, X, e12, e13, K⟩ := C.sr
    obtain ⟨h1, e, _, P⟩ := c_firstEventTo X e12 e13 hst
    obtain ⟨E, B⟩ := K _ _ _ _ _ (by decide) (by decide) P
    exact WA.kn e E B (fun b => by
      obtain ⟨s1, f1, q⟩ := m_firstEventTo (D := D) (b := b) (o := o) C.M hst
      exact ⟨s1, f1, mq_of C.2.1 q⟩) C.ok C.up
theorem case_44 (C : LC D o p0 L xs Y N h s A) (hL : L ≤ 144) (hi : i + 6 ≤ L) : goL D o p0 L xs Y N i h (lc_44 D o k (h, s) p0 (some Y.1) (some Y.2.2.2.2.2.2.2.2) (nI i)) k := by
  obtain ⟨_, a1, a2, a3, _, _⟩ := scr_at C.2.2.2.2.1 hL hi
  obtain ⟨code, h1, v, x, s1, A1, e1, E, B, al, e2, th, M, tv, ok, ac⟩ : WA D Y N h (f_X0_firstEventTo D h (some Y.1) (xs (i + 1)) (some Y.2.2.2.2.2.2.2.2)) (fun b => f_X9_firstEventTo D b o s (xs (i + 1))) Int32.toInt64 := W_44 C _
  have e2 : f_X9_firstEventTo D h1 o s (xs (i + 1)) = some (x, s1) := e2
  have l : gx_le h h1 := le_X0_firstEventTo e1
  obtain ⟨_, b1, b2, b3, _, _⟩ := scr_at (C.sc l) hL hi
  refine ⟨h1, s1, A1, ?_, C.go l E M ok ac, B.up (by decide) (by decide)⟩
  unfold lc_44
  show (hx_ai h p0 0 (nI i + 1)).bind _ = _
  rw [a1, Option.bind_some]
  show gx_b2 (f_X0_firstEventTo D h (some Y.1) (xs (i + 1)) (some Y.2.2.2.2.2.2.2.2)) _ = _
  rw [e1, pl_b2_s]
  show (hx_ai h1 p0 0 (nI i + 1)).bind _ = _
  rw [b1, Option.bind_some]
  show gx_b2 (f_X9_firstEventTo D h1 o s (xs (i + 1))) _ = _
  rw [e2, pl_b2_s]
  show (if s1.1 6 = code then _ else _) = _
  rw [if_pos th]
  by_cases c : code = 0
  · rw [if_pos c]
    show (hx_al h1 Y.2.2.2.2.2.2.2.2 0).bind _ = _
    rw [al c, Option.bind_some, if_pos (show lg_cmp v (Int32.toInt64 x) = 0 by rw [tv c]; exact lg_0)]
    rfl
  · rw [if_neg c]
    rfl
theorem W_42 (C : LC D o p0 L xs Y N h s A) (z : Int32) : WA D Y N h (f_X0_canBeTaken D h (some Y.1) z (some Y.2.2.2.2.2.2.2.2)) (fun b => f_X9_canBeTaken D b o s z) cvB := by
  unfold f_X0_canBeTaken
  rw [Option.bind_some]
  cases c : ixB z A.1.ts.length with
  | false =>
    have e : f_X1_canBeTaken D h Y.1 z = some (.inr (cIOOBE, h.1), hx_skip h 1 6) := by
      unfold f_X1_canBeTaken
      rw [C.1.A.2.1, Option.bind_some, (g_transition C.vm z).1 c, pl_bx_r]
    refine WA.ex (kc := 1) (by decide) e C.1.skip skb (if_pos rfl) (fun b => ⟨false, ms_p (ms_p s 6 0) 6 1, ?_, rfl, C.2.1.p6.p6⟩) C.ok C.up
    show f_X9_canBeTaken D b o s z = _
    unfold f_X9_canBeTaken ms_pf
    rw [Option.bind_some, m_noX (x := 3) (m := 3) rfl (by decide) C.M.1.2.2.2.1.1 c, pl_b2_s, if_pos rfl]
  | true =>
    obtain ⟨st, hst, rfl⟩ := ixB_t (by have := C.df.2.2.2.1; omega) c
    obtain ⟨fs, fnd, dl, X, e12, e13, K⟩ := C.sr
    obtain ⟨h1, e, _, P⟩ := c_canBeTaken X e12 e13 hst
    obtain ⟨E, B⟩ := K _ _ _ _ _ (by decide) (by decide) P
    exact WA.kb (G := f_X0_canBeTaken_b15 D) e E B (fun b => by
      obtain ⟨s1, f1, q⟩ := m_canBeTaken (D := D) (b := b) (o := o) C.M hst
      exact ⟨s1, f1, mq_of C.2.1 q⟩) C.ok C.up (fun _ _ => rfl)
theorem case_42 (C : LC D o p0 L xs Y N h s A) (hL : L ≤ 144) (hi : i + 6 ≤ L) : goL D o p0 L xs Y N i h (lc_42 D o k (h, s) p0 (some Y.1) (some Y.2.2.2.2.2.2.2.2) (nI i)) k := by
  obtain ⟨_, a1, a2, a3, _, _⟩ := scr_at C.2.2.2.2.1 hL hi
  obtain ⟨code, h1, v, x, s1, A1, e1, E, B, al, e2, th, M, tv, ok, ac⟩ : WA D Y N h (f_X0_canBeTaken D h (some Y.1) (xs (i + 1)) (some Y.2.2.2.2.2.2.2.2)) (fun b => f_X9_canBeTaken D b o s (xs (i + 1))) cvB := W_42 C _
  have e2 : f_X9_canBeTaken D h1 o s (xs (i + 1)) = some (x, s1) := e2
  have l : gx_le h h1 := le_X0_canBeTaken e1
  obtain ⟨_, b1, b2, b3, _, _⟩ := scr_at (C.sc l) hL hi
  refine ⟨h1, s1, A1, ?_, C.go l E M ok ac, B.up (by decide) (by decide)⟩
  unfold lc_42
  show (hx_ai h p0 0 (nI i + 1)).bind _ = _
  rw [a1, Option.bind_some]
  show gx_b2 (f_X0_canBeTaken D h (some Y.1) (xs (i + 1)) (some Y.2.2.2.2.2.2.2.2)) _ = _
  rw [e1, pl_b2_s]
  show (hx_ai h1 p0 0 (nI i + 1)).bind _ = _
  rw [b1, Option.bind_some]
  show gx_b2 (f_X9_canBeTaken D h1 o s (xs (i + 1))) _ = _
  rw [e2, pl_b2_s]
  show (if s1.1 6 = code then _ else _) = _
  rw [if_pos th]
  by_cases c : code = 0
  · rw [if_pos c]
    show (hx_al h1 Y.2.2.2.2.2.2.2.2 0).bind _ = _
    rw [al c, Option.bind_some]
    cases x with
    | true =>
      rw [if_pos rfl]
      show (if lg_cmp v 1 = 0 then _ else _) = _
      rw [if_pos (by rw [show v = 1 from tv c]; exact lg_0)]
      rfl
    | false =>
      rw [if_neg Bool.false_ne_true]
      show (if lg_cmp v 0 = 0 then _ else _) = _
      rw [if_pos (by rw [show v = 0 from tv c]; exact lg_0)]
      rfl
  · rw [if_neg c]
    rfl
theorem W_49 (C : LC D o p0 L xs Y N h s A) (z : Int32) : WA D Y N h (f_X0_fire D h (some Y.1) z (some Y.2.2.2.2.2.2.2.2)) (fun b => f_X9_fire D b o s z) Int32.toInt64 := by
  unfold f_X0_fire
  rw [Option.bind_some]
  cases c : ixB z A.1.en.length with
  | false =>
    have e : f_X1_fire D h Y.1 z = some (.inr (cIOOBE, h.1), hx_skip h 1 6) := by
      unfold f_X1_fire
      rw [C.1.A.2.1, Option.bind_some, (f_checkX C.vm z).1, c, if_neg Bool.false_ne_true, pl_bx_r]
    refine WA.ex (kc := 1) (by decide) e C.1.skip skb (if_pos rfl) (fun b => ⟨0, ms_p (ms_p s 6 0) 6 1, ?_, rfl, C.2.1.p6.p6⟩) C.ok C.up
    show f_X9_fire D b o s z = _
    unfold f_X9_fire ms_pf
    rw [Option.bind_some, m_noX (x := 1) (m := 1) rfl (by decide) C.M.1.2.1 c, pl_b2_s, if_pos rfl]
  | true =>
    obtain ⟨st, hst, rfl⟩ := ixB_t (by have := C.df.2.1.2; omega) c
    obtain ⟨h1, e, E, B⟩ := c_fire C.1 hst
    exact WA.kn e E B (fun b => mc_fire C.2.1 C.ok hst) (C.ok.ch (rnFire_ok C.df C.rn)) (C.2.2.2.2.2.ch ((acB_fire C.2.2.2.2.2.1).up (by omega)))
theorem case_49 (C : LC D o p0 L xs Y N h s A) (hL : L ≤ 144) (hi : i + 6 ≤ L) : goL D o p0 L xs Y N i h (lc_49 D o k (h, s) p0 (some Y.1) (some Y.2.2.2.2.2.2.2.2) (nI i)) k := by
  obtain ⟨_, a1, a2, a3, _, _⟩ := scr_at C.2.2.2.2.1 hL hi
  obtain ⟨code, h1, v, x, s1, A1, e1, E, B, al, e2, th, M, tv, ok, ac⟩ : WA D Y N h (f_X0_fire D h (some Y.1) (xs (i + 1)) (some Y.2.2.2.2.2.2.2.2)) (fun b => f_X9_fire D b o s (xs (i + 1))) Int32.toInt64 := W_49 C _
  have e2 : f_X9_fire D h1 o s (xs (i + 1)) = some (x, s1) := e2
  have l : gx_le h h1 := le_X0_fire e1
  obtain ⟨_, b1, b2, b3, _, _⟩ := scr_at (C.sc l) hL hi
  refine ⟨h1, s1, A1, ?_, C.go l E M ok ac, B.up (by decide) (by decide)⟩
  unfold lc_49
  show (hx_ai h p0 0 (nI i + 1)).bind _ = _
  rw [a1, Option.bind_some]
  show gx_b2 (f_X0_fire D h (some Y.1) (xs (i + 1)) (some Y.2.2.2.2.2.2.2.2)) _ = _
  rw [e1, pl_b2_s]
  show (hx_ai h1 p0 0 (nI i + 1)).bind _ = _
  rw [b1, Option.bind_some]
  show gx_b2 (f_X9_fire D h1 o s (xs (i + 1))) _ = _
  rw [e2, pl_b2_s]
  show (if s1.1 6 = code then _ else _) = _
  rw [if_pos th]
  by_cases c : code = 0
  · rw [if_pos c]
    show (hx_al h1 Y.2.2.2.2.2.2.2.2 0).bind _ = _
    rw [al c, Option.bind_some, if_pos (show lg_cmp v (Int32.toInt64 x) = 0 by rw [tv c]; exact lg_0)]
    rfl
  · rw [if_neg c]
    rfl
theorem W_50 (C : LC D o p0 L xs Y N h s A) (z y : Int32) : WA D Y N h (f_X0_setValue D h (some Y.1) z y (some Y.2.2.2.2.2.2.2.2)) (fun b => f_X9_setValue D b o s z y) Int32.toInt64 := by
  unfold f_X0_setValue
  rw [Option.bind_some]
  obtain ⟨r, h1, A1, e, E, B, H⟩ := c_setValue C.1 z y
  have M := fun b => mc_setValue (D := D) (b := b) (o := o) C.2.1 C.ok z y
  cases c : ixB z A.1.vn.length with
  | false =>
    rw [c] at H
    obtain ⟨⟨a, rfl⟩, rfl⟩ := H
    exact WA.ex (kc := 1) (by decide) e E B (if_pos rfl) (fun b => by
      obtain ⟨x, s1, A2, f1, f2, f3⟩ := M b
      rw [c] at f3
      obtain ⟨f3, rfl⟩ := f3
      exact ⟨x, s1, f1, f3, f2⟩) C.ok C.up
  | true =>
    rw [c] at H
    cases c2 : ixB y 10 with
    | false =>
      simp only [c2] at H
      obtain ⟨⟨a, rfl⟩, rfl⟩ := H
      exact WA.ex (kc := 2) (by decide) e E B ((if_neg (by decide)).trans (if_pos rfl)) (fun b => by
        obtain ⟨x, s1, A2, f1, f2, f3⟩ := M b
        simp only [c, c2] at f3
        obtain ⟨f3, rfl⟩ := f3
        exact ⟨x, s1, f1, f3, f2⟩) C.ok C.up
    | true =>
      simp only [c2] at H
      obtain ⟨v, w, rfl, rfl, hv, hw, H⟩ := H
      cases c3 : (brk A.2.1.iv (cf_set A.2.1.cf v w)).isNone with
      | false =>
        simp only [c3] at H
        obtain ⟨⟨a, rfl⟩, rfl⟩ := H
        exact WA.ex (kc := 3) (by decide) e E B ((if_neg (by decide)).trans ((if_neg (by decide)).trans (if_pos rfl))) (fun b => by
          obtain ⟨x, s1, A2, f1, f2, f3⟩ := M b
          simp only [c, c2] at f3
          have g3 := f3 v w rfl rfl hv hw
          simp only [c3] at g3
          obtain ⟨g4, rfl⟩ := g3
          exact ⟨x, s1, f1, g4, f2⟩) C.ok C.up
      | true =>
        simp only [c3] at H
        obtain ⟨rfl, rfl⟩ := H
        refine WA.kn e E B (fun b => ?_) (C.ok.ch (rnSet_ok C.rn hw)) (C.2.2.2.2.2.ch (C.2.2.2.2.2.1.up (Nat.le_add_right _ _)))
        obtain ⟨x, s1, A2, f1, f2, f3⟩ := M b
        simp only [c, c2] at f3
        have g3 := f3 v w rfl rfl hv hw
        simp only [c3] at g3
        obtain ⟨g4, rfl, rfl⟩ := g3
        exact ⟨s1, f1, g4, f2⟩
theorem case_50 (C : LC D o p0 L xs Y N h s A) (hL : L ≤ 144) (hi : i + 6 ≤ L) : goL D o p0 L xs Y N i h (lc_50 D o k (h, s) p0 (some Y.1) (some Y.2.2.2.2.2.2.2.2) (nI i)) k := by
  obtain ⟨_, a1, a2, a3, _, _⟩ := scr_at C.2.2.2.2.1 hL hi
  obtain ⟨code, h1, v, x, s1, A1, e1, E, B, al, e2, th, M, tv, ok, ac⟩ : WA D Y N h (f_X0_setValue D h (some Y.1) (xs (i + 1)) (xs (i + 2)) (some Y.2.2.2.2.2.2.2.2)) (fun b => f_X9_setValue D b o s (xs (i + 1)) (xs (i + 2))) Int32.toInt64 := W_50 C _ _
  have e2 : f_X9_setValue D h1 o s (xs (i + 1)) (xs (i + 2)) = some (x, s1) := e2
  have l : gx_le h h1 := le_X0_setValue e1
  obtain ⟨_, b1, b2, b3, _, _⟩ := scr_at (C.sc l) hL hi
  refine ⟨h1, s1, A1, ?_, C.go l E M ok ac, B.up (by decide) (by decide)⟩
  unfold lc_50
  show (hx_ai h p0 0 (nI i + 1)).bind _ = _
  rw [a1, Option.bind_some]
  show (hx_ai h p0 0 (nI i + 2)).bind _ = _
  rw [a2, Option.bind_some]
  show gx_b2 (f_X0_setValue D h (some Y.1) (xs (i + 1)) (xs (i + 2)) (some Y.2.2.2.2.2.2.2.2)) _ = _
  rw [e1, pl_b2_s]
  show (hx_ai h1 p0 0 (nI i + 1)).bind _ = _
  rw [b1, Option.bind_some]
  show (hx_ai h1 p0 0 (nI i + 2)).bind _ = _
  rw [b2, Option.bind_some]
  show gx_b2 (f_X9_setValue D h1 o s (xs (i + 1)) (xs (i + 2))) _ = _
  rw [e2, pl_b2_s]
  show (if s1.1 6 = code then _ else _) = _
  rw [if_pos th]
  by_cases c : code = 0
  · rw [if_pos c]
    show (hx_al h1 Y.2.2.2.2.2.2.2.2 0).bind _ = _
    rw [al c, Option.bind_some, if_pos (show lg_cmp v (Int32.toInt64 x) = 0 by rw [tv c]; exact lg_0)]
    rfl
  · rw [if_neg c]
    rfl
theorem W_53 (C : LC D o p0 L xs Y N h s A) (z y u : Int32) : WA D Y N h (f_X0_addAlways D h (some Y.1) z y u (some Y.2.2.2.2.2.2.2.2)) (fun b => f_X9_addAlways D b o s z y u) Int32.toInt64 := by
  unfold f_X0_addAlways
  rw [Option.bind_some]
  obtain ⟨r, h1, A1, e, E, B, H⟩ := c_addAlways C.1 z y u
  have M := fun b => mc_addAlways (D := D) (b := b) (o := o) C.2.1 C.ok z y u
  cases c : ixB z A.1.vn.length with
  | false =>
    rw [c] at H
    obtain ⟨⟨a, rfl⟩, rfl⟩ := H
    exact WA.ex (kc := 1) (by decide) e E B (if_pos rfl) (fun b => by
      obtain ⟨x, s1, A2, f1, f2, f3⟩ := M b
      rw [c] at f3
      obtain ⟨f3, rfl⟩ := f3
      exact ⟨x, s1, f1, f3, f2⟩) C.ok C.up
  | true =>
    rw [c] at H
    cases c2 : ixB y 6 && ixB u 10 with
    | false =>
      simp only [c2] at H
      obtain ⟨⟨a, rfl⟩, rfl⟩ := H
      exact WA.ex (kc := 2) (by decide) e E B ((if_neg (by decide)).trans (if_pos rfl)) (fun b => by
        obtain ⟨x, s1, A2, f1, f2, f3⟩ := M b
        simp only [c, c2] at f3
        obtain ⟨f3, rfl⟩ := f3
        exact ⟨x, s1, f1, f3, f2⟩) C.ok C.up
    | true =>
      simp only [c2] at H
      obtain ⟨v, w, t, rfl, rfl, rfl, hv, hw, ht, H⟩ := H
      cases c3 : canAddB A.1 A.2.1 (none, v, w, t) with
      | false =>
        simp only [c3] at H
        obtain ⟨⟨a, rfl⟩, rfl⟩ := H
        exact WA.ex (kc := 3) (by decide) e E B ((if_neg (by decide)).trans ((if_neg (by decide)).trans (if_pos rfl))) (fun b => by
          obtain ⟨x, s1, A2, f1, f2, f3⟩ := M b
          simp only [c, c2] at f3
          have g3 := f3 v w t rfl rfl rfl hv hw ht
          simp only [c3] at g3
          obtain ⟨g4, rfl⟩ := g3
          exact ⟨x, s1, f1, g4, f2⟩) C.ok C.up
      | true =>
        simp only [c3] at H
        obtain ⟨rfl, rfl⟩ := H
        have hl : A.2.1.iv.length < 12 := by
          unfold canAddB at c3
          rw [Bool.and_eq_true] at c3
          exact of_decide_eq_true c3.1
        refine WA.kn e E B (fun b => ?_) (C.ok.ch (rnAdd_ok C.rn hl ⟨fun k hk => (by cases hk), by have := C.df.2.2.1.2; exact ⟨by show v < 3; omega, hw, ht⟩⟩)) (C.2.2.2.2.2.ch (C.2.2.2.2.2.1.up (Nat.le_add_right _ _)))
        obtain ⟨x, s1, A2, f1, f2, f3⟩ := M b
        simp only [c, c2] at f3
        have g3 := f3 v w t rfl rfl rfl hv hw ht
        simp only [c3] at g3
        obtain ⟨g4, rfl, rfl⟩ := g3
        exact ⟨s1, f1, g4, f2⟩
theorem case_53 (C : LC D o p0 L xs Y N h s A) (hL : L ≤ 144) (hi : i + 6 ≤ L) : goL D o p0 L xs Y N i h (lc_53 D o k (h, s) p0 (some Y.1) (some Y.2.2.2.2.2.2.2.2) (nI i)) k := by
  obtain ⟨_, a1, a2, a3, _, _⟩ := scr_at C.2.2.2.2.1 hL hi
  obtain ⟨code, h1, v, x, s1, A1, e1, E, B, al, e2, th, M, tv, ok, ac⟩ : WA D Y N h (f_X0_addAlways D h (some Y.1) (xs (i + 1)) (xs (i + 2)) (xs (i + 3)) (some Y.2.2.2.2.2.2.2.2)) (fun b => f_X9_addAlways D b o s (xs (i + 1)) (xs (i + 2)) (xs (i + 3))) Int32.toInt64 := W_53 C _ _ _
  have e2 : f_X9_addAlways D h1 o s (xs (i + 1)) (xs (i + 2)) (xs (i + 3)) = some (x, s1) := e2
  have l : gx_le h h1 := le_X0_addAlways e1
  obtain ⟨_, b1, b2, b3, _, _⟩ := scr_at (C.sc l) hL hi
  refine ⟨h1, s1, A1, ?_, C.go l E M ok ac, B.up (by decide) (by decide)⟩
  unfold lc_53
  show (hx_ai h p0 0 (nI i + 1)).bind _ = _
  rw [a1, Option.bind_some]
  show (hx_ai h p0 0 (nI i + 2)).bind _ = _
  rw [a2, Option.bind_some]
  show (hx_ai h p0 0 (nI i + 3)).bind _ = _
  rw [a3, Option.bind_some]
  show gx_b2 (f_X0_addAlways D h (some Y.1) (xs (i + 1)) (xs (i + 2)) (xs (i + 3)) (some Y.2.2.2.2.2.2.2.2)) _ = _
  rw [e1, pl_b2_s]
  show (hx_ai h1 p0 0 (nI i + 1)).bind _ = _
  rw [b1, Option.bind_some]
  show (hx_ai h1 p0 0 (nI i + 2)).bind _ = _
  rw [b2, Option.bind_some]
  show (hx_ai h1 p0 0 (nI i + 3)).bind _ = _
  rw [b3, Option.bind_some]
  show gx_b2 (f_X9_addAlways D h1 o s (xs (i + 1)) (xs (i + 2)) (xs (i + 3))) _ = _
  rw [e2, pl_b2_s]
  show (if s1.1 6 = code then _ else _) = _
  rw [if_pos th]
  by_cases c : code = 0
  · rw [if_pos c]
    show (hx_al h1 Y.2.2.2.2.2.2.2.2 0).bind _ = _
    rw [al c, Option.bind_some, if_pos (show lg_cmp v (Int32.toInt64 x) = 0 by rw [tv c]; exact lg_0)]
    rfl
  · rw [if_neg c]
    rfl
theorem W_54 (C : LC D o p0 L xs Y N h s A) : WA D Y N h (f_X0_undo D h (some Y.1) (some Y.2.2.2.2.2.2.2.2)) (fun b => f_X9_undo D b o s) Int32.toInt64 := by
  unfold f_X0_undo
  rw [Option.bind_some]
  rcases c_undo C.1 with ⟨h0, e⟩ | ⟨hs, R, h1, h0, e, E, B⟩
  · refine WA.ex (kc := 1) (by decide) e C.1.skip skb (if_pos rfl) (fun b => ?_) C.ok C.up
    rcases mc_undo (D := D) (b := b) (o := o) C.2.1 C.ok with ⟨_, r, s1, f1, f2, f3⟩ | ⟨hs, R, s1, k0, _⟩
    · exact ⟨r, s1, f1, f2, f3⟩
    · rw [h0] at k0
      exact absurd k0.symm (by simp)
  · have mR : R ∈ A.2.2.2.1 := by rw [h0]; simp
    have mh : ∀ Q, Q ∈ hs → Q ∈ A.2.2.2.1 := fun Q hQ => by rw [h0]; exact List.mem_append_left _ hQ
    obtain ⟨a1, a2, a3, a4, a5, a6, a7⟩ := C.ok
    refine WA.kn e E B (fun b => ?_) ⟨a1, a4 R mR, a3, fun Q hQ => a4 Q (mh Q hQ), by rw [h0, List.length_append] at a5; exact Nat.le_trans (Nat.le_add_right _ _) a5, a6, a7⟩ ⟨(C.2.2.2.2.2.2.2 R mR).up (Nat.le_add_right _ _), fun Q hQ => (C.2.2.2.2.2.2.1 Q hQ).up (Nat.le_add_right _ _), fun Q hQ => (C.2.2.2.2.2.2.2 Q (mh Q hQ)).up (Nat.le_add_right _ _)⟩
    rcases mc_undo (D := D) (b := b) (o := o) C.2.1 C.ok with ⟨k0, _⟩ | ⟨hs', R', s1, k0, f1, f2, f3⟩
    · rw [h0] at k0
      exact absurd k0 (by simp)
    · rw [h0] at k0
      obtain ⟨j1, j0⟩ := List.append_inj' k0 rfl
      cases j1
      cases j0
      exact ⟨s1, f1, f2, f3⟩
theorem case_54 (C : LC D o p0 L xs Y N h s A) (hL : L ≤ 144) (hi : i + 6 ≤ L) : goL D o p0 L xs Y N i h (lc_54 D o k (h, s) p0 (some Y.1) (some Y.2.2.2.2.2.2.2.2) (nI i)) k := by
  obtain ⟨_, a1, a2, a3, _, _⟩ := scr_at C.2.2.2.2.1 hL hi
  obtain ⟨code, h1, v, x, s1, A1, e1, E, B, al, e2, th, M, tv, ok, ac⟩ : WA D Y N h (f_X0_undo D h (some Y.1) (some Y.2.2.2.2.2.2.2.2)) (fun b => f_X9_undo D b o s) Int32.toInt64 := W_54 C
  have e2 : f_X9_undo D h1 o s = some (x, s1) := e2
  have l : gx_le h h1 := le_X0_undo e1
  obtain ⟨_, b1, b2, b3, _, _⟩ := scr_at (C.sc l) hL hi
  refine ⟨h1, s1, A1, ?_, C.go l E M ok ac, B.up (by decide) (by decide)⟩
  unfold lc_54
  show gx_b2 (f_X0_undo D h (some Y.1) (some Y.2.2.2.2.2.2.2.2)) _ = _
  rw [e1, pl_b2_s]
  show gx_b2 (f_X9_undo D h1 o s) _ = _
  rw [e2, pl_b2_s]
  show (if s1.1 6 = code then _ else _) = _
  rw [if_pos th]
  by_cases c : code = 0
  · rw [if_pos c]
    show (hx_al h1 Y.2.2.2.2.2.2.2.2 0).bind _ = _
    rw [al c, Option.bind_some, if_pos (show lg_cmp v (Int32.toInt64 x) = 0 by rw [tv c]; exact lg_0)]
    rfl
  · rw [if_neg c]
    rfl
theorem W_58 (C : LC D o p0 L xs Y N h s A) : WA D Y N h (f_X0_restoreState D h (some Y.1) (some Y.2.2.2.2.2.2.2.2)) (fun b => f_X9_restoreState D b o s) Int32.toInt64 := by
  unfold f_X0_restoreState
  rw [Option.bind_some]
  rcases c_restoreState C.1 with ⟨h0, e⟩ | ⟨R, h1, h0, e, E, B⟩
  · refine WA.ex (kc := 1) (by decide) e C.1.skip skb (if_pos rfl) (fun b => ?_) C.ok C.up
    rcases mc_restoreState (D := D) (b := b) (o := o) C.2.1 C.ok with ⟨_, r, s1, f1, f2, f3⟩ | ⟨R, s1, k0, _⟩
    · exact ⟨r, s1, f1, f2, f3⟩
    · rw [h0] at k0
      cases k0
  · obtain ⟨a1, a2, a3, a4, a5, a6, a7⟩ := C.ok
    refine WA.kn e E B (fun b => ?_) ⟨a1, a3 R h0, a3, fun Q hQ => (by cases hQ), Nat.zero_le _, a6, a7⟩ ⟨(C.2.2.2.2.2.2.1 R h0).up (Nat.le_add_right _ _), fun Q hQ => (C.2.2.2.2.2.2.1 Q hQ).up (Nat.le_add_right _ _), fun Q hQ => (by cases hQ)⟩
    rcases mc_restoreState (D := D) (b := b) (o := o) C.2.1 C.ok with ⟨k0, _⟩ | ⟨R', s1, k0, f1, f2, f3⟩
    · rw [h0] at k0
      cases k0
    · rw [h0] at k0
      cases k0
      exact ⟨s1, f1, f2, f3⟩
theorem case_58 (C : LC D o p0 L xs Y N h s A) (hL : L ≤ 144) (hi : i + 6 ≤ L) : goL D o p0 L xs Y N i h (lc_58 D o k (h, s) p0 (some Y.1) (some Y.2.2.2.2.2.2.2.2) (nI i)) k := by
  obtain ⟨_, a1, a2, a3, _, _⟩ := scr_at C.2.2.2.2.1 hL hi
  obtain ⟨code, h1, v, x, s1, A1, e1, E, B, al, e2, th, M, tv, ok, ac⟩ : WA D Y N h (f_X0_restoreState D h (some Y.1) (some Y.2.2.2.2.2.2.2.2)) (fun b => f_X9_restoreState D b o s) Int32.toInt64 := W_58 C
  have e2 : f_X9_restoreState D h1 o s = some (x, s1) := e2
  have l : gx_le h h1 := le_X0_restoreState e1
  obtain ⟨_, b1, b2, b3, _, _⟩ := scr_at (C.sc l) hL hi
  refine ⟨h1, s1, A1, ?_, C.go l E M ok ac, B.up (by decide) (by decide)⟩
  unfold lc_58
  show gx_b2 (f_X0_restoreState D h (some Y.1) (some Y.2.2.2.2.2.2.2.2)) _ = _
  rw [e1, pl_b2_s]
  show gx_b2 (f_X9_restoreState D h1 o s) _ = _
  rw [e2, pl_b2_s]
  show (if s1.1 6 = code then _ else _) = _
  rw [if_pos th]
  by_cases c : code = 0
  · rw [if_pos c]
    show (hx_al h1 Y.2.2.2.2.2.2.2.2 0).bind _ = _
    rw [al c, Option.bind_some, if_pos (show lg_cmp v (Int32.toInt64 x) = 0 by rw [tv c]; exact lg_0)]
    rfl
  · rw [if_neg c]
    rfl
end LWE
