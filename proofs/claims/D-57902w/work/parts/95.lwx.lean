/-! the law's cases: the calls that may throw, and change nothing -/
set_option maxRecDepth 100000
set_option linter.unusedVariables false
/-- the call of the component inside the law's wrapper, and the model's: the same answer -/
def WA (D : gx_D) (Y : YT) (N : Nat) (h : HX) {β : Type} (c : Option (Int32 × HX)) (m : HX → Option (β × MS)) (cv : β → Int64) : Prop := ∃ code h1 v x s' A', c = some (code, h1) ∧ cE D h1 Y A' ∧ bnd h h1 20 200 ∧ (code = 0 → hx_al h1 Y.2.2.2.2.2.2.2.2 0 = some v) ∧ m h1 = some (x, s') ∧ s'.1 6 = code ∧ mI s' A' ∧ (code = 0 → v = cv x) ∧ a_ok A' ∧ acA (N + 31) A'
def cvB (b : Bool) : Int64 := if b = true then 1 else 0
section LWD
variable {D : gx_D} {o p0 L N i : Nat} {xs : Nat → Int32} {Y : YT} {h : HX} {s : MS} {A : AT} {k : (HX × MS) → Option Nat → Option Nat → Option Nat → Int32 → Option ((Bool) × HX)}
theorem WA.n (C : LC D o p0 L xs Y N h s A) {E : String} {ok : Bool} {r : Int32} {c : Option ((Int32 ⊕ (String × Nat)) × HX)} {m : HX → Option (Int32 × MS)} (H : ansI c h E ok r) (M : ∀ b, ansM (m b) s ok r) {X : String → Nat → HX → Option (Int32 × HX)} (hX : ∀ q h1, X E q h1 = some (1, h1)) : WA D Y N h (gx_bx c (fun x3 h4 => (some Y.2.2.2.2.2.2.2.2).bind fun a7 => (hx_sl h4 a7 (0 : Int32) (Int32.toInt64 x3)).bind fun h8 => some ((0 : Int32), h8)) X) m Int32.toInt64 := by
  obtain ⟨h1, e1, e2, b, al⟩ := wr_i C H (kc := 1) (by decide) hX
  obtain ⟨x, s', f1, f2, f3, f4⟩ := md_of C.2.1 (M h1)
  have key : (if ok = true then (0 : Int32) else 1) = 0 → ok = true := fun hc => by
    cases ok with
    | true => rfl
    | false => exact absurd hc (by decide)
  exact ⟨_, h1, Int32.toInt64 r, x, s', A, e1, e2, b, fun hc => al (key hc), f1, f2, f3, fun hc => by rw [f4 (key hc)], C.ok, C.2.2.2.2.2.up (Nat.le_add_right _ _)⟩
theorem WA.b (C : LC D o p0 L xs Y N h s A) {E : String} {ok : Bool} {r : Bool} {c : Option ((Bool ⊕ (String × Nat)) × HX)} {m : HX → Option (Bool × MS)} (H : ansI c h E ok r) (M : ∀ b, ansM (m b) s ok r) {X : String → Nat → HX → Option (Int32 × HX)} (hX : ∀ q h1, X E q h1 = some (1, h1)) {B : HX → Int64 → Int32 → Option Nat → Option (Int32 × HX)} (hB : ∀ h4 v, B h4 v 0 (some Y.2.2.2.2.2.2.2.2) = (hx_sl h4 Y.2.2.2.2.2.2.2.2 (0 : Int32) v).bind fun h8 => some ((0 : Int32), h8)) : WA D Y N h (gx_bx c (fun b3 h4 => if b3 = true then B h4 1 0 (some Y.2.2.2.2.2.2.2.2) else B h4 0 0 (some Y.2.2.2.2.2.2.2.2)) X) m cvB := by
  obtain ⟨h1, e1, e2, b, al⟩ := wr_b C H (kc := 1) (by decide) hX hB
  obtain ⟨x, s', f1, f2, f3, f4⟩ := md_of C.2.1 (M h1)
  have key : (if ok = true then (0 : Int32) else 1) = 0 → ok = true := fun hc => by
    cases ok with
    | true => rfl
    | false => exact absurd hc (by decide)
  exact ⟨_, h1, cvB r, x, s', A, e1, e2, b, fun hc => al (key hc), f1, f2, f3, fun hc => by rw [f4 (key hc)], C.ok, C.2.2.2.2.2.up (Nat.le_add_right _ _)⟩
theorem case_17 (C : LC D o p0 L xs Y N h s A) (hL : L ≤ 144) (hi : i + 6 ≤ L) : goL D o p0 L xs Y N i h (lc_17 D o k (h, s) p0 (some Y.1) (some Y.2.2.2.2.2.2.2.2) (nI i)) k := by
  obtain ⟨_, a1, a2, a3, _, _⟩ := scr_at C.2.2.2.2.1 hL hi
  obtain ⟨code, h1, v, x, s1, A1, e1, E, B, al, e2, th, M, tv, ok, ac⟩ : WA D Y N h (f_X0_sourceOf D h (some Y.1) (xs (i + 1)) (some Y.2.2.2.2.2.2.2.2)) (fun b => f_X9_sourceOf D b o s (xs (i + 1))) Int32.toInt64 := by unfold f_X0_sourceOf; rw [Option.bind_some]; exact WA.n C (g_trans C.ap.1 C.vm C.cf (xs (i + 1))).1 (fun b => (h_trans (D := D) (b := b) (o := o) C.M (xs (i + 1))).1) (fun _ _ => if_pos rfl)
  have e2 : f_X9_sourceOf D h1 o s (xs (i + 1)) = some (x, s1) := e2
  have l : gx_le h h1 := le_X0_sourceOf e1
  obtain ⟨_, b1, b2, b3, _, _⟩ := scr_at (C.sc l) hL hi
  refine ⟨h1, s1, A1, ?_, C.go l E M ok ac, B.up (by decide) (by decide)⟩
  unfold lc_17
  show (hx_ai h p0 0 (nI i + 1)).bind _ = _
  rw [a1, Option.bind_some]
  show gx_b2 (f_X0_sourceOf D h (some Y.1) (xs (i + 1)) (some Y.2.2.2.2.2.2.2.2)) _ = _
  rw [e1, pl_b2_s]
  show (hx_ai h1 p0 0 (nI i + 1)).bind _ = _
  rw [b1, Option.bind_some]
  show gx_b2 (f_X9_sourceOf D h1 o s (xs (i + 1))) _ = _
  rw [e2, pl_b2_s]
  show (if s1.1 6 = code then _ else _) = _
  rw [if_pos th]
  by_cases c : code = 0
  · rw [if_pos c]
    show (hx_al h1 Y.2.2.2.2.2.2.2.2 0).bind _ = _
    rw [al c, Option.bind_some, if_pos (show lg_cmp v (Int32.toInt64 x) = 0 by rw [tv c]; exact lg_0)]
    rfl
  · rw [if_neg c]
    rfl
theorem case_18 (C : LC D o p0 L xs Y N h s A) (hL : L ≤ 144) (hi : i + 6 ≤ L) : goL D o p0 L xs Y N i h (lc_18 D o k (h, s) p0 (some Y.1) (some Y.2.2.2.2.2.2.2.2) (nI i)) k := by
  obtain ⟨_, a1, a2, a3, _, _⟩ := scr_at C.2.2.2.2.1 hL hi
  obtain ⟨code, h1, v, x, s1, A1, e1, E, B, al, e2, th, M, tv, ok, ac⟩ : WA D Y N h (f_X0_eventOf D h (some Y.1) (xs (i + 1)) (some Y.2.2.2.2.2.2.2.2)) (fun b => f_X9_eventOf D b o s (xs (i + 1))) Int32.toInt64 := by unfold f_X0_eventOf; rw [Option.bind_some]; exact WA.n C (g_trans C.ap.1 C.vm C.cf (xs (i + 1))).2.1 (fun b => (h_trans (D := D) (b := b) (o := o) C.M (xs (i + 1))).2.1) (fun _ _ => if_pos rfl)
  have e2 : f_X9_eventOf D h1 o s (xs (i + 1)) = some (x, s1) := e2
  have l : gx_le h h1 := le_X0_eventOf e1
  obtain ⟨_, b1, b2, b3, _, _⟩ := scr_at (C.sc l) hL hi
  refine ⟨h1, s1, A1, ?_, C.go l E M ok ac, B.up (by decide) (by decide)⟩
  unfold lc_18
  show (hx_ai h p0 0 (nI i + 1)).bind _ = _
  rw [a1, Option.bind_some]
  show gx_b2 (f_X0_eventOf D h (some Y.1) (xs (i + 1)) (some Y.2.2.2.2.2.2.2.2)) _ = _
  rw [e1, pl_b2_s]
  show (hx_ai h1 p0 0 (nI i + 1)).bind _ = _
  rw [b1, Option.bind_some]
  show gx_b2 (f_X9_eventOf D h1 o s (xs (i + 1))) _ = _
  rw [e2, pl_b2_s]
  show (if s1.1 6 = code then _ else _) = _
  rw [if_pos th]
  by_cases c : code = 0
  · rw [if_pos c]
    show (hx_al h1 Y.2.2.2.2.2.2.2.2 0).bind _ = _
    rw [al c, Option.bind_some, if_pos (show lg_cmp v (Int32.toInt64 x) = 0 by rw [tv c]; exact lg_0)]
    rfl
  · rw [if_neg c]
    rfl
theorem case_19 (C : LC D o p0 L xs Y N h s A) (hL : L ≤ 144) (hi : i + 6 ≤ L) : goL D o p0 L xs Y N i h (lc_19 D o k (h, s) p0 (some Y.1) (some Y.2.2.2.2.2.2.2.2) (nI i)) k := by
  obtain ⟨_, a1, a2, a3, _, _⟩ := scr_at C.2.2.2.2.1 hL hi
  obtain ⟨code, h1, v, x, s1, A1, e1, E, B, al, e2, th, M, tv, ok, ac⟩ : WA D Y N h (f_X0_targetOf D h (some Y.1) (xs (i + 1)) (some Y.2.2.2.2.2.2.2.2)) (fun b => f_X9_targetOf D b o s (xs (i + 1))) Int32.toInt64 := by unfold f_X0_targetOf; rw [Option.bind_some]; exact WA.n C (g_trans C.ap.1 C.vm C.cf (xs (i + 1))).2.2.1 (fun b => (h_trans (D := D) (b := b) (o := o) C.M (xs (i + 1))).2.2.1) (fun _ _ => if_pos rfl)
  have e2 : f_X9_targetOf D h1 o s (xs (i + 1)) = some (x, s1) := e2
  have l : gx_le h h1 := le_X0_targetOf e1
  obtain ⟨_, b1, b2, b3, _, _⟩ := scr_at (C.sc l) hL hi
  refine ⟨h1, s1, A1, ?_, C.go l E M ok ac, B.up (by decide) (by decide)⟩
  unfold lc_19
  show (hx_ai h p0 0 (nI i + 1)).bind _ = _
  rw [a1, Option.bind_some]
  show gx_b2 (f_X0_targetOf D h (some Y.1) (xs (i + 1)) (some Y.2.2.2.2.2.2.2.2)) _ = _
  rw [e1, pl_b2_s]
  show (hx_ai h1 p0 0 (nI i + 1)).bind _ = _
  rw [b1, Option.bind_some]
  show gx_b2 (f_X9_targetOf D h1 o s (xs (i + 1))) _ = _
  rw [e2, pl_b2_s]
  show (if s1.1 6 = code then _ else _) = _
  rw [if_pos th]
  by_cases c : code = 0
  · rw [if_pos c]
    show (hx_al h1 Y.2.2.2.2.2.2.2.2 0).bind _ = _
    rw [al c, Option.bind_some, if_pos (show lg_cmp v (Int32.toInt64 x) = 0 by rw [tv c]; exact lg_0)]
    rfl
  · rw [if_neg c]
    rfl
theorem case_20 (C : LC D o p0 L xs Y N h s A) (hL : L ≤ 144) (hi : i + 6 ≤ L) : goL D o p0 L xs Y N i h (lc_20 D o k (h, s) p0 (some Y.1) (some Y.2.2.2.2.2.2.2.2) (nI i)) k := by
  obtain ⟨_, a1, a2, a3, _, _⟩ := scr_at C.2.2.2.2.1 hL hi
  obtain ⟨code, h1, v, x, s1, A1, e1, E, B, al, e2, th, M, tv, ok, ac⟩ : WA D Y N h (f_X0_hasGuard D h (some Y.1) (xs (i + 1)) (some Y.2.2.2.2.2.2.2.2)) (fun b => f_X9_hasGuard D b o s (xs (i + 1))) cvB := by unfold f_X0_hasGuard; rw [Option.bind_some]; exact WA.b C (g_trans C.ap.1 C.vm C.cf (xs (i + 1))).2.2.2.1 (fun b => (h_trans (D := D) (b := b) (o := o) C.M (xs (i + 1))).2.2.2.1) (fun _ _ => if_pos rfl) (B := f_X0_hasGuard_b15 D) (fun _ _ => rfl)
  have e2 : f_X9_hasGuard D h1 o s (xs (i + 1)) = some (x, s1) := e2
  have l : gx_le h h1 := le_X0_hasGuard e1
  obtain ⟨_, b1, b2, b3, _, _⟩ := scr_at (C.sc l) hL hi
  refine ⟨h1, s1, A1, ?_, C.go l E M ok ac, B.up (by decide) (by decide)⟩
  unfold lc_20
  show (hx_ai h p0 0 (nI i + 1)).bind _ = _
  rw [a1, Option.bind_some]
  show gx_b2 (f_X0_hasGuard D h (some Y.1) (xs (i + 1)) (some Y.2.2.2.2.2.2.2.2)) _ = _
  rw [e1, pl_b2_s]
  show (hx_ai h1 p0 0 (nI i + 1)).bind _ = _
  rw [b1, Option.bind_some]
  show gx_b2 (f_X9_hasGuard D h1 o s (xs (i + 1))) _ = _
  rw [e2, pl_b2_s]
  show (if s1.1 6 = code then _ else _) = _
  rw [if_pos th]
  by_cases c : code = 0
  · rw [if_pos c]
    show (hx_al h1 Y.2.2.2.2.2.2.2.2 0).bind _ = _
    rw [al c, Option.bind_some]
    cases x with
    | true =>
      rw [if_pos rfl]
      show (if lg_cmp v 1 = 0 then _ else _) = _
      rw [if_pos (by rw [show v = 1 from tv c]; exact lg_0)]
      rfl
    | false =>
      rw [if_neg Bool.false_ne_true]
      show (if lg_cmp v 0 = 0 then _ else _) = _
      rw [if_pos (by rw [show v = 0 from tv c]; exact lg_0)]
      rfl
  · rw [if_neg c]
    rfl
theorem case_21 (C : LC D o p0 L xs Y N h s A) (hL : L ≤ 144) (hi : i + 6 ≤ L) : goL D o p0 L xs Y N i h (lc_21 D o k (h, s) p0 (some Y.1) (some Y.2.2.2.2.2.2.2.2) (nI i)) k := by
  obtain ⟨_, a1, a2, a3, _, _⟩ := scr_at C.2.2.2.2.1 hL hi
  obtain ⟨code, h1, v, x, s1, A1, e1, E, B, al, e2, th, M, tv, ok, ac⟩ : WA D Y N h (f_X0_guardHolds D h (some Y.1) (xs (i + 1)) (some Y.2.2.2.2.2.2.2.2)) (fun b => f_X9_guardHolds D b o s (xs (i + 1))) cvB := by unfold f_X0_guardHolds; rw [Option.bind_some]; exact WA.b C (g_trans C.ap.1 C.vm C.cf (xs (i + 1))).2.2.2.2.1 (fun b => (h_trans (D := D) (b := b) (o := o) C.M (xs (i + 1))).2.2.2.2.1) (fun _ _ => if_pos rfl) (B := f_X0_guardHolds_b15 D) (fun _ _ => rfl)
  have e2 : f_X9_guardHolds D h1 o s (xs (i + 1)) = some (x, s1) := e2
  have l : gx_le h h1 := le_X0_guardHolds e1
  obtain ⟨_, b1, b2, b3, _, _⟩ := scr_at (C.sc l) hL hi
  refine ⟨h1, s1, A1, ?_, C.go l E M ok ac, B.up (by decide) (by decide)⟩
  unfold lc_21
  show (hx_ai h p0 0 (nI i + 1)).bind _ = _
  rw [a1, Option.bind_some]
  show gx_b2 (f_X0_guardHolds D h (some Y.1) (xs (i + 1)) (some Y.2.2.2.2.2.2.2.2)) _ = _
  rw [e1, pl_b2_s]
  show (hx_ai h1 p0 0 (nI i + 1)).bind _ = _
  rw [b1, Option.bind_some]
  show gx_b2 (f_X9_guardHolds D h1 o s (xs (i + 1))) _ = _
  rw [e2, pl_b2_s]
  show (if s1.1 6 = code then _ else _) = _
  rw [if_pos th]
  by_cases c : code = 0
  · rw [if_pos c]
    show (hx_al h1 Y.2.2.2.2.2.2.2.2 0).bind _ = _
    rw [al c, Option.bind_some]
    cases x with
    | true =>
      rw [if_pos rfl]
      show (if lg_cmp v 1 = 0 then _ else _) = _
      rw [if_pos (by rw [show v = 1 from tv c]; exact lg_0)]
      rfl
    | false =>
      rw [if_neg Bool.false_ne_true]
      show (if lg_cmp v 0 = 0 then _ else _) = _
      rw [if_pos (by rw [show v = 0 from tv c]; exact lg_0)]
      rfl
  · rw [if_neg c]
    rfl
theorem case_28 (C : LC D o p0 L xs Y N h s A) (hL : L ≤ 144) (hi : i + 6 ≤ L) : goL D o p0 L xs Y N i h (lc_28 D o k (h, s) p0 (some Y.1) (some Y.2.2.2.2.2.2.2.2) (nI i)) k := by
  obtain ⟨_, a1, a2, a3, _, _⟩ := scr_at C.2.2.2.2.1 hL hi
  obtain ⟨code, h1, v, x, s1, A1, e1, E, B, al, e2, th, M, tv, ok, ac⟩ : WA D Y N h (f_X0_timesTaken D h (some Y.1) (xs (i + 1)) (some Y.2.2.2.2.2.2.2.2)) (fun b => f_X9_timesTaken D b o s (xs (i + 1))) Int32.toInt64 := by unfold f_X0_timesTaken; rw [Option.bind_some]; exact WA.n C (g_trans C.ap.1 C.vm C.cf (xs (i + 1))).2.2.2.2.2 (fun b => (h_trans (D := D) (b := b) (o := o) C.M (xs (i + 1))).2.2.2.2.2) (fun _ _ => if_pos rfl)
  have e2 : f_X9_timesTaken D h1 o s (xs (i + 1)) = some (x, s1) := e2
  have l : gx_le h h1 := le_X0_timesTaken e1
  obtain ⟨_, b1, b2, b3, _, _⟩ := scr_at (C.sc l) hL hi
  refine ⟨h1, s1, A1, ?_, C.go l E M ok ac, B.up (by decide) (by decide)⟩
  unfold lc_28
  show (hx_ai h p0 0 (nI i + 1)).bind _ = _
  rw [a1, Option.bind_some]
  show gx_b2 (f_X0_timesTaken D h (some Y.1) (xs (i + 1)) (some Y.2.2.2.2.2.2.2.2)) _ = _
  rw [e1, pl_b2_s]
  show (hx_ai h1 p0 0 (nI i + 1)).bind _ = _
  rw [b1, Option.bind_some]
  show gx_b2 (f_X9_timesTaken D h1 o s (xs (i + 1))) _ = _
  rw [e2, pl_b2_s]
  show (if s1.1 6 = code then _ else _) = _
  rw [if_pos th]
  by_cases c : code = 0
  · rw [if_pos c]
    show (hx_al h1 Y.2.2.2.2.2.2.2.2 0).bind _ = _
    rw [al c, Option.bind_some, if_pos (show lg_cmp v (Int32.toInt64 x) = 0 by rw [tv c]; exact lg_0)]
    rfl
  · rw [if_neg c]
    rfl
theorem case_22 (C : LC D o p0 L xs Y N h s A) (hL : L ≤ 144) (hi : i + 6 ≤ L) : goL D o p0 L xs Y N i h (lc_22 D o k (h, s) p0 (some Y.1) (some Y.2.2.2.2.2.2.2.2) (nI i)) k := by
  obtain ⟨_, a1, a2, a3, _, _⟩ := scr_at C.2.2.2.2.1 hL hi
  obtain ⟨code, h1, v, x, s1, A1, e1, E, B, al, e2, th, M, tv, ok, ac⟩ : WA D Y N h (f_X0_stateOfInvariant D h (some Y.1) (xs (i + 1)) (some Y.2.2.2.2.2.2.2.2)) (fun b => f_X9_stateOfInvariant D b o s (xs (i + 1))) Int32.toInt64 := by unfold f_X0_stateOfInvariant; rw [Option.bind_some]; exact WA.n C (g_inv C.ap.1 C.vm C.cf (xs (i + 1))).1 (fun b => (h_inv (D := D) (b := b) (o := o) C.M (xs (i + 1))).1) (fun _ _ => if_pos rfl)
  have e2 : f_X9_stateOfInvariant D h1 o s (xs (i + 1)) = some (x, s1) := e2
  have l : gx_le h h1 := le_X0_stateOfInvariant e1
  obtain ⟨_, b1, b2, b3, _, _⟩ := scr_at (C.sc l) hL hi
  refine ⟨h1, s1, A1, ?_, C.go l E M ok ac, B.up (by decide) (by decide)⟩
  unfold lc_22
  show (hx_ai h p0 0 (nI i + 1)).bind _ = _
  rw [a1, Option.bind_some]
  show gx_b2 (f_X0_stateOfInvariant D h (some Y.1) (xs (i + 1)) (some Y.2.2.2.2.2.2.2.2)) _ = _
  rw [e1, pl_b2_s]
  show (hx_ai h1 p0 0 (nI i + 1)).bind _ = _
  rw [b1, Option.bind_some]
  show gx_b2 (f_X9_stateOfInvariant D h1 o s (xs (i + 1))) _ = _
  rw [e2, pl_b2_s]
  show (if s1.1 6 = code then _ else _) = _
  rw [if_pos th]
  by_cases c : code = 0
  · rw [if_pos c]
    show (hx_al h1 Y.2.2.2.2.2.2.2.2 0).bind _ = _
    rw [al c, Option.bind_some, if_pos (show lg_cmp v (Int32.toInt64 x) = 0 by rw [tv c]; exact lg_0)]
    rfl
  · rw [if_neg c]
    rfl
theorem case_23 (C : LC D o p0 L xs Y N h s A) (hL : L ≤ 144) (hi : i + 6 ≤ L) : goL D o p0 L xs Y N i h (lc_23 D o k (h, s) p0 (some Y.1) (some Y.2.2.2.2.2.2.2.2) (nI i)) k := by
  obtain ⟨_, a1, a2, a3, _, _⟩ := scr_at C.2.2.2.2.1 hL hi
  obtain ⟨code, h1, v, x, s1, A1, e1, E, B, al, e2, th, M, tv, ok, ac⟩ : WA D Y N h (f_X0_comparisonHolds D h (some Y.1) (xs (i + 1)) (some Y.2.2.2.2.2.2.2.2)) (fun b => f_X9_comparisonHolds D b o s (xs (i + 1))) cvB := by unfold f_X0_comparisonHolds; rw [Option.bind_some]; exact WA.b C (g_inv C.ap.1 C.vm C.cf (xs (i + 1))).2 (fun b => (h_inv (D := D) (b := b) (o := o) C.M (xs (i + 1))).2) (fun _ _ => if_pos rfl) (B := f_X0_comparisonHolds_b15 D) (fun _ _ => rfl)
  have e2 : f_X9_comparisonHolds D h1 o s (xs (i + 1)) = some (x, s1) := e2
  have l : gx_le h h1 := le_X0_comparisonHolds e1
  obtain ⟨_, b1, b2, b3, _, _⟩ := scr_at (C.sc l) hL hi
  refine ⟨h1, s1, A1, ?_, C.go l E M ok ac, B.up (by decide) (by decide)⟩
  unfold lc_23
  show (hx_ai h p0 0 (nI i + 1)).bind _ = _
  rw [a1, Option.bind_some]
  show gx_b2 (f_X0_comparisonHolds D h (some Y.1) (xs (i + 1)) (some Y.2.2.2.2.2.2.2.2)) _ = _
  rw [e1, pl_b2_s]
  show (hx_ai h1 p0 0 (nI i + 1)).bind _ = _
  rw [b1, Option.bind_some]
  show gx_b2 (f_X9_comparisonHolds D h1 o s (xs (i + 1))) _ = _
  rw [e2, pl_b2_s]
  show (if s1.1 6 = code then _ else _) = _
  rw [if_pos th]
  by_cases c : code = 0
  · rw [if_pos c]
    show (hx_al h1 Y.2.2.2.2.2.2.2.2 0).bind _ = _
    rw [al c, Option.bind_some]
    cases x with
    | true =>
      rw [if_pos rfl]
      show (if lg_cmp v 1 = 0 then _ else _) = _
      rw [if_pos (by rw [show v = 1 from tv c]; exact lg_0)]
      rfl
    | false =>
      rw [if_neg Bool.false_ne_true]
      show (if lg_cmp v 0 = 0 then _ else _) = _
      rw [if_pos (by rw [show v = 0 from tv c]; exact lg_0)]
      rfl
  · rw [if_neg c]
    rfl
theorem case_15 (C : LC D o p0 L xs Y N h s A) (hL : L ≤ 144) (hi : i + 6 ≤ L) : goL D o p0 L xs Y N i h (lc_15 D o k (h, s) p0 (some Y.1) (some Y.2.2.2.2.2.2.2.2) (nI i)) k := by
  obtain ⟨_, a1, a2, a3, _, _⟩ := scr_at C.2.2.2.2.1 hL hi
  obtain ⟨code, h1, v, x, s1, A1, e1, E, B, al, e2, th, M, tv, ok, ac⟩ : WA D Y N h (f_X0_valueOf D h (some Y.1) (xs (i + 1)) (some Y.2.2.2.2.2.2.2.2)) (fun b => f_X9_valueOf D b o s (xs (i + 1))) Int32.toInt64 := by unfold f_X0_valueOf; rw [Option.bind_some]; exact WA.n C (g_vars C.vm C.cf C.df.2.2.2.2.2.2.2.2.1 C.df.2.2.2.2.2.2.2.2.2 (xs (i + 1))).1 (fun b => (h_vars (D := D) (b := b) (o := o) C.M (xs (i + 1))).1) (fun _ _ => if_pos rfl)
  have e2 : f_X9_valueOf D h1 o s (xs (i + 1)) = some (x, s1) := e2
  have l : gx_le h h1 := le_X0_valueOf e1
  obtain ⟨_, b1, b2, b3, _, _⟩ := scr_at (C.sc l) hL hi
  refine ⟨h1, s1, A1, ?_, C.go l E M ok ac, B.up (by decide) (by decide)⟩
  unfold lc_15
  show (hx_ai h p0 0 (nI i + 1)).bind _ = _
  rw [a1, Option.bind_some]
  show gx_b2 (f_X0_valueOf D h (some Y.1) (xs (i + 1)) (some Y.2.2.2.2.2.2.2.2)) _ = _
  rw [e1, pl_b2_s]
  show (hx_ai h1 p0 0 (nI i + 1)).bind _ = _
  rw [b1, Option.bind_some]
  show gx_b2 (f_X9_valueOf D h1 o s (xs (i + 1))) _ = _
  rw [e2, pl_b2_s]
  show (if s1.1 6 = code then _ else _) = _
  rw [if_pos th]
  by_cases c : code = 0
  · rw [if_pos c]
    show (hx_al h1 Y.2.2.2.2.2.2.2.2 0).bind _ = _
    rw [al c, Option.bind_some, if_pos (show lg_cmp v (Int32.toInt64 x) = 0 by rw [tv c]; exact lg_0)]
    rfl
  · rw [if_neg c]
    rfl
theorem case_16 (C : LC D o p0 L xs Y N h s A) (hL : L ≤ 144) (hi : i + 6 ≤ L) : goL D o p0 L xs Y N i h (lc_16 D o k (h, s) p0 (some Y.1) (some Y.2.2.2.2.2.2.2.2) (nI i)) k := by
  obtain ⟨_, a1, a2, a3, _, _⟩ := scr_at C.2.2.2.2.1 hL hi
  obtain ⟨code, h1, v, x, s1, A1, e1, E, B, al, e2, th, M, tv, ok, ac⟩ : WA D Y N h (f_X0_initialValueOf D h (some Y.1) (xs (i + 1)) (some Y.2.2.2.2.2.2.2.2)) (fun b => f_X9_initialValueOf D b o s (xs (i + 1))) Int32.toInt64 := by unfold f_X0_initialValueOf; rw [Option.bind_some]; exact WA.n C (g_vars C.vm C.cf C.df.2.2.2.2.2.2.2.2.1 C.df.2.2.2.2.2.2.2.2.2 (xs (i + 1))).2.1 (fun b => (h_vars (D := D) (b := b) (o := o) C.M (xs (i + 1))).2.1) (fun _ _ => if_pos rfl)
  have e2 : f_X9_initialValueOf D h1 o s (xs (i + 1)) = some (x, s1) := e2
  have l : gx_le h h1 := le_X0_initialValueOf e1
  obtain ⟨_, b1, b2, b3, _, _⟩ := scr_at (C.sc l) hL hi
  refine ⟨h1, s1, A1, ?_, C.go l E M ok ac, B.up (by decide) (by decide)⟩
  unfold lc_16
  show (hx_ai h p0 0 (nI i + 1)).bind _ = _
  rw [a1, Option.bind_some]
  show gx_b2 (f_X0_initialValueOf D h (some Y.1) (xs (i + 1)) (some Y.2.2.2.2.2.2.2.2)) _ = _
  rw [e1, pl_b2_s]
  show (hx_ai h1 p0 0 (nI i + 1)).bind _ = _
  rw [b1, Option.bind_some]
  show gx_b2 (f_X9_initialValueOf D h1 o s (xs (i + 1))) _ = _
  rw [e2, pl_b2_s]
  show (if s1.1 6 = code then _ else _) = _
  rw [if_pos th]
  by_cases c : code = 0
  · rw [if_pos c]
    show (hx_al h1 Y.2.2.2.2.2.2.2.2 0).bind _ = _
    rw [al c, Option.bind_some, if_pos (show lg_cmp v (Int32.toInt64 x) = 0 by rw [tv c]; exact lg_0)]
    rfl
  · rw [if_neg c]
    rfl
theorem case_29 (C : LC D o p0 L xs Y N h s A) (hL : L ≤ 144) (hi : i + 6 ≤ L) : goL D o p0 L xs Y N i h (lc_29 D o k (h, s) p0 (some Y.1) (some Y.2.2.2.2.2.2.2.2) (nI i)) k := by
  obtain ⟨_, a1, a2, a3, _, _⟩ := scr_at C.2.2.2.2.1 hL hi
  obtain ⟨code, h1, v, x, s1, A1, e1, E, B, al, e2, th, M, tv, ok, ac⟩ : WA D Y N h (f_X0_visitsOf D h (some Y.1) (xs (i + 1)) (some Y.2.2.2.2.2.2.2.2)) (fun b => f_X9_visitsOf D b o s (xs (i + 1))) Int32.toInt64 := by unfold f_X0_visitsOf; rw [Option.bind_some]; exact WA.n C (g_vars C.vm C.cf C.df.2.2.2.2.2.2.2.2.1 C.df.2.2.2.2.2.2.2.2.2 (xs (i + 1))).2.2 (fun b => (h_vars (D := D) (b := b) (o := o) C.M (xs (i + 1))).2.2) (fun _ _ => if_pos rfl)
  have e2 : f_X9_visitsOf D h1 o s (xs (i + 1)) = some (x, s1) := e2
  have l : gx_le h h1 := le_X0_visitsOf e1
  obtain ⟨_, b1, b2, b3, _, _⟩ := scr_at (C.sc l) hL hi
  refine ⟨h1, s1, A1, ?_, C.go l E M ok ac, B.up (by decide) (by decide)⟩
  unfold lc_29
  show (hx_ai h p0 0 (nI i + 1)).bind _ = _
  rw [a1, Option.bind_some]
  show gx_b2 (f_X0_visitsOf D h (some Y.1) (xs (i + 1)) (some Y.2.2.2.2.2.2.2.2)) _ = _
  rw [e1, pl_b2_s]
  show (hx_ai h1 p0 0 (nI i + 1)).bind _ = _
  rw [b1, Option.bind_some]
  show gx_b2 (f_X9_visitsOf D h1 o s (xs (i + 1))) _ = _
  rw [e2, pl_b2_s]
  show (if s1.1 6 = code then _ else _) = _
  rw [if_pos th]
  by_cases c : code = 0
  · rw [if_pos c]
    show (hx_al h1 Y.2.2.2.2.2.2.2.2 0).bind _ = _
    rw [al c, Option.bind_some, if_pos (show lg_cmp v (Int32.toInt64 x) = 0 by rw [tv c]; exact lg_0)]
    rfl
  · rw [if_neg c]
    rfl
theorem case_24 (C : LC D o p0 L xs Y N h s A) (hL : L ≤ 144) (hi : i + 6 ≤ L) : goL D o p0 L xs Y N i h (lc_24 D o k (h, s) p0 (some Y.1) (some Y.2.2.2.2.2.2.2.2) (nI i)) k := by
  obtain ⟨_, a1, a2, a3, _, _⟩ := scr_at C.2.2.2.2.1 hL hi
  obtain ⟨code, h1, v, x, s1, A1, e1, E, B, al, e2, th, M, tv, ok, ac⟩ : WA D Y N h (f_X0_verdictOf D h (some Y.1) (xs (i + 1)) (some Y.2.2.2.2.2.2.2.2)) (fun b => f_X9_verdictOf D b o s (xs (i + 1))) Int32.toInt64 := by unfold f_X0_verdictOf; rw [Option.bind_some]; exact WA.n C (g_events C.ap.1 C.ap.2 C.vm C.cf C.df.trs (xs (i + 1))).1 (fun b => (h_events (D := D) (b := b) (o := o) C.M (xs (i + 1))).1) (fun _ _ => if_pos rfl)
  have e2 : f_X9_verdictOf D h1 o s (xs (i + 1)) = some (x, s1) := e2
  have l : gx_le h h1 := le_X0_verdictOf e1
  obtain ⟨_, b1, b2, b3, _, _⟩ := scr_at (C.sc l) hL hi
  refine ⟨h1, s1, A1, ?_, C.go l E M ok ac, B.up (by decide) (by decide)⟩
  unfold lc_24
  show (hx_ai h p0 0 (nI i + 1)).bind _ = _
  rw [a1, Option.bind_some]
  show gx_b2 (f_X0_verdictOf D h (some Y.1) (xs (i + 1)) (some Y.2.2.2.2.2.2.2.2)) _ = _
  rw [e1, pl_b2_s]
  show (hx_ai h1 p0 0 (nI i + 1)).bind _ = _
  rw [b1, Option.bind_some]
  show gx_b2 (f_X9_verdictOf D h1 o s (xs (i + 1))) _ = _
  rw [e2, pl_b2_s]
  show (if s1.1 6 = code then _ else _) = _
  rw [if_pos th]
  by_cases c : code = 0
  · rw [if_pos c]
    show (hx_al h1 Y.2.2.2.2.2.2.2.2 0).bind _ = _
    rw [al c, Option.bind_some, if_pos (show lg_cmp v (Int32.toInt64 x) = 0 by rw [tv c]; exact lg_0)]
    rfl
  · rw [if_neg c]
    rfl
theorem case_25 (C : LC D o p0 L xs Y N h s A) (hL : L ≤ 144) (hi : i + 6 ≤ L) : goL D o p0 L xs Y N i h (lc_25 D o k (h, s) p0 (some Y.1) (some Y.2.2.2.2.2.2.2.2) (nI i)) k := by
  obtain ⟨_, a1, a2, a3, _, _⟩ := scr_at C.2.2.2.2.1 hL hi
  obtain ⟨code, h1, v, x, s1, A1, e1, E, B, al, e2, th, M, tv, ok, ac⟩ : WA D Y N h (f_X0_chosenTransition D h (some Y.1) (xs (i + 1)) (some Y.2.2.2.2.2.2.2.2)) (fun b => f_X9_chosenTransition D b o s (xs (i + 1))) Int32.toInt64 := by unfold f_X0_chosenTransition; rw [Option.bind_some]; exact WA.n C (g_events C.ap.1 C.ap.2 C.vm C.cf C.df.trs (xs (i + 1))).2.1 (fun b => (h_events (D := D) (b := b) (o := o) C.M (xs (i + 1))).2.1) (fun _ _ => if_pos rfl)
  have e2 : f_X9_chosenTransition D h1 o s (xs (i + 1)) = some (x, s1) := e2
  have l : gx_le h h1 := le_X0_chosenTransition e1
  obtain ⟨_, b1, b2, b3, _, _⟩ := scr_at (C.sc l) hL hi
  refine ⟨h1, s1, A1, ?_, C.go l E M ok ac, B.up (by decide) (by decide)⟩
  unfold lc_25
  show (hx_ai h p0 0 (nI i + 1)).bind _ = _
  rw [a1, Option.bind_some]
  show gx_b2 (f_X0_chosenTransition D h (some Y.1) (xs (i + 1)) (some Y.2.2.2.2.2.2.2.2)) _ = _
  rw [e1, pl_b2_s]
  show (hx_ai h1 p0 0 (nI i + 1)).bind _ = _
  rw [b1, Option.bind_some]
  show gx_b2 (f_X9_chosenTransition D h1 o s (xs (i + 1))) _ = _
  rw [e2, pl_b2_s]
  show (if s1.1 6 = code then _ else _) = _
  rw [if_pos th]
  by_cases c : code = 0
  · rw [if_pos c]
    show (hx_al h1 Y.2.2.2.2.2.2.2.2 0).bind _ = _
    rw [al c, Option.bind_some, if_pos (show lg_cmp v (Int32.toInt64 x) = 0 by rw [tv c]; exact lg_0)]
    rfl
  · rw [if_neg c]
    rfl
theorem case_26 (C : LC D o p0 L xs Y N h s A) (hL : L ≤ 144) (hi : i + 6 ≤ L) : goL D o p0 L xs Y N i h (lc_26 D o k (h, s) p0 (some Y.1) (some Y.2.2.2.2.2.2.2.2) (nI i)) k := by
  obtain ⟨_, a1, a2, a3, _, _⟩ := scr_at C.2.2.2.2.1 hL hi
  obtain ⟨code, h1, v, x, s1, A1, e1, E, B, al, e2, th, M, tv, ok, ac⟩ : WA D Y N h (f_X0_brokenInvariant D h (some Y.1) (xs (i + 1)) (some Y.2.2.2.2.2.2.2.2)) (fun b => f_X9_brokenInvariant D b o s (xs (i + 1))) Int32.toInt64 := by unfold f_X0_brokenInvariant; rw [Option.bind_some]; exact WA.n C (g_events C.ap.1 C.ap.2 C.vm C.cf C.df.trs (xs (i + 1))).2.2 (fun b => (h_events (D := D) (b := b) (o := o) C.M (xs (i + 1))).2.2) (fun _ _ => if_pos rfl)
  have e2 : f_X9_brokenInvariant D h1 o s (xs (i + 1)) = some (x, s1) := e2
  have l : gx_le h h1 := le_X0_brokenInvariant e1
  obtain ⟨_, b1, b2, b3, _, _⟩ := scr_at (C.sc l) hL hi
  refine ⟨h1, s1, A1, ?_, C.go l E M ok ac, B.up (by decide) (by decide)⟩
  unfold lc_26
  show (hx_ai h p0 0 (nI i + 1)).bind _ = _
  rw [a1, Option.bind_some]
  show gx_b2 (f_X0_brokenInvariant D h (some Y.1) (xs (i + 1)) (some Y.2.2.2.2.2.2.2.2)) _ = _
  rw [e1, pl_b2_s]
  show (hx_ai h1 p0 0 (nI i + 1)).bind _ = _
  rw [b1, Option.bind_some]
  show gx_b2 (f_X9_brokenInvariant D h1 o s (xs (i + 1))) _ = _
  rw [e2, pl_b2_s]
  show (if s1.1 6 = code then _ else _) = _
  rw [if_pos th]
  by_cases c : code = 0
  · rw [if_pos c]
    show (hx_al h1 Y.2.2.2.2.2.2.2.2 0).bind _ = _
    rw [al c, Option.bind_some, if_pos (show lg_cmp v (Int32.toInt64 x) = 0 by rw [tv c]; exact lg_0)]
    rfl
  · rw [if_neg c]
    rfl
theorem case_32 (C : LC D o p0 L xs Y N h s A) (hL : L ≤ 144) (hi : i + 6 ≤ L) : goL D o p0 L xs Y N i h (lc_32 D o k (h, s) p0 (some Y.1) (some Y.2.2.2.2.2.2.2.2) (nI i)) k := by
  obtain ⟨_, a1, a2, a3, _, _⟩ := scr_at C.2.2.2.2.1 hL hi
  obtain ⟨code, h1, v, x, s1, A1, e1, E, B, al, e2, th, M, tv, ok, ac⟩ : WA D Y N h (f_X0_rejectedWith D h (some Y.1) (xs (i + 1)) (some Y.2.2.2.2.2.2.2.2)) (fun b => f_X9_rejectedWith D b o s (xs (i + 1))) Int32.toInt64 := by unfold f_X0_rejectedWith; rw [Option.bind_some]; exact WA.n C (g_rejectedWith C.vm (xs (i + 1))) (fun b => (h_rejectedWith (D := D) (b := b) (o := o) C.M (xs (i + 1)))) (fun _ _ => if_pos rfl)
  have e2 : f_X9_rejectedWith D h1 o s (xs (i + 1)) = some (x, s1) := e2
  have l : gx_le h h1 := le_X0_rejectedWith e1
  obtain ⟨_, b1, b2, b3, _, _⟩ := scr_at (C.sc l) hL hi
  refine ⟨h1, s1, A1, ?_, C.go l E M ok ac, B.up (by decide) (by decide)⟩
  unfold lc_32
  show (hx_ai h p0 0 (nI i + 1)).bind _ = _
  rw [a1, Option.bind_some]
  show gx_b2 (f_X0_rejectedWith D h (some Y.1) (xs (i + 1)) (some Y.2.2.2.2.2.2.2.2)) _ = _
  rw [e1, pl_b2_s]
  show (hx_ai h1 p0 0 (nI i + 1)).bind _ = _
  rw [b1, Option.bind_some]
  show gx_b2 (f_X9_rejectedWith D h1 o s (xs (i + 1))) _ = _
  rw [e2, pl_b2_s]
  show (if s1.1 6 = code then _ else _) = _
  rw [if_pos th]
  by_cases c : code = 0
  · rw [if_pos c]
    show (hx_al h1 Y.2.2.2.2.2.2.2.2 0).bind _ = _
    rw [al c, Option.bind_some, if_pos (show lg_cmp v (Int32.toInt64 x) = 0 by rw [tv c]; exact lg_0)]
    rfl
  · rw [if_neg c]
    rfl
theorem case_11 (C : LC D o p0 L xs Y N h s A) (hL : L ≤ 144) (hi : i + 6 ≤ L) : goL D o p0 L xs Y N i h (lc_11 D o k (h, s) p0 (some Y.1) (some Y.2.2.2.2.2.2.2.2) (nI i)) k := by
  obtain ⟨_, a1, a2, a3, _, _⟩ := scr_at C.2.2.2.2.1 hL hi
  obtain ⟨code, h1, v, x, s1, A1, e1, E, B, al, e2, th, M, tv, ok, ac⟩ : WA D Y N h (f_X0_stateNameByte D h (some Y.1) (xs (i + 1)) (xs (i + 2)) (some Y.2.2.2.2.2.2.2.2)) (fun b => f_X9_stateNameByte D b o s (xs (i + 1)) (xs (i + 2))) Int32.toInt64 := by unfold f_X0_stateNameByte; rw [Option.bind_some]; exact WA.n C (g_names C.vm (xs (i + 1)) (xs (i + 2))).1 (fun b => (h_names (D := D) (b := b) (o := o) C.M (xs (i + 1)) (xs (i + 2))).1) (fun _ _ => if_pos rfl)
  have e2 : f_X9_stateNameByte D h1 o s (xs (i + 1)) (xs (i + 2)) = some (x, s1) := e2
  have l : gx_le h h1 := le_X0_stateNameByte e1
  obtain ⟨_, b1, b2, b3, _, _⟩ := scr_at (C.sc l) hL hi
  refine ⟨h1, s1, A1, ?_, C.go l E M ok ac, B.up (by decide) (by decide)⟩
  unfold lc_11
  show (hx_ai h p0 0 (nI i + 1)).bind _ = _
  rw [a1, Option.bind_some]
  show (hx_ai h p0 0 (nI i + 2)).bind _ = _
  rw [a2, Option.bind_some]
  show gx_b2 (f_X0_stateNameByte D h (some Y.1) (xs (i + 1)) (xs (i + 2)) (some Y.2.2.2.2.2.2.2.2)) _ = _
  rw [e1, pl_b2_s]
  show (hx_ai h1 p0 0 (nI i + 1)).bind _ = _
  rw [b1, Option.bind_some]
  show (hx_ai h1 p0 0 (nI i + 2)).bind _ = _
  rw [b2, Option.bind_some]
  show gx_b2 (f_X9_stateNameByte D h1 o s (xs (i + 1)) (xs (i + 2))) _ = _
  rw [e2, pl_b2_s]
  show (if s1.1 6 = code then _ else _) = _
  rw [if_pos th]
  by_cases c : code = 0
  · rw [if_pos c]
    show (hx_al h1 Y.2.2.2.2.2.2.2.2 0).bind _ = _
    rw [al c, Option.bind_some, if_pos (show lg_cmp v (Int32.toInt64 x) = 0 by rw [tv c]; exact lg_0)]
    rfl
  · rw [if_neg c]
    rfl
theorem case_12 (C : LC D o p0 L xs Y N h s A) (hL : L ≤ 144) (hi : i + 6 ≤ L) : goL D o p0 L xs Y N i h (lc_12 D o k (h, s) p0 (some Y.1) (some Y.2.2.2.2.2.2.2.2) (nI i)) k := by
  obtain ⟨_, a1, a2, a3, _, _⟩ := scr_at C.2.2.2.2.1 hL hi
  obtain ⟨code, h1, v, x, s1, A1, e1, E, B, al, e2, th, M, tv, ok, ac⟩ : WA D Y N h (f_X0_eventNameByte D h (some Y.1) (xs (i + 1)) (xs (i + 2)) (some Y.2.2.2.2.2.2.2.2)) (fun b => f_X9_eventNameByte D b o s (xs (i + 1)) (xs (i + 2))) Int32.toInt64 := by unfold f_X0_eventNameByte; rw [Option.bind_some]; exact WA.n C (g_names C.vm (xs (i + 1)) (xs (i + 2))).2.1 (fun b => (h_names (D := D) (b := b) (o := o) C.M (xs (i + 1)) (xs (i + 2))).2.1) (fun _ _ => if_pos rfl)
  have e2 : f_X9_eventNameByte D h1 o s (xs (i + 1)) (xs (i + 2)) = some (x, s1) := e2
  have l : gx_le h h1 := le_X0_eventNameByte e1
  obtain ⟨_, b1, b2, b3, _, _⟩ := scr_at (C.sc l) hL hi
  refine ⟨h1, s1, A1, ?_, C.go l E M ok ac, B.up (by decide) (by decide)⟩
  unfold lc_12
  show (hx_ai h p0 0 (nI i + 1)).bind _ = _
  rw [a1, Option.bind_some]
  show (hx_ai h p0 0 (nI i + 2)).bind _ = _
  rw [a2, Option.bind_some]
  show gx_b2 (f_X0_eventNameByte D h (some Y.1) (xs (i + 1)) (xs (i + 2)) (some Y.2.2.2.2.2.2.2.2)) _ = _
  rw [e1, pl_b2_s]
  show (hx_ai h1 p0 0 (nI i + 1)).bind _ = _
  rw [b1, Option.bind_some]
  show (hx_ai h1 p0 0 (nI i + 2)).bind _ = _
  rw [b2, Option.bind_some]
  show gx_b2 (f_X9_eventNameByte D h1 o s (xs (i + 1)) (xs (i + 2))) _ = _
  rw [e2, pl_b2_s]
  show (if s1.1 6 = code then _ else _) = _
  rw [if_pos th]
  by_cases c : code = 0
  · rw [if_pos c]
    show (hx_al h1 Y.2.2.2.2.2.2.2.2 0).bind _ = _
    rw [al c, Option.bind_some, if_pos (show lg_cmp v (Int32.toInt64 x) = 0 by rw [tv c]; exact lg_0)]
    rfl
  · rw [if_neg c]
    rfl
theorem case_13 (C : LC D o p0 L xs Y N h s A) (hL : L ≤ 144) (hi : i + 6 ≤ L) : goL D o p0 L xs Y N i h (lc_13 D o k (h, s) p0 (some Y.1) (some Y.2.2.2.2.2.2.2.2) (nI i)) k := by
  obtain ⟨_, a1, a2, a3, _, _⟩ := scr_at C.2.2.2.2.1 hL hi
  obtain ⟨code, h1, v, x, s1, A1, e1, E, B, al, e2, th, M, tv, ok, ac⟩ : WA D Y N h (f_X0_variableNameByte D h (some Y.1) (xs (i + 1)) (xs (i + 2)) (some Y.2.2.2.2.2.2.2.2)) (fun b => f_X9_variableNameByte D b o s (xs (i + 1)) (xs (i + 2))) Int32.toInt64 := by unfold f_X0_variableNameByte; rw [Option.bind_some]; exact WA.n C (g_names C.vm (xs (i + 1)) (xs (i + 2))).2.2 (fun b => (h_names (D := D) (b := b) (o := o) C.M (xs (i + 1)) (xs (i + 2))).2.2) (fun _ _ => if_pos rfl)
  have e2 : f_X9_variableNameByte D h1 o s (xs (i + 1)) (xs (i + 2)) = some (x, s1) := e2
  have l : gx_le h h1 := le_X0_variableNameByte e1
  obtain ⟨_, b1, b2, b3, _, _⟩ := scr_at (C.sc l) hL hi
  refine ⟨h1, s1, A1, ?_, C.go l E M ok ac, B.up (by decide) (by decide)⟩
  unfold lc_13
  show (hx_ai h p0 0 (nI i + 1)).bind _ = _
  rw [a1, Option.bind_some]
  show (hx_ai h p0 0 (nI i + 2)).bind _ = _
  rw [a2, Option.bind_some]
  show gx_b2 (f_X0_variableNameByte D h (some Y.1) (xs (i + 1)) (xs (i + 2)) (some Y.2.2.2.2.2.2.2.2)) _ = _
  rw [e1, pl_b2_s]
  show (hx_ai h1 p0 0 (nI i + 1)).bind _ = _
  rw [b1, Option.bind_some]
  show (hx_ai h1 p0 0 (nI i + 2)).bind _ = _
  rw [b2, Option.bind_some]
  show gx_b2 (f_X9_variableNameByte D h1 o s (xs (i + 1)) (xs (i + 2))) _ = _
  rw [e2, pl_b2_s]
  show (if s1.1 6 = code then _ else _) = _
  rw [if_pos th]
  by_cases c : code = 0
  · rw [if_pos c]
    show (hx_al h1 Y.2.2.2.2.2.2.2.2 0).bind _ = _
    rw [al c, Option.bind_some, if_pos (show lg_cmp v (Int32.toInt64 x) = 0 by rw [tv c]; exact lg_0)]
    rfl
  · rw [if_neg c]
    rfl
end LWD
