/-! how each program holds a definition and a run -/
set_option maxRecDepth 100000
/-- a string of small letters -/
def hx_str (h : HX) (a : Nat) (cs : List Nat) : Prop := ∃ (v : Nat) (b : Value) (c : Value) (f : Nat → Int32), hx_ob h a 2 [va_rf (some v), .int 0, b, c] ∧ hx_oi h v 1 cs.length f ∧ cs.length < 100 ∧ ∀ (k x : Nat), cs[k]? = some x → f k = nI x ∧ x < 128
/-- a definition: names of states, events, variables; transitions; the initial configuration -/
abbrev DF : Type := List (List Nat) × List (List Nat) × List (List Nat) × List TR × CF
/-- a run: invariants, configuration, how often taken, visits, rejected by verdict, accepted, trace -/
abbrev RN : Type := List IV × CF × (Nat → Int32) × (Nat → Int32) × (Nat → Int32) × Int32 × List (Nat × Nat)
abbrev RN.iv (R : RN) : List IV := R.1
abbrev RN.cf (R : RN) : CF := R.2.1
abbrev RN.tk (R : RN) : Nat → Int32 := R.2.2.1
abbrev RN.vi (R : RN) : Nat → Int32 := R.2.2.2.1
abbrev RN.rj (R : RN) : Nat → Int32 := R.2.2.2.2.1
abbrev RN.ac (R : RN) : Int32 := R.2.2.2.2.2.1
abbrev RN.tr (R : RN) : List (Nat × Nat) := R.2.2.2.2.2.2
abbrev DF.sn (F : DF) : List (List Nat) := F.1
abbrev DF.en (F : DF) : List (List Nat) := F.2.1
abbrev DF.vn (F : DF) : List (List Nat) := F.2.2.1
abbrev DF.ts (F : DF) : List TR := F.2.2.2.1
abbrev DF.ini (F : DF) : CF := F.2.2.2.2
def nm_ok (xs : List (List Nat)) : Prop := ∀ c, c ∈ xs → 1 ≤ c.length ∧ c.length ≤ 6
def df_ok (F : DF) : Prop := (1 ≤ F.sn.length ∧ F.sn.length ≤ 10) ∧ (1 ≤ F.en.length ∧ F.en.length ≤ 8) ∧ (1 ≤ F.vn.length ∧ F.vn.length ≤ 3) ∧ F.ts.length ≤ 24 ∧ nm_ok F.sn ∧ nm_ok F.en ∧ nm_ok F.vn ∧ (∀ t, t ∈ F.ts → tr_ok t ∧ t.1 < F.sn.length ∧ t.2.2.1 < F.sn.length ∧ t.2.1 < F.en.length) ∧ cf_ok F.ini ∧ F.ini.1 = 0
def rn_ok (F : DF) (R : RN) : Prop := R.iv.length ≤ 12 ∧ (∀ i, i ∈ R.iv → iv_ok i) ∧ cf_ok R.cf ∧ R.cf.1 < F.sn.length ∧ (∀ k, F.ts.length ≤ k → R.tk k = 0) ∧ (∀ k, F.sn.length ≤ k → R.vi k = 0) ∧ R.rj 0 = 0 ∧ R.tr.length ≤ 20
def hx_df (D : gx_D) (h : HX) (d : Nat) (F : DF) : Prop := ∃ s e v t : Nat, hx_ob h d 10 [va_rf (some s), va_rf (some e), va_rf (some v), va_rf (some t), .int (nI (cf_c F.ini))] ∧ hx_lst hx_str h s 10 F.sn ∧ hx_lst hx_str h e 8 F.en ∧ hx_lst hx_str h v 3 F.vn ∧ hx_lst (hx_tr D) h t 24 F.ts
def hx_ar5 (h : HX) (a n : Nat) (f : Nat → Int32) : Prop := ∃ g, hx_oi h a 0 n g ∧ ∀ k, k < n → g k = f k
def tr_e (tr : List (Nat × Nat)) (k : Nat) : Int32 := match tr[k]? with
  | some p => nI p.1
  | none => 0
def tr_t (tr : List (Nat × Nat)) (k : Nat) : Int32 := match tr[k]? with
  | some p => nI p.2
  | none => 0
def hx_rn (D : gx_D) (h : HX) (r : Nat) (R : RN) : Prop := ∃ (i a1 a2 a3 a4 a5 : Nat) (ge gt : Nat → Int32), hx_ob h r 11 [va_rf (some i), va_rf (some a1), va_rf (some a2), va_rf (some a3), va_rf (some a4), va_rf (some a5), .int (nI (cf_c R.cf)), .int R.ac, .int (nI R.tr.length)] ∧ hx_lst (hx_iv D) h i 12 R.iv ∧ hx_ar5 h a1 24 R.tk ∧ hx_ar5 h a2 10 R.vi ∧ hx_ar5 h a3 5 R.rj ∧ hx_oi h a4 0 20 ge ∧ hx_oi h a5 0 20 gt ∧ ∀ k, k < R.tr.length → ge k = tr_e R.tr k ∧ gt k = tr_t R.tr k
/-- the machine's definition and run -/
def hx_vm (D : gx_D) (h : HX) (x : Nat) (F : DF) (R : RN) : Prop := ∃ (d r : Nat) (fs : List Value), hx_ob h x 9 fs ∧ fs[5]? = some (va_rf (some d)) ∧ fs[6]? = some (va_rf (some r)) ∧ hx_df D h d F ∧ hx_rn D h r R
/-- the model's cells -/
def m_iv (w : Nat → Int32) (k : Nat) (i : IV) : Prop := w k = oI i.1 ∧ w (k + 1) = nI i.2.1 ∧ w (k + 2) = nI i.2.2.1 ∧ w (k + 3) = nI i.2.2.2
def m_tr (w : Nat → Int32) (k : Nat) (t : TR) : Prop := w k = nI t.1 ∧ w (k + 1) = nI t.2.1 ∧ w (k + 2) = nI t.2.2.1 ∧ (match t.2.2.2.1 with
    | none => w (k + 3) = -1
    | some p => w (k + 3) = nI p.1 ∧ w (k + 4) = nI p.2.1 ∧ w (k + 5) = nI p.2.2) ∧
  (match t.2.2.2.2 with
    | none => w (k + 6) = -1
    | some p => w (k + 6) = nI p.1 ∧ w (k + 7) = nI p.2.1 ∧ w (k + 8) = nI p.2.2)
def m_nm (w : Nat → Int32) (c : Nat) (xs : List (List Nat)) : Prop := ∀ (k : Nat) (x : List Nat), xs[k]? = some x → w (c + 7 * k) = nI x.length ∧ ∀ i y, x[i]? = some y → w (c + 7 * k + 1 + i) = nI y
def m_trs (w : Nat → Int32) (ts : List TR) : Prop := w 3 = nI ts.length ∧ ∀ (k : Nat) (t : TR), ts[k]? = some t → m_tr w (93 + 9 * k) t
def m_ivs (w : Nat → Int32) (is : List IV) : Prop := w 4 = nI is.length ∧ ∀ (k : Nat) (i : IV), is[k]? = some i → m_iv w (309 + 4 * k) i
def m_df (w : Nat → Int32) (F : DF) : Prop := w 0 = nI F.sn.length ∧ w 1 = nI F.en.length ∧ w 2 = nI F.vn.length ∧ m_trs w F.ts ∧ m_nm w 357 F.sn ∧ m_nm w 427 F.en ∧ m_nm w 483 F.vn ∧ (∀ v, v < 3 → w (9 + v) = nI (cf_val F.ini v))
def m_rn (w : Nat → Int32) (R : RN) : Prop := m_ivs w R.iv ∧ w 5 = nI R.cf.1 ∧ (∀ v, v < 3 → w (6 + v) = nI (cf_val R.cf v)) ∧ w 12 = R.ac ∧ (∀ k, 1 ≤ k → k < 5 → w (12 + k) = R.rj k) ∧ w 17 = R.rj 1 + R.rj 2 + R.rj 3 + R.rj 4 ∧ w 18 = nI R.tr.length ∧ (∀ k, k < R.tr.length → w (19 + 2 * k) = tr_e R.tr k ∧ w (20 + 2 * k) = tr_t R.tr k) ∧ (∀ k, k < 10 → w (59 + k) = R.vi k) ∧ ∀ k, k < 24 → w (69 + k) = R.tk k
/-- constants of Effect apart -/
def gx_apt2 (D : gx_D) : Prop := ∀ i j, i < 3 → j < 3 → D.2.2.1 (110 + i) = D.2.2.1 (110 + j) → i = j
theorem df_ok.trs {F : DF} (h : df_ok F) : tr_oks F.ts := fun t ht => (h.2.2.2.2.2.2.2.1 t ht).1
theorem oI_sne {k : Nat} (hk : k < 2 ^ 31) : ¬ oI (some k) = -1 := oI_ne hk
theorem oI_nn : oI none = -1 := rfl
theorem oC_sne {q : CF} (hq : cf_ok q) : ¬ oC (some q) = -1 := oI_ne (by have := cf_c_lt hq; omega)
theorem oC_nn : oC none = -1 := rfl
theorem f_verdict {D : gx_D} {h : HX} {x e : Nat} {F : DF} {R : RN} {q : CF} (hap : gx_apt D) (hne : gx_apt2 D) (H : hx_vm D h x F R) (hF : tr_oks F.ts) (hq : cf_ok q) (he : e < 2 ^ 31) : f_X1_verdict D h x (nI (cf_c q)) (nI e) = some (nI (vdN F.ts R.iv q e)) ∧ f_X1_next D h x (nI (cf_c q)) (nI e) = some (oC (nxN F.ts R.iv q e)) := by
  obtain ⟨d, r, fs, h1, h2, h3, ⟨s, ee, v, t, h4, h5, h6, h7, h8⟩, ⟨i, a1, a2, a3, a4, a5, ge, gt, h9, h10, h11⟩⟩ := H
  have c1 := f_choose hap h4 rfl h8 hq he
  have c2 := f_hasTr h4 rfl h8 hq he
  have hc := h8.cap
  have hc2 := h10.cap
  unfold f_X1_verdict f_X1_next vdN nxN
  simp only [h1.is (show 9 ∈ [9] by decide), h1.gr (show 9 ∈ [9] by decide) h2, h1.gr (show 9 ∈ [9] by decide) h3, h4.gr (show 10 ∈ [10] by decide) (k := 3) rfl, Option.bind_some, c1, c2]
  cases e1 : chN F.ts q e with
  | none =>
    simp only [if_pos oI_nn]
    exact ⟨by cases anyN F.ts q e <;> rfl, rfl⟩
  | some k =>
    have hk := chN_lt e1
    obtain ⟨b, e2, e3⟩ := h8.at (D := D) hk
    obtain ⟨e4, g, c, e5, e6⟩ := id e3
    have e7 := f_next hne e3 hq
    simp only [if_neg (oI_sne (show k < 2 ^ 31 by omega))]
    simp only [show oI (some k) = nI k from rfl, e2, Option.bind_some, pl_cast e5 (show 13 ∈ [13] by decide), c_rest hq, e7, List.getElem?_eq_getElem hk]
    cases e8 : trNext F.ts[k] q with
    | none =>
      simp only [if_pos oC_nn]
      exact ⟨rfl, rfl⟩
    | some p =>
      have hp : cf_ok p := trNext_ok (hF _ (List.getElem_mem hk)) hq e8
      have e9 := f_broken hap h9 rfl h10 hp
      simp only [if_neg (oC_sne hp)]
      simp only [show oC (some p) = nI (cf_c p) from rfl, e9, Option.bind_some]
      cases e10 : brk R.iv p with
      | none =>
        simp only [if_pos oI_nn]
        exact ⟨rfl, rfl⟩
      | some j =>
        have hj := brk_lt e10
        simp only [if_neg (oI_sne (show j < 2 ^ 31 by omega))]
        exact ⟨rfl, rfl⟩
def stuckN (F : DF) (R : RN) (q : CF) : Bool := (List.range F.en.length).all fun e => (nxN F.ts R.iv q e).isNone
theorem nxN_of {F : DF} {R : RN} {q : CF} {e : Nat} : (nxN F.ts R.iv q e).isSome = decide (vdN F.ts R.iv q e = 0) := by
  unfold nxN vdN
  cases e1 : chN F.ts q e with
  | none => cases anyN F.ts q e <;> rfl
  | some k =>
    have hk := chN_lt e1
    simp only [List.getElem?_eq_getElem hk]
    cases trNext F.ts[k] q with
    | none => rfl
    | some p =>
      cases e2 : brk R.iv p <;> simp only [e2] <;> rfl
theorem f_isDeadlock {D : gx_D} {h : HX} {x : Nat} {F : DF} {R : RN} {q : CF} (hap : gx_apt D) (hne : gx_apt2 D) (H : hx_vm D h x F R) (hF : tr_oks F.ts) (hq : cf_ok q) : f_X1_isDeadlock D h x (nI (cf_c q)) = some (stuckN F R q) := by
  have H' := H
  obtain ⟨d, r, fs, h1, h2, h3, ⟨s, ee, v, t, h4, h5, h6, h7, h8⟩, h9⟩ := H
  have hc := h6.cap
  unfold f_X1_isDeadlock stuckN
  rw [h1.is (by decide), Option.bind_some]
  obtain ⟨r, e1, e2⟩ := gx_lp (F := fun f (s : Int32) => f_X1_isDeadlock_b2 D f h x (nI (cf_c q)) s) (I := fun i s => s = nI i ∧ ∀ j, j < i → (nxN F.ts R.iv q j).isNone = true) (Q := fun r => r = (List.range F.en.length).all fun e => (nxN F.ts R.iv q e).isNone) F.en.length (by
    intro f i s hi hI
    obtain ⟨rfl, hI⟩ := hI
    have e1 := (f_verdict hap hne H' hF hq (show i < 2 ^ 31 by omega)).2
    simp only [f_X1_isDeadlock_b2, h1.gr (show 9 ∈ [9] by decide) h2, h4.gr (show 10 ∈ [10] by decide) (k := 1) rfl, Option.bind_some, h6.len, if_neg (nI_ge hi (by omega)), e1]
    cases e2 : nxN F.ts R.iv q i with
    | none =>
      refine Or.inl ⟨nI (i + 1), ⟨rfl, fun j hj => ?_⟩, ?_⟩
      · by_cases c : j = i
        · rw [c, e2]; rfl
        · exact hI j (by omega)
      · simp only [if_pos oC_nn, gx_c1]
    | some p =>
      refine Or.inr ⟨false, ?_, ?_⟩
      · simp only [if_neg (oC_sne (nxN_ok hF hq e2))]
      · refine (List.all_eq_false.2 ⟨i, List.mem_range.2 hi, ?_⟩).symm
        rw [e2]
        exact Bool.false_ne_true) (by
    intro f s hI
    obtain ⟨rfl, hI⟩ := hI
    simp only [f_X1_isDeadlock_b2, h1.gr (show 9 ∈ [9] by decide) h2, h4.gr (show 10 ∈ [10] by decide) (k := 1) rfl, Option.bind_some, h6.len, if_pos (nI_le (Nat.le_refl F.en.length) (show F.en.length < 2 ^ 31 by omega))]
    exact ⟨_, rfl, (List.all_eq_true.2 fun j hj => hI j (List.mem_range.1 hj)).symm⟩) F.en.length 0 gx_fuel 0 (by omega) (by rw [pl_fl]; omega) ⟨rfl, fun j h => by omega⟩
  rw [e1, e2]
