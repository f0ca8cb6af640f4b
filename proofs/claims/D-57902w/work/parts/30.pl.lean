/-! plain laws: reading the abstract heap -/
set_option maxRecDepth 100000
def hx_ob (h : HX) (a ci : Nat) (fs : List Value) : Prop := ∃ b, h.2.2 a = some (b, .inr (ci, fs))
def hx_oi (h : HX) (a t n : Nat) (f : Nat → Int32) : Prop := ∃ b, h.2.2 a = some (b, .inl (t, n, .inl f))
def hx_or (h : HX) (a t n : Nat) (f : Nat → Option Nat) : Prop := ∃ b, h.2.2 a = some (b, .inl (t, n, .inr (.inr (.inr (.inr f)))))
theorem hx_ob.is {h : HX} {a ci : Nat} {fs : List Value} {cis : List Nat} (H : hx_ob h a ci fs) (hc : ci ∈ cis) : hx_is h a cis = some () := by
  obtain ⟨b, e⟩ := H
  unfold hx_is
  rw [e]
  exact if_pos hc
theorem hx_ob.gv {h : HX} {a ci k : Nat} {fs : List Value} {cis : List Nat} (H : hx_ob h a ci fs) (hc : ci ∈ cis) : hx_gv h a cis k = fs[k]? := by
  obtain ⟨b, e⟩ := H
  unfold hx_gv
  rw [e]
  exact if_pos hc
theorem hx_ob.gi {h : HX} {a ci k : Nat} {fs : List Value} {cis : List Nat} {x : Int32} (H : hx_ob h a ci fs) (hc : ci ∈ cis) (hk : fs[k]? = some (.int x)) : hx_gi h a cis k = some x := by
  unfold hx_gi
  rw [H.gv hc, hk]
theorem hx_ob.gr {h : HX} {a ci k : Nat} {fs : List Value} {cis : List Nat} {r : Option Nat} (H : hx_ob h a ci fs) (hc : ci ∈ cis) (hk : fs[k]? = some (va_rf r)) : hx_gr h a cis k = some r := by
  unfold hx_gr
  rw [H.gv hc, hk]
  cases r <;> rfl
theorem hx_oi.len {h : HX} {a t n : Nat} {f : Nat → Int32} (H : hx_oi h a t n f) : hx_len h a = some (nI n) := by
  obtain ⟨b, e⟩ := H
  unfold hx_len
  rw [e]
theorem hx_or.len {h : HX} {a t n : Nat} {f : Nat → Option Nat} (H : hx_or h a t n f) : hx_len h a = some (nI n) := by
  obtain ⟨b, e⟩ := H
  unfold hx_len
  rw [e]
theorem hx_oi.ai {h : HX} {a t n k : Nat} {f : Nat → Int32} (H : hx_oi h a t n f) (hk : k < n) (hn : n < 2 ^ 31) : hx_ai h a t (nI k) = some (f k) := by
  obtain ⟨b, e⟩ := H
  unfold hx_ai
  rw [e]
  have h1 : (nI k).toNatClampNeg = k := nI_clamp (by omega)
  have h2 : (0 : Int32) ≤ nI k := nI_pos' (by omega)
  simp only [h1]
  rw [if_pos ⟨trivial, h2, hk⟩]
theorem hx_or.ar {h : HX} {a t n k : Nat} {f : Nat → Option Nat} (H : hx_or h a t n f) (ht : 4 ≤ t) (hk : k < n) (hn : n < 2 ^ 31) : hx_ar h a (nI k) = some (f k) := by
  obtain ⟨b, e⟩ := H
  unfold hx_ar
  rw [e]
  have h1 : (nI k).toNatClampNeg = k := nI_clamp (by omega)
  have h2 : (0 : Int32) ≤ nI k := nI_pos' (by omega)
  simp only [h1]
  rw [if_pos ⟨ht, h2, hk⟩]
/-- a list object that holds xs, of room cap -/
def hx_li (h : HX) (a : Nat) (cap : Nat) (xs : List Nat) : Prop := ∃ (mc : Int32) (e : Nat) (f : Nat → Option Nat), hx_ob h a 0 [.int mc, va_rf (some e), .int (nI xs.length)] ∧ hx_or h e 4 cap f ∧ xs.length ≤ cap ∧ cap < 2 ^ 31 ∧ ∀ k, k < xs.length → f k = xs[k]?
theorem hx_li.size {D : gx_D} {h : HX} {a cap : Nat} {xs : List Nat} (H : hx_li h a cap xs) : f_J2_size D h a = some (nI xs.length) := by
  obtain ⟨mc, e, f, h1, h2, h3, h4, h5⟩ := H
  unfold f_J2_size
  rw [h1.is (by decide), Option.bind_some, h1.gi (by decide) rfl, Option.bind_some]
theorem hx_li.get {D : gx_D} {h : HX} {a cap k : Nat} {xs : List Nat} (H : hx_li h a cap xs) (hk : k < xs.length) : f_J2_get D h a (nI k) = some (some xs[k]) := by
  obtain ⟨mc, e, f, h1, h2, h3, h4, h5⟩ := H
  have e1 : ¬ nI k < 0 := nI_pos (by omega)
  have e2 : nI k < nI xs.length := nI_lt hk (by omega)
  have e3 := h5 k hk
  rw [List.getElem?_eq_getElem hk] at e3
  unfold f_J2_get f_J22_checkIndex f_J14_checkIndex f_J2_elementData
  simp only [h1.is (show 0 ∈ [0] by decide), h1.gi (show 0 ∈ [0] by decide) (k := 2) rfl, h1.gr (show 0 ∈ [0] by decide) (k := 1) rfl, Option.bind_some, if_neg e1, if_pos e2, h2.ar (by decide) (Nat.lt_of_lt_of_le hk h3) h4, e3]
/-- what an operator says -/
def opH (op : Nat) (x y : Int32) : Bool := match op with
  | 0 => !decide (y ≤ x)
  | 1 => !decide (y < x)
  | 2 => decide (x = y)
  | 3 => !decide (x = y)
  | 4 => !decide (x < y)
  | _ => !decide (x ≤ y)
/-- the constants lie apart -/
def gx_apt (D : gx_D) : Prop := ∀ i j, i < 6 → j < 6 → D.2.2.1 (100 + i) = D.2.2.1 (100 + j) → i = j
/-- a comparison: a variable, an operator, a constant -/
def hx_cp (D : gx_D) (h : HX) (a : Nat) (v : Int32) (op : Nat) (k : Int32) : Prop := hx_ob h a 14 [.int v, .int k, va_rf (some (D.2.2.1 (100 + op)))]
def cwt (v : Int32) : Int32 := if v = 0 then 100 else if v = 1 then 10 else 1
def cval (c v : Int32) : Int32 := c / cwt v - c / cwt v / 10 * 10
theorem f_wt {D : gx_D} {h : HX} {v : Int32} : f_X1_weight D h v = some (cwt v) := by
  unfold f_X1_weight cwt
  by_cases c1 : v = 0
  · simp only [if_pos c1]
  · by_cases c2 : v = 1
    · simp only [if_neg c1, if_pos c2]
    · simp only [if_neg c1, if_neg c2]
theorem cwt_ne {v : Int32} : ¬ cwt v = 0 := by
  unfold cwt
  by_cases c1 : v = 0
  · rw [if_pos c1]; decide
  · rw [if_neg c1]
    by_cases c2 : v = 1
    · rw [if_pos c2]; decide
    · rw [if_neg c2]; decide
theorem f_val {D : gx_D} {h : HX} {c v : Int32} : f_X1_valueIn D h c v = some (cval c v) := by
  unfold f_X1_valueIn
  rw [f_wt, Option.bind_some, if_neg cwt_ne]
  rfl
theorem ifb {P : Prop} [Decidable P] : (if P then some true else some false) = some (decide P) := by
  by_cases c : P <;> simp [c]
theorem ifbn {P : Prop} [Decidable P] : (if P then some false else some true) = some (!decide P) := by
  by_cases c : P <;> simp [c]
theorem f_cp {D : gx_D} {h : HX} {a op : Nat} {v k c : Int32} (hap : gx_apt D) (H : hx_cp D h a v op k) (hop : op < 6) : f_X7_holds D h a c = some (opH op (cval c v) k) := by
  have hne : ∀ i j, i < 6 → j < 6 → ¬ i = j → ¬ D.2.2.1 (100 + i) = D.2.2.1 (100 + j) := fun i j hi hj hij e => hij (hap i j hi hj e)
  have H' : hx_ob h a 14 [.int v, .int k, va_rf (some (D.2.2.1 (100 + op)))] := H
  unfold f_X7_holds
  simp only [H'.is (show 14 ∈ [14] by decide), H'.gi (show 14 ∈ [14] by decide) (k := 0) rfl, H'.gi (show 14 ∈ [14] by decide) (k := 1) rfl, H'.gr (show 14 ∈ [14] by decide) (k := 2) rfl, Option.bind_some, f_val]
  match op, hop with
  | 0, _ => rw [if_pos rfl]; simp only [f_X31_holds, ifbn, Option.bind_some]; rfl
  | 1, _ => rw [if_neg (hne 1 0 (by decide) (by decide) (by decide)), if_pos rfl]; simp only [f_X32_holds, ifbn, Option.bind_some]; rfl
  | 2, _ => rw [if_neg (hne 2 0 (by decide) (by decide) (by decide)), if_neg (hne 2 1 (by decide) (by decide) (by decide)), if_pos rfl]; simp only [f_X33_holds, ifb, Option.bind_some]; rfl
  | 3, _ => rw [if_neg (hne 3 0 (by decide) (by decide) (by decide)), if_neg (hne 3 1 (by decide) (by decide) (by decide)), if_neg (hne 3 2 (by decide) (by decide) (by decide)), if_pos rfl]; simp only [f_X34_holds, ifbn, Option.bind_some]; rfl
  | 4, _ => rw [if_neg (hne 4 0 (by decide) (by decide) (by decide)), if_neg (hne 4 1 (by decide) (by decide) (by decide)), if_neg (hne 4 2 (by decide) (by decide) (by decide)), if_neg (hne 4 3 (by decide) (by decide) (by decide)), if_pos rfl]; simp only [f_X35_holds, ifbn, Option.bind_some]; rfl
  | 5, _ => rw [if_neg (hne 5 0 (by decide) (by decide) (by decide)), if_neg (hne 5 1 (by decide) (by decide) (by decide)), if_neg (hne 5 2 (by decide) (by decide) (by decide)), if_neg (hne 5 3 (by decide) (by decide) (by decide)), if_neg (hne 5 4 (by decide) (by decide) (by decide)), if_pos rfl]; simp only [f_X36_holds, ifbn, Option.bind_some]; rfl
  | n + 6, hn => omega
/-! the machine itself, apart from both programs -/
/-- a configuration: the state, three digits -/
abbrev CF : Type := Nat × Nat × Nat × Nat
def cf_ok (q : CF) : Prop := q.1 < 10 ∧ q.2.1 < 10 ∧ q.2.2.1 < 10 ∧ q.2.2.2 < 10
def cf_val (q : CF) (v : Nat) : Nat := match v with
  | 0 => q.2.1
  | 1 => q.2.2.1
  | _ => q.2.2.2
/-- its number with the component, with the model -/
def cf_c (q : CF) : Nat := 1000 * q.1 + 100 * q.2.1 + 10 * q.2.2.1 + q.2.2.2
def cf_m (q : CF) : Nat := 1000 * q.1 + q.2.1 + 10 * q.2.2.1 + 100 * q.2.2.2
theorem cf_c_lt {q : CF} (h : cf_ok q) : cf_c q < 10000 := by
  obtain ⟨h1, h2, h3, h4⟩ := h
  unfold cf_c
  omega
theorem cf_m_lt {q : CF} (h : cf_ok q) : cf_m q < 10000 := by
  obtain ⟨h1, h2, h3, h4⟩ := h
  unfold cf_m
  omega
def wtN (v : Nat) : Nat := match v with
  | 0 => 100
  | 1 => 10
  | _ => 1
theorem cwt_nI {v : Nat} (hv : v < 3) : cwt (nI v) = nI (wtN v) := by
  match v, hv with
  | 0, _ => decide
  | 1, _ => decide
  | 2, _ => decide
  | n + 3, h => omega
theorem cval_nI {c v : Nat} (hc : c < 2 ^ 31) (hv : v < 3) : cval (nI c) (nI v) = nI (c / wtN v % 10) := by
  have hw : 0 < wtN v ∧ wtN v < 2 ^ 31 := by
    match v, hv with
    | 0, _ => exact ⟨by decide, by decide⟩
    | 1, _ => exact ⟨by decide, by decide⟩
    | 2, _ => exact ⟨by decide, by decide⟩
    | n + 3, h => omega
  unfold cval
  rw [cwt_nI hv, pk_div hc hw.1 hw.2]
  exact pk_rem (Nat.lt_of_le_of_lt (Nat.div_le_self _ _) hc) (by decide) (by decide)
theorem cf_c_val {q : CF} {v : Nat} (h : cf_ok q) (hv : v < 3) : (cf_c q % 1000) / wtN v % 10 = cf_val q v := by
  obtain ⟨h1, h2, h3, h4⟩ := h
  unfold cf_c cf_val
  match v, hv with
  | 0, _ => simp only [wtN]; omega
  | 1, _ => simp only [wtN]; omega
  | 2, _ => simp only [wtN]; omega
  | n + 3, h => omega
def wtM (v : Nat) : Nat := match v with
  | 0 => 1
  | 1 => 10
  | _ => 100
theorem m_wt {D : gx_D} {b : HX} {o : Nat} {s : MS} {v : Nat} (hv : v < 3) : f_X9_weight D b o s (nI v) = some (nI (wtM v)) := by
  match v, hv with
  | 0, _ => rfl
  | 1, _ => rfl
  | 2, _ => rfl
  | n + 3, h => omega
theorem m_val {D : gx_D} {b : HX} {o : Nat} {s : MS} {c v : Nat} (hc : c < 2 ^ 31) (hv : v < 3) : f_X9_valueIn D b o s (nI c) (nI v) = some (nI (c / wtM v % 10)) := by
  have hw : 0 < wtM v ∧ wtM v < 2 ^ 31 := by
    match v, hv with
    | 0, _ => exact ⟨by decide, by decide⟩
    | 1, _ => exact ⟨by decide, by decide⟩
    | 2, _ => exact ⟨by decide, by decide⟩
    | n + 3, h => omega
  unfold f_X9_valueIn
  rw [m_wt hv, Option.bind_some, if_neg (nI_ne0 hw.1 hw.2), pk_div hc hw.1 hw.2]
  exact congrArg some (pk_rem (Nat.lt_of_le_of_lt (Nat.div_le_self _ _) hc) (by decide) (by decide))
theorem cf_m_val {q : CF} {v : Nat} (h : cf_ok q) (hv : v < 3) : cf_m q / wtM v % 10 = cf_val q v := by
  obtain ⟨h1, h2, h3, h4⟩ := h
  unfold cf_m cf_val
  match v, hv with
  | 0, _ => simp only [wtM]; omega
  | 1, _ => simp only [wtM]; omega
  | 2, _ => simp only [wtM]; omega
  | n + 3, h => omega
/-- a comparison on numbers: variable, operator, constant -/
abbrev CP : Type := Nat × Nat × Nat
def opN (op x y : Nat) : Bool := match op with
  | 0 => !decide (y ≤ x)
  | 1 => !decide (y < x)
  | 2 => decide (x = y)
  | 3 => !decide (x = y)
  | 4 => !decide (x < y)
  | _ => !decide (x ≤ y)
def cpH (p : CP) (q : CF) : Bool := opN p.2.1 (cf_val q p.1) p.2.2
theorem opH_nI {op x y : Nat} (hx : x < 2 ^ 31) (hy : y < 2 ^ 31) : opH op (nI x) (nI y) = opN op x y := by
  unfold opH opN
  split <;> simp only [nI_leI hx hy, nI_leI hy hx, nI_ltI hx hy, nI_ltI hy hx, nI_eq hx hy]
