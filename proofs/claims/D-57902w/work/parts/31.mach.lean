/-! the machine on numbers: transitions, invariants, verdicts; and how each program holds it -/
set_option maxRecDepth 100000
/-- an invariant: a state or none, a comparison -/
abbrev IV : Type := Option Nat × CP
/-- an action: variable, kind (add, sub, set), constant -/
abbrev AC : Type := Nat × Nat × Nat
/-- a transition: source, event, target, guard, action -/
abbrev TR : Type := Nat × Nat × Nat × Option CP × Option AC
def oI : Option Nat → Int32
  | none => -1
  | some k => nI k
def cp_ok (p : CP) : Prop := p.1 < 3 ∧ p.2.1 < 6 ∧ p.2.2 < 10
def ac_ok (a : AC) : Prop := a.1 < 3 ∧ a.2.1 < 3 ∧ a.2.2 < 10
def iv_ok (i : IV) : Prop := (∀ k, i.1 = some k → k < 10) ∧ cp_ok i.2
def tr_ok (t : TR) : Prop := t.1 < 10 ∧ t.2.1 < 8 ∧ t.2.2.1 < 10 ∧ (∀ g, t.2.2.2.1 = some g → cp_ok g) ∧ ∀ a, t.2.2.2.2 = some a → ac_ok a
def ivB (i : IV) (q : CF) : Bool := (match i.1 with
  | none => true
  | some k => decide (q.1 = k)) && !cpH i.2 q
def brk (is : List IV) (q : CF) : Option Nat := is.findIdx? fun i => ivB i q
def actN (a : AC) (x : Nat) : Option Nat := match a.2.1 with
  | 0 => if x + a.2.2 ≤ 9 then some (x + a.2.2) else none
  | 1 => if a.2.2 ≤ x then some (x - a.2.2) else none
  | _ => some a.2.2
def cf_set (q : CF) (v x : Nat) : CF := match v with
  | 0 => (q.1, x, q.2.2.1, q.2.2.2)
  | 1 => (q.1, q.2.1, x, q.2.2.2)
  | _ => (q.1, q.2.1, q.2.2.1, x)
def trFor (t : TR) (st e : Nat) : Bool := decide (t.1 = st) && decide (t.2.1 = e)
def trOpen (t : TR) (q : CF) : Bool := match t.2.2.2.1 with
  | none => true
  | some g => cpH g q
def trNext (t : TR) (q : CF) : Option CF := match t.2.2.2.2 with
  | none => some (t.2.2.1, q.2)
  | some a => (actN a (cf_val q a.1)).map fun x => (t.2.2.1, (cf_set q a.1 x).2)
def chN (ts : List TR) (q : CF) (e : Nat) : Option Nat := ts.findIdx? fun t => trFor t q.1 e && trOpen t q
def anyN (ts : List TR) (q : CF) (e : Nat) : Bool := ts.any fun t => trFor t q.1 e
/-- how the component holds a comparison, an action, an invariant, a transition -/
def hx_iv (D : gx_D) (h : HX) (a : Nat) (i : IV) : Prop := iv_ok i ∧ ∃ c, hx_ob h a 15 [.int (oI i.1), va_rf (some c)] ∧ hx_cp D h c (nI i.2.1) i.2.2.1 (nI i.2.2.2)
def hx_ac (D : gx_D) (h : HX) (a : Nat) (p : AC) : Prop := hx_ob h a 12 [.int (nI p.1), .int (nI p.2.2), va_rf (some (D.2.2.1 (110 + p.2.1)))]
def hx_tr (D : gx_D) (h : HX) (a : Nat) (t : TR) : Prop := tr_ok t ∧ ∃ g c : Option Nat, hx_ob h a 13 [.int (nI t.1), .int (nI t.2.1), .int (nI t.2.2.1), va_rf g, va_rf c] ∧
  (match t.2.2.2.1 with
    | none => g = none
    | some p => ∃ x, g = some x ∧ hx_cp D h x (nI p.1) p.2.1 (nI p.2.2)) ∧
  (match t.2.2.2.2 with
    | none => c = none
    | some p => ∃ x, c = some x ∧ hx_ac D h x p)
/-- a list of objects, each as its item says -/
def hx_lst {α : Type} (R : HX → Nat → α → Prop) (h : HX) (a cap : Nat) (xs : List α) : Prop := ∃ as : List Nat, hx_li h a cap as ∧ as.length = xs.length ∧ ∀ (k : Nat) (x : α) (b : Nat), xs[k]? = some x → as[k]? = some b → R h b x
theorem cpH_f {D : gx_D} {h : HX} {a : Nat} {p : CP} {q : CF} {c : Nat} (hap : gx_apt D) (H : hx_cp D h a (nI p.1) p.2.1 (nI p.2.2)) (hp : cp_ok p) (hc : c < 2 ^ 31) (hq : c / wtN p.1 % 10 = cf_val q p.1) : f_X7_holds D h a (nI c) = some (cpH p q) := by
  obtain ⟨h1, h2, h3⟩ := hp
  rw [f_cp hap H h2, cval_nI hc h1, hq]
  have h4 : cf_val q p.1 < 10 := by rw [← hq]; exact Nat.mod_lt _ (by decide)
  rw [opH_nI (by omega) (by omega)]
  rfl
theorem oI_ne {k : Nat} (hk : k < 2 ^ 31) : ¬ nI k = -1 := fun e => by
  have h1 := congrArg Int32.toInt e
  rw [nI_toInt hk] at h1
  rw [show (-1 : Int32).toInt = -1 by decide] at h1
  omega
theorem c_state {q : CF} (h : cf_ok q) : nI (cf_c q) / 1000 = nI q.1 := by
  rw [show (1000 : Int32) = nI 1000 by decide, pk_div (by have := cf_c_lt h; omega) (by decide) (by decide)]
  obtain ⟨h1, h2, h3, h4⟩ := h
  congr 1
  unfold cf_c
  omega
theorem c_rest {q : CF} (h : cf_ok q) : nI (cf_c q) - nI (cf_c q) / 1000 * 1000 = nI (cf_c q % 1000) := by
  rw [show (1000 : Int32) = nI 1000 by decide]
  exact pk_rem (by have := cf_c_lt h; omega) (by decide) (by decide)
theorem f_brokenBy {D : gx_D} {h : HX} {a : Nat} {i : IV} {q : CF} (hap : gx_apt D) (H : hx_iv D h a i) (hq : cf_ok q) : f_X8_isBrokenBy D h a (nI (cf_c q)) = some (ivB i q) := by
  obtain ⟨⟨o1, o2⟩, c, h1, h2⟩ := H
  have hh : f_X7_holds D h c (nI (cf_c q % 1000)) = some (cpH i.2 q) := cpH_f hap h2 o2 (by have := cf_c_lt hq; omega) (cf_c_val hq o2.1)
  have hlt := cf_c_lt hq
  have h20 : f_X8_isBrokenBy_b20 D h a (nI (cf_c q)) = some (!cpH i.2 q) := by
    unfold f_X8_isBrokenBy_b20 f_X8_isBrokenBy_b25
    simp only [if_true, h1.gr (show 15 ∈ [15] by decide) (k := 1) rfl, Option.bind_some, c_rest hq, hh]
    cases cpH i.2 q <;> rfl
  unfold f_X8_isBrokenBy
  simp only [h1.is (show 15 ∈ [15] by decide), h1.gi (show 15 ∈ [15] by decide) (k := 0) rfl, Option.bind_some, c_state hq, h20]
  unfold ivB
  cases e : i.1 with
  | none => simp only [oI, if_true, Bool.true_and]
  | some k =>
    have hk := o1 k e
    simp only [oI, if_neg (oI_ne (show k < 2 ^ 31 by omega)), nI_eq (show q.1 < 2 ^ 31 by have := hq.1; omega) (show k < 2 ^ 31 by omega)]
    by_cases c2 : q.1 = k
    · simp only [if_pos c2, decide_eq_true c2, Bool.true_and]
    · simp only [if_neg c2, decide_eq_false c2, Bool.false_and]
      rfl
/-- a loop: an invariant, a step, an end -/
theorem gx_lp {σ ρ : Type} {F : Nat → σ → Option ρ} {I : Nat → σ → Prop} {Q : ρ → Prop} (n : Nat)
    (step : ∀ f i s, i < n → I i s → (∃ s', I (i + 1) s' ∧ F (f + 1) s = F f s') ∨ ∃ r, F (f + 1) s = some r ∧ Q r)
    (stop : ∀ f s, I n s → ∃ r, F (f + 1) s = some r ∧ Q r) :
    ∀ (k i f : Nat) (s : σ), i + k = n → k < f → I i s → ∃ r, F f s = some r ∧ Q r := by
  intro k
  induction k with
  | zero =>
    intro i f s e hf hi
    obtain ⟨g, rfl⟩ : ∃ g, f = g + 1 := ⟨f - 1, by omega⟩
    have e1 : i = n := by omega
    subst e1
    exact stop g s hi
  | succ k ih =>
    intro i f s e hf hi
    obtain ⟨g, rfl⟩ : ∃ g, f = g + 1 := ⟨f - 1, by omega⟩
    rcases step g i s (by omega) hi with ⟨s', h1, h2⟩ | h1
    · rw [h2]
      exact ih (i + 1) g s' (by omega) (by omega) h1
    · exact h1
theorem pl_fl : gx_fuel = 200000 := rfl
/-- a loop over a list that seeks an item -/
theorem gx_fi {α : Type} (xs : List α) (p : α → Bool) (F : Nat → Int32 → Option Int32) (hn : xs.length < 100000)
    (step : ∀ (f i : Nat) (hi : i < xs.length), F (f + 1) (nI i) = if p xs[i] = true then some (nI i) else F f (nI (i + 1)))
    (stop : ∀ f, F (f + 1) (nI xs.length) = some (-1)) : F gx_fuel 0 = some (oI (xs.findIdx? p)) := by
  obtain ⟨r, h1, h2⟩ := gx_lp (F := F) (I := fun i s => s = nI i ∧ ∀ j (hj : j < xs.length), j < i → p xs[j] = false) (Q := fun r => r = oI (xs.findIdx? p)) xs.length (by
    intro f i s hi hI
    obtain ⟨rfl, h3⟩ := hI
    cases hp : p xs[i] with
    | true =>
      refine Or.inr ⟨nI i, ?_, ?_⟩
      · rw [step f i hi, if_pos hp]
      · have : xs.findIdx? p = some i := List.findIdx?_eq_some_iff_getElem.2 ⟨hi, hp, fun j hj => by rw [h3 j (by omega) hj]; decide⟩
        rw [this]
        rfl
    | false =>
      refine Or.inl ⟨nI (i + 1), ⟨rfl, fun j hj hji => ?_⟩, ?_⟩
      · by_cases c : j = i
        · subst c; exact hp
        · exact h3 j hj (by omega)
      · rw [step f i hi, if_neg (by rw [hp]; decide)]) (by
    intro f s hI
    obtain ⟨rfl, h3⟩ := hI
    refine ⟨_, stop f, ?_⟩
    have : xs.findIdx? p = none := List.findIdx?_eq_none_iff.2 fun x hx => by
      obtain ⟨j, hj, rfl⟩ := List.getElem_of_mem hx
      exact h3 j hj hj
    rw [this]
    rfl) xs.length 0 gx_fuel 0 (by omega) (by rw [pl_fl]; omega) ⟨rfl, fun j _ h => by omega⟩
  rw [h1, h2]
/-- a loop over a list that asks whether one is there -/
theorem gx_an {α : Type} (xs : List α) (p : α → Bool) (F : Nat → Int32 → Option Bool) (hn : xs.length < 100000)
    (step : ∀ (f i : Nat) (hi : i < xs.length), F (f + 1) (nI i) = if p xs[i] = true then some true else F f (nI (i + 1)))
    (stop : ∀ f, F (f + 1) (nI xs.length) = some false) : F gx_fuel 0 = some (xs.any p) := by
  obtain ⟨r, h1, h2⟩ := gx_lp (F := F) (I := fun i s => s = nI i ∧ ∀ j (hj : j < xs.length), j < i → p xs[j] = false) (Q := fun r => r = xs.any p) xs.length (by
    intro f i s hi hI
    obtain ⟨rfl, h3⟩ := hI
    cases hp : p xs[i] with
    | true =>
      refine Or.inr ⟨true, ?_, ?_⟩
      · rw [step f i hi, if_pos hp]
      · exact (List.any_eq_true.2 ⟨xs[i], List.getElem_mem hi, hp⟩).symm
    | false =>
      refine Or.inl ⟨nI (i + 1), ⟨rfl, fun j hj hji => ?_⟩, ?_⟩
      · by_cases c : j = i
        · subst c; exact hp
        · exact h3 j hj (by omega)
      · rw [step f i hi, if_neg (by rw [hp]; decide)]) (by
    intro f s hI
    obtain ⟨rfl, h3⟩ := hI
    refine ⟨_, stop f, ?_⟩
    refine (List.any_eq_false.2 fun x hx => ?_).symm
    obtain ⟨j, hj, rfl⟩ := List.getElem_of_mem hx
    rw [h3 j hj hj]
    decide) xs.length 0 gx_fuel 0 (by omega) (by rw [pl_fl]; omega) ⟨rfl, fun j _ h => by omega⟩
  rw [h1, h2]
theorem hx_lst.len {α : Type} {R : HX → Nat → α → Prop} {D : gx_D} {h : HX} {a cap : Nat} {xs : List α} (H : hx_lst R h a cap xs) : f_J2_size D h a = some (nI xs.length) := by
  obtain ⟨as, h1, h2, h3⟩ := H
  rw [h1.size, h2]
theorem hx_lst.at {α : Type} {R : HX → Nat → α → Prop} {D : gx_D} {h : HX} {a cap k : Nat} {xs : List α} (H : hx_lst R h a cap xs) (hk : k < xs.length) : ∃ b, f_J2_get D h a (nI k) = some (some b) ∧ R h b xs[k] := by
  obtain ⟨as, h1, h2, h3⟩ := H
  have hk' : k < as.length := by rw [h2]; exact hk
  exact ⟨as[k], h1.get hk', h3 k _ _ (List.getElem?_eq_getElem hk) (List.getElem?_eq_getElem hk')⟩
theorem hx_lst.cap {α : Type} {R : HX → Nat → α → Prop} {h : HX} {a cap : Nat} {xs : List α} (H : hx_lst R h a cap xs) : xs.length ≤ cap := by
  obtain ⟨as, ⟨mc, e, f, _, _, h3, _⟩, h2, _⟩ := H
  omega
theorem gx_c1 {i : Nat} : nI i + 1 = nI (i + 1) := nI_1 i
theorem pl_cast {h : HX} {a ci : Nat} {fs : List Value} {cis : List Nat} (H : hx_ob h a ci fs) (hc : ci ∈ cis) : hx_cast h (some a) cis = some () := H.is hc
/-- the first invariant that is broken -/
theorem f_broken {D : gx_D} {h : HX} {r li : Nat} {fs : List Value} {is : List IV} {q : CF} (hap : gx_apt D) (Hr : hx_ob h r 11 fs) (Hf : fs[0]? = some (va_rf (some li))) (HL : hx_lst (hx_iv D) h li 12 is) (hq : cf_ok q) : f_X4_broken D h r (nI (cf_c q)) = some (oI (brk is q)) := by
  unfold f_X4_broken brk
  rw [Hr.is (by decide), Option.bind_some]
  have hl := HL.cap
  refine gx_fi is (fun i => ivB i q) (fun f x => f_X4_broken_b2 D f h r (nI (cf_c q)) x) (by omega) ?_ ?_
  · intro f i hi
    obtain ⟨b, e1, e2⟩ := HL.at (D := D) hi
    obtain ⟨e3, c, e4, e5⟩ := id e2
    simp only [f_X4_broken_b2, Hr.gr (show 11 ∈ [11] by decide) Hf, Option.bind_some, HL.len, if_neg (nI_ge hi (by omega)), e1, pl_cast e4 (show 15 ∈ [15] by decide), f_brokenBy hap e2 hq, gx_c1]
  · intro f
    simp only [f_X4_broken_b2, Hr.gr (show 11 ∈ [11] by decide) Hf, Option.bind_some, HL.len, if_pos (nI_le (Nat.le_refl is.length) (show is.length < 2 ^ 31 by omega))]
theorem f_isFor {D : gx_D} {h : HX} {d a st e : Nat} {fs : List Value} {t : TR} (Hd : hx_ob h d 10 fs) (Ht : hx_tr D h a t) (hs : st < 2 ^ 31) (he : e < 2 ^ 31) : f_X3_isFor D h d (some a) (nI st) (nI e) = some (trFor t st e) := by
  obtain ⟨⟨o1, o2, o3, o4, o5⟩, g, c, h1, h2, h3⟩ := Ht
  unfold f_X3_isFor trFor
  simp only [Hd.is (show 10 ∈ [10] by decide), Option.bind_some, h1.gi (show 13 ∈ [13] by decide) (k := 0) rfl, h1.gi (show 13 ∈ [13] by decide) (k := 1) rfl, nI_eq (show t.1 < 2 ^ 31 by omega) hs, nI_eq (show t.2.1 < 2 ^ 31 by omega) he]
  by_cases c1 : t.1 = st
  · by_cases c2 : t.2.1 = e
    · simp only [if_pos c1, if_pos c2, decide_eq_true c1, decide_eq_true c2]; rfl
    · simp only [if_pos c1, if_neg c2, decide_eq_true c1, decide_eq_false c2]; rfl
  · simp only [if_neg c1, decide_eq_false c1]; rfl
theorem f_isOpen {D : gx_D} {h : HX} {a : Nat} {t : TR} {q : CF} (hap : gx_apt D) (Ht : hx_tr D h a t) (hq : cf_ok q) : f_X6_isOpen D h a (nI (cf_c q % 1000)) = some (trOpen t q) := by
  obtain ⟨⟨o1, o2, o3, o4, o5⟩, g, c, h1, h2, h3⟩ := Ht
  unfold f_X6_isOpen trOpen
  simp only [h1.is (show 13 ∈ [13] by decide), Option.bind_some, h1.gr (show 13 ∈ [13] by decide) (k := 3) rfl]
  have hlt := cf_c_lt hq
  revert h2
  cases e : t.2.2.2.1 with
  | none =>
    intro h2
    rw [show g = none from h2]
    rfl
  | some p =>
    intro h2
    obtain ⟨x, rfl, hp⟩ := h2
    have hh : f_X7_holds D h x (nI (cf_c q % 1000)) = some (cpH p q) := cpH_f hap hp (o4 p e) (by omega) (cf_c_val hq (o4 p e).1)
    simp only [gx_on, Option.bind_some, hh]
    cases cpH p q <;> rfl
/-- the value behind an action -/
def aft (k x c : Nat) : Int32 := match k with
  | 0 => nI x + nI c
  | 1 => nI x - nI c
  | _ => nI c
theorem f_within {D : gx_D} {h : HX} (x lo hi : Int32) : f_X1_isWithin D h x.toInt64 lo.toInt64 hi.toInt64 = some (decide (lo ≤ x) && decide (x ≤ hi)) := by
  unfold f_X1_isWithin
  simp only [lg_cmp_lt, lg_cmp_gt, Int64.lt_iff_toInt_lt, Int32.toInt_toInt64, Int32.le_iff_toInt_le]
  by_cases c1 : x.toInt < lo.toInt
  · rw [if_pos c1, decide_eq_false (by omega)]; rfl
  · rw [if_neg c1, decide_eq_true (show lo.toInt ≤ x.toInt by omega)]
    by_cases c2 : hi.toInt < x.toInt
    · rw [if_pos c2, decide_eq_false (by omega)]; rfl
    · rw [if_neg c2, decide_eq_true (by omega)]; rfl
theorem m_inRange {D : gx_D} {b : HX} {o : Nat} {s : MS} (x lo hi : Int32) : f_X9_inRange D b o s x lo hi = some (decide (lo ≤ x) && decide (x ≤ hi)) := by
  unfold f_X9_inRange
  simp only [Int32.lt_iff_toInt_lt, Int32.le_iff_toInt_le]
  by_cases c1 : x.toInt < lo.toInt
  · rw [if_pos c1, decide_eq_false (by omega)]; rfl
  · rw [if_neg c1, decide_eq_true (show lo.toInt ≤ x.toInt by omega)]
    by_cases c2 : hi.toInt < x.toInt
    · rw [if_pos c2, decide_eq_false (by omega)]; rfl
    · rw [if_neg c2, decide_eq_true (by omega)]; rfl
theorem aft_in {k x c : Nat} (hx : x < 10) (hc : c < 10) (v : Nat) : (decide (0 ≤ aft k x c) && decide (aft k x c ≤ 9)) = (actN (v, k, c) x).isSome ∧ ∀ y, actN (v, k, c) x = some y → aft k x c = nI y ∧ y < 10 := by
  have h9 : ∀ n, n < 100 → (decide (0 ≤ nI n) && decide (nI n ≤ 9)) = decide (n ≤ 9) := fun n hn => by
    rw [decide_eq_true (nI_pos' (by omega)), Bool.true_and]
    exact decide_eq_decide.2 (nI_leI (b := 9) (by omega) (by decide))
  match k with
  | 0 =>
    have e : aft 0 x c = nI (x + c) := nI_add x c
    rw [e, h9 _ (by omega)]
    simp only [actN]
    by_cases c1 : x + c ≤ 9
    · rw [if_pos c1, decide_eq_true c1]
      exact ⟨rfl, fun y hy => by cases hy; exact ⟨rfl, by omega⟩⟩
    · rw [if_neg c1, decide_eq_false c1]
      exact ⟨rfl, fun y hy => by cases hy⟩
  | 1 =>
    simp only [actN]
    by_cases c1 : c ≤ x
    · have e : aft 1 x c = nI (x - c) := pk_sub c1
      rw [e, h9 _ (by omega), if_pos c1, decide_eq_true (by omega)]
      exact ⟨rfl, fun y hy => by cases hy; exact ⟨rfl, by omega⟩⟩
    · have e : ¬ (0 : Int32) ≤ aft 1 x c := by
        have h1 : nI x - nI c < 0 := pk_sneg (by omega) (by omega)
        rw [Int32.lt_iff_toInt_lt] at h1
        show ¬ (0 : Int32) ≤ nI x - nI c
        rw [Int32.le_iff_toInt_le]
        omega
      rw [if_neg c1, decide_eq_false e]
      exact ⟨rfl, fun y hy => by cases hy⟩
  | n + 2 =>
    simp only [actN]
    have e : aft (n + 2) x c = nI c := rfl
    rw [e, h9 _ (by omega), decide_eq_true (by omega)]
    exact ⟨rfl, fun y hy => by cases hy; exact ⟨rfl, by omega⟩⟩
theorem cf_val_lt {q : CF} (h : cf_ok q) (v : Nat) : cf_val q v < 10 := by
  obtain ⟨h1, h2, h3, h4⟩ := h
  unfold cf_val
  split <;> assumption
theorem cf_set_ok {q : CF} {v x : Nat} (h : cf_ok q) (hx : x < 10) : cf_ok (cf_set q v x) := by
  obtain ⟨h1, h2, h3, h4⟩ := h
  unfold cf_set
  split <;> refine ⟨?_, ?_, ?_, ?_⟩ <;> assumption
theorem cf_set_c {q : CF} {v x : Nat} (h : cf_ok q) (hv : v < 3) (hx : x < 10) : cf_c (cf_set q v x) + cf_val q v * wtN v = cf_c q + x * wtN v ∧ cf_c (cf_set q v x) / 1000 = cf_c q / 1000 := by
  obtain ⟨h1, h2, h3, h4⟩ := h
  match v, hv with
  | 0, _ => simp only [cf_set, cf_c, cf_val, wtN]; omega
  | 1, _ => simp only [cf_set, cf_c, cf_val, wtN]; omega
  | 2, _ => simp only [cf_set, cf_c, cf_val, wtN]; omega
  | n + 3, h => omega
/-- a number that changes by a difference -/
theorem nI_chg {c x y w r : Nat} (e : r + y * w = c + x * w) : nI c + (nI x - nI y) * nI w = nI r := by
  have e1 := congrArg nI e
  rw [← nI_add, ← nI_add, ← pk_mul, ← pk_mul] at e1
  grind
theorem nI_chg' {c x y w r : Nat} (e : r + y * w = c + x * w) : nI c + nI w * (nI x - nI y) = nI r := by
  have e1 := congrArg nI e
  rw [← nI_add, ← nI_add, ← pk_mul, ← pk_mul] at e1
  grind
def oC : Option CF → Int32
  | none => -1
  | some q => nI (cf_c q)
theorem oC_none {q : Option CF} (hq : ∀ p, q = some p → cf_ok p) : oC q = -1 ↔ q = none := by
  cases q with
  | none => exact ⟨fun _ => rfl, fun _ => rfl⟩
  | some p => exact ⟨fun e => absurd e (oI_ne (by have := cf_c_lt (hq p rfl); omega)), fun e => by cases e⟩
theorem f_apply {D : gx_D} {h : HX} {a : Nat} {p : AC} {q : CF} (hne : ∀ i j, i < 3 → j < 3 → D.2.2.1 (110 + i) = D.2.2.1 (110 + j) → i = j) (H : hx_ac D h a p) (hp : ac_ok p) (hq : cf_ok q) : f_X5_apply D h a (nI (cf_c q % 1000)) = some (match actN p (cf_val q p.1) with
    | none => -1
    | some y => nI (cf_c (cf_set q p.1 y) % 1000)) := by
  obtain ⟨p1, p2, p3⟩ := hp
  have H' : hx_ob h a 12 [.int (nI p.1), .int (nI p.2.2), va_rf (some (D.2.2.1 (110 + p.2.1)))] := H
  have hlt := cf_c_lt hq
  have hv := cf_val_lt hq p.1
  have e1 : f_X1_valueIn D h (nI (cf_c q % 1000)) (nI p.1) = some (nI (cf_val q p.1)) := by
    rw [f_val, cval_nI (by omega) p1, cf_c_val hq p1]
  have key : ∀ k : Nat, p.2.1 = k → f_X5_apply_b21 D h a (nI (cf_c q % 1000)) (nI (cf_val q p.1)) (aft k (cf_val q p.1) p.2.2) = some (match actN p (cf_val q p.1) with
    | none => -1
    | some y => nI (cf_c (cf_set q p.1 y) % 1000)) := by
    intro k hk
    obtain ⟨a1, a2⟩ := aft_in (k := k) hv p3 p.1
    rw [show (p.1, k, p.2.2) = p by rw [← hk]] at a1 a2
    unfold f_X5_apply_b21
    have e2 := f_within (D := D) (h := h) (aft k (cf_val q p.1) p.2.2) 0 9
    rw [show (Int32.toInt64 0) = 0 by decide, show (Int32.toInt64 9) = 9 by decide] at e2
    rw [e2, Option.bind_some, a1]
    cases e3 : actN p (cf_val q p.1) with
    | none => rfl
    | some y =>
      obtain ⟨b1, b2⟩ := a2 y e3
      simp only [Option.isSome_some, if_true, H'.gi (show 12 ∈ [12] by decide) (k := 0) rfl, Option.bind_some, f_wt, cwt_nI p1, b1]
      obtain ⟨c1, c2⟩ := cf_set_c hq p1 b2
      exact congrArg some (nI_chg (by omega))
  have hn : ∀ i j, i < 3 → j < 3 → ¬ i = j → ¬ D.2.2.1 (110 + i) = D.2.2.1 (110 + j) := fun i j hi hj hij e => hij (hne i j hi hj e)
  unfold f_X5_apply
  simp only [H'.is (show 12 ∈ [12] by decide), H'.gi (show 12 ∈ [12] by decide) (k := 0) rfl, H'.gi (show 12 ∈ [12] by decide) (k := 1) rfl, H'.gr (show 12 ∈ [12] by decide) (k := 2) rfl, Option.bind_some, e1]
  have hc : p.2.1 = 0 ∨ p.2.1 = 1 ∨ p.2.1 = 2 := by omega
  rcases hc with e | e | e
  · rw [e, if_pos rfl]; simp only [f_X28_apply, Option.bind_some]; exact key 0 e
  · rw [e, if_neg (hn 1 0 (by decide) (by decide) (by decide)), if_pos rfl]; simp only [f_X29_apply, Option.bind_some]; exact key 1 e
  · rw [e, if_neg (hn 2 0 (by decide) (by decide) (by decide)), if_neg (hn 2 1 (by decide) (by decide) (by decide)), if_pos rfl]; simp only [f_X30_apply, Option.bind_some]; exact key 2 e
theorem actN_lt {p : AC} {x y : Nat} (hp : ac_ok p) (hx : x < 10) (e : actN p x = some y) : y < 10 := (((aft_in (k := p.2.1) hx hp.2.2 p.1).2) y e).2
theorem trNext_ok {t : TR} {q p : CF} (ht : tr_ok t) (hq : cf_ok q) (e : trNext t q = some p) : cf_ok p := by
  obtain ⟨o1, o2, o3, o4, o5⟩ := ht
  unfold trNext at e
  revert e
  cases e1 : t.2.2.2.2 with
  | none => intro e; cases e; exact ⟨o3, hq.2.1, hq.2.2.1, hq.2.2.2⟩
  | some a =>
    intro e
    obtain ⟨y, h1, h2⟩ := Option.map_eq_some_iff.1 e
    cases h2
    have h3 := cf_set_ok (v := a.1) hq (actN_lt (o5 a e1) (cf_val_lt hq _) h1)
    exact ⟨o3, h3.2.1, h3.2.2.1, h3.2.2.2⟩
theorem cf_tgt {q : CF} {t : Nat} (hq : cf_ok q) : t * 1000 + cf_c q % 1000 = cf_c (t, q.2) := by
  obtain ⟨h1, h2, h3, h4⟩ := hq
  unfold cf_c
  simp only
  omega
theorem f_next {D : gx_D} {h : HX} {a : Nat} {t : TR} {q : CF} (hne : ∀ i j, i < 3 → j < 3 → D.2.2.1 (110 + i) = D.2.2.1 (110 + j) → i = j) (Ht : hx_tr D h a t) (hq : cf_ok q) : f_X6_next D h a (nI (cf_c q % 1000)) = some (oC (trNext t q)) := by
  obtain ⟨⟨o1, o2, o3, o4, o5⟩, g, c, h1, h2, h3⟩ := Ht
  have h19 : ∀ p : CF, cf_ok p → f_X6_next_b19 D h a (nI (cf_c p % 1000)) = some (nI (cf_c (t.2.2.1, p.2))) := by
    intro p hp
    have := cf_c_lt hp
    unfold f_X6_next_b19
    rw [if_neg (oI_ne (by omega)), h1.gi (show 13 ∈ [13] by decide) (k := 2) rfl, Option.bind_some, show (1000 : Int32) = nI 1000 by decide, pk_mul, nI_add, cf_tgt hp]
  unfold f_X6_next trNext
  simp only [h1.is (show 13 ∈ [13] by decide), h1.gr (show 13 ∈ [13] by decide) (k := 4) rfl, Option.bind_some]
  revert h3
  cases e : t.2.2.2.2 with
  | none =>
    intro h3
    rw [show c = none from h3]
    exact h19 q hq
  | some p =>
    intro h3
    obtain ⟨x, rfl, hp⟩ := h3
    simp only [gx_on, Option.bind_some, f_apply hne hp (o5 p e) hq]
    cases e2 : actN p (cf_val q p.1) with
    | none => rfl
    | some y => exact h19 _ (cf_set_ok hq (actN_lt (o5 p e) (cf_val_lt hq _) e2))
/-- the accepted next configuration; the verdict -/
def nxN (ts : List TR) (is : List IV) (q : CF) (e : Nat) : Option CF := match chN ts q e with
  | none => none
  | some k => match ts[k]? with
    | none => none
    | some t => match trNext t q with
      | none => none
      | some p => match brk is p with
        | none => some p
        | some _ => none
def vdN (ts : List TR) (is : List IV) (q : CF) (e : Nat) : Nat := match chN ts q e with
  | none => if anyN ts q e = true then 2 else 1
  | some k => match ts[k]? with
    | none => 0
    | some t => match trNext t q with
      | none => 3
      | some p => match brk is p with
        | none => 0
        | some _ => 4
theorem chN_lt {ts : List TR} {q : CF} {e k : Nat} (h : chN ts q e = some k) : k < ts.length := (List.findIdx?_eq_some_iff_getElem.1 h).1
theorem brk_lt {is : List IV} {q : CF} {k : Nat} (h : brk is q = some k) : k < is.length := (List.findIdx?_eq_some_iff_getElem.1 h).1
theorem oI_none {x : Option Nat} (hx : ∀ k, x = some k → k < 2 ^ 31) : oI x = -1 ↔ x = none := by
  cases x with
  | none => exact ⟨fun _ => rfl, fun _ => rfl⟩
  | some k => exact ⟨fun e => absurd e (oI_ne (hx k rfl)), fun e => by cases e⟩
def tr_oks (ts : List TR) : Prop := ∀ t, t ∈ ts → tr_ok t
theorem nxN_ok {ts : List TR} {is : List IV} {q p : CF} {e : Nat} (hts : tr_oks ts) (hq : cf_ok q) (h : nxN ts is q e = some p) : cf_ok p := by
  unfold nxN at h
  split at h
  · cases h
  · split at h
    · cases h
    · rename_i t ht
      split at h
      · cases h
      · rename_i p' hp'
        split at h
        · cases h
          exact trNext_ok (hts _ (List.mem_of_getElem? ht)) hq hp'
        · cases h
theorem f_choose {D : gx_D} {h : HX} {d tl e : Nat} {fs : List Value} {ts : List TR} {q : CF} (hap : gx_apt D) (Hd : hx_ob h d 10 fs) (Hf : fs[3]? = some (va_rf (some tl))) (HL : hx_lst (hx_tr D) h tl 24 ts) (hq : cf_ok q) (he : e < 2 ^ 31) : f_X3_choose D h d (nI (cf_c q)) (nI e) = some (oI (chN ts q e)) := by
  unfold f_X3_choose chN
  rw [Hd.is (by decide), Option.bind_some, c_state hq]
  have hl := HL.cap
  have hq1 := hq.1
  refine gx_fi ts (fun t => trFor t q.1 e && trOpen t q) (fun f x => f_X3_choose_b9 D f h d (nI (cf_c q)) (nI e) (nI q.1) x) (by omega) ?_ ?_
  · intro f i hi
    obtain ⟨b, e1, e2⟩ := HL.at (D := D) hi
    obtain ⟨e3, g, c, e4, e5⟩ := id e2
    simp only [f_X3_choose_b9, f_X3_choose_b66, Hd.gr (show 10 ∈ [10] by decide) Hf, Option.bind_some, HL.len, if_neg (nI_ge hi (by omega)), e1, pl_cast e4 (show 13 ∈ [13] by decide), f_isFor Hd e2 (show q.1 < 2 ^ 31 by omega) he, c_rest hq, f_isOpen hap e2 hq, gx_c1]
    cases trFor ts[i] q.1 e <;> cases trOpen ts[i] q <;> rfl
  · intro f
    simp only [f_X3_choose_b9, Hd.gr (show 10 ∈ [10] by decide) Hf, Option.bind_some, HL.len, if_pos (nI_le (Nat.le_refl ts.length) (show ts.length < 2 ^ 31 by omega))]
theorem f_hasTr {D : gx_D} {h : HX} {d tl e : Nat} {fs : List Value} {ts : List TR} {q : CF} (Hd : hx_ob h d 10 fs) (Hf : fs[3]? = some (va_rf (some tl))) (HL : hx_lst (hx_tr D) h tl 24 ts) (hq : cf_ok q) (he : e < 2 ^ 31) : f_X3_hasTransition D h d (nI (cf_c q) / 1000) (nI e) = some (anyN ts q e) := by
  unfold f_X3_hasTransition anyN
  rw [Hd.is (by decide), Option.bind_some, c_state hq]
  have hl := HL.cap
  have hq1 := hq.1
  refine gx_an ts (fun t => trFor t q.1 e) (fun f x => f_X3_hasTransition_b2 D f h d (nI q.1) (nI e) x) (by omega) ?_ ?_
  · intro f i hi
    obtain ⟨b, e1, e2⟩ := HL.at (D := D) hi
    obtain ⟨e3, g, c, e4, e5⟩ := id e2
    simp only [f_X3_hasTransition_b2, Hd.gr (show 10 ∈ [10] by decide) Hf, Option.bind_some, HL.len, if_neg (nI_ge hi (by omega)), e1, pl_cast e4 (show 13 ∈ [13] by decide), f_isFor Hd e2 (show q.1 < 2 ^ 31 by omega) he, gx_c1]
  · intro f
    simp only [f_X3_hasTransition_b2, Hd.gr (show 10 ∈ [10] by decide) Hf, Option.bind_some, HL.len, if_pos (nI_le (Nat.le_refl ts.length) (show ts.length < 2 ^ 31 by omega))]
