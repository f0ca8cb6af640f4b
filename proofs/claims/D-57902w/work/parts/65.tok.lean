/-! texts: tokens, as both parsers see them -/
set_option maxRecDepth 100000
set_option linter.unusedSimpArgs false
/-- start, next, value, kind (0 word, 1 number, 2 semicolon, 3 end, 4 invalid), word -/
abbrev TS : Type := Nat × Nat × Nat × Nat × List Nat
def rl (P : Nat → Bool) (ib : List Nat) (p : Nat) : Nat := p + ((ib.drop p).takeWhile P).length
def isL (c : Nat) : Bool := decide (97 ≤ c) && decide (c ≤ 122)
def isD (c : Nat) : Bool := decide (48 ≤ c) && decide (c ≤ 57)
def isS (c : Nat) : Bool := decide (c = 32) || decide (c = 10)
def numV (l : List Nat) : Nat := l.foldl (fun a c => 10 * a + (c - 48)) 0
def cut (ib : List Nat) (a b : Nat) : List Nat := (ib.drop a).take (b - a)
def adv (ib : List Nat) (p : Nat) : TS :=
  match ib[rl isS ib p]? with
  | none => (rl isS ib p, rl isS ib p, 0, 3, [])
  | some c =>
    if isL c = true then
      if rl isL ib (rl isS ib p) - rl isS ib p ≤ 8 then (rl isS ib p, rl isL ib (rl isS ib p), 0, 0, cut ib (rl isS ib p) (rl isL ib (rl isS ib p))) else (rl isS ib p, rl isL ib (rl isS ib p), 0, 4, [])
    else if isD c = true then
      if rl isD ib (rl isS ib p) - rl isS ib p ≤ 3 then (rl isS ib p, rl isD ib (rl isS ib p), numV (cut ib (rl isS ib p) (rl isD ib (rl isS ib p))), 1, []) else (rl isS ib p, rl isD ib (rl isS ib p), 0, 4, [])
    else (rl isS ib p, rl isS ib p + 1, 0, if c = 59 then 2 else 4, [])
theorem tw_in {P : Nat → Bool} : ∀ (l : List Nat) (i : Nat), i < (l.takeWhile P).length → ∃ c, l[i]? = some c ∧ P c = true
  | [], i, h => by simp at h
  | a :: l, i, h => by
    rw [List.takeWhile_cons] at h
    cases e : P a with
    | false => rw [e] at h; simp at h
    | true =>
      rw [e] at h
      cases i with
      | zero => exact ⟨a, rfl, e⟩
      | succ i =>
        simp only [if_true, List.length_cons] at h
        obtain ⟨c, h1, h2⟩ := tw_in (P := P) l i (by omega)
        exact ⟨c, h1, h2⟩
theorem tw_out {P : Nat → Bool} : ∀ (l : List Nat) (c : Nat), l[(l.takeWhile P).length]? = some c → P c = false
  | [], c, h => by simp at h
  | a :: l, c, h => by
    rw [List.takeWhile_cons] at h
    cases e : P a with
    | false =>
      rw [e] at h
      simp at h
      rw [← h]
      exact e
    | true =>
      rw [e] at h
      simp only [if_true, List.length_cons, List.getElem?_cons_succ] at h
      exact tw_out l c h
theorem tw_le {P : Nat → Bool} : ∀ (l : List Nat), (l.takeWhile P).length ≤ l.length
  | [] => Nat.le_refl _
  | a :: l => by
    rw [List.takeWhile_cons]
    have := tw_le (P := P) l
    split <;> simp <;> omega
theorem rl_ge {P : Nat → Bool} {ib : List Nat} {p : Nat} : p ≤ rl P ib p := Nat.le_add_right _ _
theorem rl_le {P : Nat → Bool} {ib : List Nat} {p : Nat} (h : p ≤ ib.length) : rl P ib p ≤ ib.length := by
  have := tw_le (P := P) (ib.drop p)
  rw [List.length_drop] at this
  unfold rl
  omega
theorem rl_in {P : Nat → Bool} {ib : List Nat} {p i : Nat} (h : p ≤ i) (h2 : i < rl P ib p) : ∃ c, ib[i]? = some c ∧ P c = true := by
  obtain ⟨c, h1, h3⟩ := tw_in (P := P) (ib.drop p) (i - p) (by unfold rl at h2; omega)
  rw [List.getElem?_drop, show p + (i - p) = i by omega] at h1
  exact ⟨c, h1, h3⟩
theorem rl_out {P : Nat → Bool} {ib : List Nat} {p c : Nat} (h : ib[rl P ib p]? = some c) : P c = false := by
  refine tw_out (P := P) (ib.drop p) c ?_
  rw [List.getElem?_drop]
  exact h
theorem rl_gt {P : Nat → Bool} {ib : List Nat} {p c : Nat} (h : ib[p]? = some c) (hc : P c = true) : p < rl P ib p := by
  unfold rl
  cases e : ib.drop p with
  | nil =>
    have := (List.getElem?_eq_some_iff.1 h).1
    have h2 : (ib.drop p).length = 0 := by rw [e]; rfl
    rw [List.length_drop] at h2
    omega
  | cons a l =>
    have : (ib.drop p)[0]? = some c := by rw [List.getElem?_drop]; exact h
    rw [e] at this
    cases this
    rw [List.takeWhile_cons, hc]
    simp
theorem cut_len {ib : List Nat} {a b : Nat} (h : b ≤ ib.length) : (cut ib a b).length = b - a := by
  unfold cut
  rw [List.length_take, List.length_drop]
  omega
theorem cut_at {ib : List Nat} {a b i : Nat} (h : i < b - a) : (cut ib a b)[i]? = ib[a + i]? := by
  unfold cut
  rw [List.getElem?_take_of_lt h, List.getElem?_drop]
/-- what a token is -/
def tk_ok (ib : List Nat) (p : Nat) (T : TS) : Prop := p ≤ T.1 ∧ T.1 ≤ T.2.1 ∧ T.2.1 ≤ ib.length ∧ T.2.2.2.1 < 5 ∧ (T.2.2.2.1 ≠ 3 → T.1 < T.2.1) ∧ (T.2.2.2.1 = 3 → T.1 = T.2.1) ∧ (T.2.2.2.1 = 0 → T.2.2.2.2 = cut ib T.1 T.2.1 ∧ T.2.1 ≤ T.1 + 8 ∧ ∀ c, c ∈ T.2.2.2.2 → isL c = true) ∧ (T.2.2.2.1 ≠ 0 → T.2.2.2.2 = []) ∧ (T.2.2.2.1 = 1 → T.2.2.1 = numV (cut ib T.1 T.2.1) ∧ T.2.1 ≤ T.1 + 3 ∧ ∀ c, c ∈ cut ib T.1 T.2.1 → isD c = true)
theorem adv_ok {ib : List Nat} {p : Nat} (h : p ≤ ib.length) : tk_ok ib p (adv ib p) := by
  have g1 := rl_ge (P := isS) (ib := ib) (p := p)
  have g2 := rl_le (P := isS) h
  have l1 := rl_ge (P := isL) (ib := ib) (p := rl isS ib p)
  have l2 := rl_le (P := isL) g2
  have d1 := rl_ge (P := isD) (ib := ib) (p := rl isS ib p)
  have d2 := rl_le (P := isD) g2
  have inl : ∀ (P : Nat → Bool) c, c ∈ cut ib (rl isS ib p) (rl P ib (rl isS ib p)) → P c = true := fun P c hc => by
    obtain ⟨i, hi⟩ := List.getElem?_of_mem hc
    have hl := (List.getElem?_eq_some_iff.1 hi).1
    have g3 := rl_le (P := P) g2
    rw [cut_len g3] at hl
    rw [cut_at hl] at hi
    obtain ⟨c', h1, h2⟩ := rl_in (P := P) (ib := ib) (p := rl isS ib p) (i := rl isS ib p + i) (by omega) (by omega)
    rw [hi] at h1
    cases h1
    exact h2
  unfold adv
  cases e : ib[rl isS ib p]? with
  | none => exact ⟨g1, Nat.le_refl _, g2, by simp, by simp, by simp, by simp, by simp, by simp⟩
  | some c =>
    have lt := (List.getElem?_eq_some_iff.1 e).1
    simp only
    by_cases c1 : isL c = true
    · rw [if_pos c1]
      have gl := rl_gt e c1
      by_cases c2 : rl isL ib (rl isS ib p) - rl isS ib p ≤ 8
      · rw [if_pos c2]
        exact ⟨g1, l1, l2, by simp, fun _ => gl, by simp, fun _ => ⟨rfl, by show rl isL ib (rl isS ib p) ≤ rl isS ib p + 8; omega, inl isL⟩, by simp, by simp⟩
      · rw [if_neg c2]
        exact ⟨g1, l1, l2, by simp, fun _ => gl, by simp, by simp, by simp, by simp⟩
    · rw [if_neg c1]
      by_cases c3 : isD c = true
      · rw [if_pos c3]
        have gl := rl_gt e c3
        by_cases c2 : rl isD ib (rl isS ib p) - rl isS ib p ≤ 3
        · rw [if_pos c2]
          exact ⟨g1, d1, d2, by simp, fun _ => gl, by simp, by simp, by simp, fun _ => ⟨rfl, by show rl isD ib (rl isS ib p) ≤ rl isS ib p + 3; omega, inl isD⟩⟩
        · rw [if_neg c2]
          exact ⟨g1, d1, d2, by simp, fun _ => gl, by simp, by simp, by simp, by simp⟩
      · rw [if_neg c3]
        refine ⟨g1, Nat.le_succ _, lt, ?_, fun _ => Nat.lt_succ_self _, ?_, ?_, by simp, ?_⟩ <;> (simp only; split <;> simp)
/-- what lies at a place of the input -/
def atI (ib : List Nat) (k : Nat) : Int32 := match ib[k]? with
  | none => -1
  | some c => nI c
def ib_ok (ib : List Nat) : Prop := ib.length ≤ 700 ∧ ∀ (k b : Nat), ib[k]? = some b → b < 256
theorem atI_rng {ib : List Nat} (h : ib_ok ib) (k lo hi : Nat) (hlo : lo < 256) (hhi : hi < 256) : (decide (nI lo ≤ atI ib k) && decide (atI ib k ≤ nI hi)) = match ib[k]? with
  | none => false
  | some c => decide (lo ≤ c) && decide (c ≤ hi) := by
  unfold atI
  cases e : ib[k]? with
  | none =>
    simp only
    have : ¬ nI lo ≤ -1 := fun hc => by
      have h0 : (0 : Int32) ≤ nI lo := nI_pos' (by omega)
      rw [Int32.le_iff_toInt_le] at hc h0
      have e1 : (-1 : Int32).toInt = -1 := by decide
      have e0 : (0 : Int32).toInt = 0 := by decide
      omega
    rw [decide_eq_false this, Bool.false_and]
  | some c =>
    have hc := h.2 k c e
    simp only
    rw [decide_eq_decide.2 (nI_leI (a := lo) (b := c) (by omega) (by omega)), decide_eq_decide.2 (nI_leI (a := c) (b := hi) (by omega) (by omega))]
theorem atI_eq {ib : List Nat} (h : ib_ok ib) (k n : Nat) (hn : n < 256) : (atI ib k = nI n) ↔ ib[k]? = some n := by
  unfold atI
  cases e : ib[k]? with
  | none =>
    simp only
    refine ⟨fun hc => ?_, fun hc => by cases hc⟩
    have h0 : (0 : Int32) ≤ nI n := nI_pos' (by omega)
    rw [← hc] at h0
    exact absurd h0 (by decide)
  | some c =>
    have hc := h.2 k c e
    simp only [Option.some.injEq]
    exact nI_eq (by omega) (by omega)
theorem atI_end {ib : List Nat} (h : ib_ok ib) (k : Nat) : (atI ib k = -1) ↔ ib[k]? = none := by
  unfold atI
  cases e : ib[k]? with
  | none => simp
  | some c =>
    have hc := h.2 k c e
    simp only [reduceCtorEq, iff_false]
    intro h1
    have h0 : (0 : Int32) ≤ nI c := nI_pos' (by omega)
    rw [h1] at h0
    exact absurd h0 (by decide)
/-- loops over signs of a kind -/
theorem wl_loop {σ ρ : Type} {F : Nat → σ → ρ} {I : Nat → σ → Prop} {ib : List Nat} {P : Nat → Bool} {p : Nat} (hl : ib.length ≤ 700) (hp : p ≤ ib.length) (step : ∀ f i s c, p ≤ i → i < ib.length → ib[i]? = some c → P c = true → I i s → ∃ s', I (i + 1) s' ∧ F (f + 1) s = F f s') (s : σ) (h : I p s) : ∃ f s', I (rl P ib p) s' ∧ F gx_fuel s = F (f + 1) s' := by
  have r1 := rl_ge (P := P) (ib := ib) (p := p)
  have r2 := rl_le (P := P) hp
  obtain ⟨s', h1, h2⟩ := gx_lq (F := F) (I := fun k s => I (p + k) s) (rl P ib p - p) (fun f i s hi hI => by
    obtain ⟨c, hc, hP⟩ := rl_in (P := P) (ib := ib) (p := p) (i := p + i) (by omega) (by omega)
    exact step f (p + i) s c (by omega) (List.getElem?_eq_some_iff.1 hc).1 hc hP hI) (rl P ib p - p) 0 gx_fuel s (by omega) (by rw [pl_fl]; omega) h
  refine ⟨gx_fuel - (rl P ib p - p) - 1, s', by rw [show p + (rl P ib p - p) = rl P ib p by omega] at h1; exact h1, ?_⟩
  rw [h2]
  congr 1
  rw [pl_fl]
  omega
