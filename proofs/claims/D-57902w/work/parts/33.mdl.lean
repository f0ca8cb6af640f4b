/-! the model's verdicts on numbers -/
set_option maxRecDepth 100000
theorem ms_len_lt (j : Nat) : ms_len j < 2 ^ 31 := by
  unfold ms_len
  split <;> decide
theorem ms_ai_n {s : MS} {j k : Nat} (hj : j < 13) (ht : ms_ty j = 0) (hk : k < ms_len j) : ms_ai s j (nI k) = some (s.2 j k) := by
  have h1 := ms_len_lt j
  unfold ms_ai
  rw [nI_clamp (by omega), if_pos ⟨hj, ht, nI_pos' (by omega), hk⟩]
theorem ms_si_n {s : MS} {j k : Nat} {x : Int32} (hj : j < 13) (ht : ms_ty j = 0) (hk : k < ms_len j) : ms_si s j (nI k) x = some (ms_u s j k x) := by
  have h1 := ms_len_lt j
  unfold ms_si
  rw [nI_clamp (by omega), if_pos ⟨hj, ht, nI_pos' (by omega), hk⟩]
theorem ms_w {s : MS} {k : Nat} {x : Int32} (hx : x = nI k) (hk : k < 504) : ms_ai s 0 x = some (s.2 0 k) := by
  rw [hx]
  exact ms_ai_n (by decide) rfl hk
theorem ms_ws {s : MS} {k : Nat} {x y : Int32} (hx : x = nI k) (hk : k < 504) : ms_si s 0 x y = some (ms_u s 0 k y) := by
  rw [hx]
  exact ms_si_n (by decide) rfl hk
theorem m_of {D : gx_D} {b : HX} {o : Nat} {s : MS} {k c : Nat} {x : Int32} (hx : x = nI c) (h : 93 + 9 * k + c < 504) : f_X9_of D b o s (nI k) x = some (s.2 0 (93 + 9 * k + c)) := by
  unfold f_X9_of
  rw [ms_w (k := 93 + 9 * k + c) (by rw [hx, show (93 : Int32) = nI 93 from rfl, show (9 : Int32) = nI 9 from rfl, pk_mul, nI_add, nI_add]) h]
  rfl
theorem m_ofI {D : gx_D} {b : HX} {o : Nat} {s : MS} {k c : Nat} {x : Int32} (hx : x = nI c) (h : 309 + 4 * k + c < 504) : f_X9_ofInvariant D b o s (nI k) x = some (s.2 0 (309 + 4 * k + c)) := by
  unfold f_X9_ofInvariant
  rw [ms_w (k := 309 + 4 * k + c) (by rw [hx, show (309 : Int32) = nI 309 from rfl, show (4 : Int32) = nI 4 from rfl, pk_mul, nI_add, nI_add]) h]
  rfl
theorem m_holds {D : gx_D} {b : HX} {o : Nat} {s : MS} {op : Nat} {x c : Int32} (hop : op < 6) : f_X9_holds D b o s x (nI op) c = some (opH op x c) := by
  unfold f_X9_holds
  match op, hop with
  | 0, _ => rw [if_pos (by decide)]; exact ifbn
  | 1, _ => rw [if_neg (by decide), if_pos (by decide)]; exact ifbn
  | 2, _ => rw [if_neg (by decide), if_neg (by decide), if_pos (by decide)]; exact ifb
  | 3, _ => rw [if_neg (by decide), if_neg (by decide), if_neg (by decide), if_pos (by decide)]; exact ifbn
  | 4, _ => rw [if_neg (by decide), if_neg (by decide), if_neg (by decide), if_neg (by decide), if_pos (by decide)]; exact ifbn
  | 5, _ => rw [if_neg (by decide), if_neg (by decide), if_neg (by decide), if_neg (by decide), if_neg (by decide), if_pos (by decide)]; exact ifbn
  | n + 6, hn => omega
theorem m_cp {D : gx_D} {b : HX} {o : Nat} {s : MS} {p : CP} {q : CF} (hp : cp_ok p) (hq : cf_ok q) : f_X9_valueIn D b o s (nI (cf_m q)) (nI p.1) = some (nI (cf_val q p.1)) ∧ f_X9_holds D b o s (nI (cf_val q p.1)) (nI p.2.1) (nI p.2.2) = some (cpH p q) := by
  obtain ⟨h1, h2, h3⟩ := hp
  have hl := cf_m_lt hq
  have hv := cf_val_lt hq p.1
  refine ⟨?_, ?_⟩
  · rw [m_val (by omega) h1, cf_m_val hq h1]
  · rw [m_holds h2, opH_nI (by omega) (by omega)]
    rfl
theorem m_state {D : gx_D} {b : HX} {o : Nat} {s : MS} {q : CF} (h : cf_ok q) : f_X9_stateIn D b o s (nI (cf_m q)) = some (nI q.1) := by
  unfold f_X9_stateIn
  rw [show (1000 : Int32) = nI 1000 by decide, pk_div (by have := cf_m_lt h; omega) (by decide) (by decide)]
  obtain ⟨h1, h2, h3, h4⟩ := h
  congr 2
  unfold cf_m
  omega
theorem m_compares {D : gx_D} {b : HX} {o : Nat} {s : MS} {k : Nat} {i : IV} {q : CF} (hi : m_iv (s.2 0) (309 + 4 * k) i) (ho : iv_ok i) (hk : k < 12) (hq : cf_ok q) : f_X9_compares D b o s (nI k) (nI (cf_m q)) = some (cpH i.2 q) := by
  obtain ⟨i1, i2, i3, i4⟩ := hi
  obtain ⟨c1, c2⟩ := m_cp (D := D) (b := b) (o := o) (s := s) ho.2 hq
  unfold f_X9_compares
  rw [m_ofI (x := 1) (c := 1) rfl (by omega), i2, Option.bind_some, c1, Option.bind_some, m_ofI (x := 2) (c := 2) rfl (by omega), i3, Option.bind_some, m_ofI (x := 3) (c := 3) rfl (by omega), i4, Option.bind_some, c2]
  rfl
theorem m_breaks {D : gx_D} {b : HX} {o : Nat} {s : MS} {k : Nat} {i : IV} {q : CF} (hi : m_iv (s.2 0) (309 + 4 * k) i) (ho : iv_ok i) (hk : k < 12) (hq : cf_ok q) : f_X9_breaks D b o s (nI (cf_m q)) (nI k) = some (ivB i q) := by
  have hc := m_compares (D := D) (b := b) (o := o) hi ho hk hq
  have h20 : f_X9_breaks_b20 D b o s (nI (cf_m q)) (nI k) = some (!cpH i.2 q) := by
    unfold f_X9_breaks_b20
    rw [hc, Option.bind_some]
    cases cpH i.2 q <;> rfl
  unfold f_X9_breaks
  have i1 := hi.1
  rw [m_ofI (x := 0) (c := 0) rfl (by omega), Nat.add_zero, i1, Option.bind_some, h20, m_state hq, Option.bind_some]
  unfold ivB
  cases e : i.1 with
  | none => rw [if_pos oI_nn, Bool.true_and]
  | some j =>
    have hj := ho.1 j e
    have hq1 := hq.1
    rw [if_neg (oI_sne (show j < 2 ^ 31 by omega))]
    show (if nI j = nI q.1 then _ else _) = _
    simp only [nI_eq (show j < 2 ^ 31 by omega) (show q.1 < 2 ^ 31 by omega)]
    by_cases c : j = q.1
    · rw [if_pos c, decide_eq_true c.symm, Bool.true_and]
    · rw [if_neg c, decide_eq_false (fun e => c e.symm), Bool.false_and]
theorem m_broken {D : gx_D} {b : HX} {o : Nat} {s : MS} {is : List IV} {q : CF} (H : m_ivs (s.2 0) is) (hl : is.length ≤ 12) (ho : ∀ i, i ∈ is → iv_ok i) (hq : cf_ok q) : f_X9_firstBroken D b o s (nI (cf_m q)) = some (oI (brk is q)) := by
  unfold f_X9_firstBroken brk
  refine gx_fi is (fun i => ivB i q) (fun f x => f_X9_firstBroken_b2 D b o f s (nI (cf_m q)) x) (by omega) ?_ ?_
  · intro f i hi
    simp only [f_X9_firstBroken_b2, ms_w (s := s) (x := 4) (k := 4) rfl (by decide), H.1, Option.bind_some, if_neg (nI_ge hi (by omega)), m_breaks (H.2 i _ (List.getElem?_eq_getElem hi)) (ho _ (List.getElem_mem hi)) (show i < 12 by omega) hq, gx_c1]
  · intro f
    simp only [f_X9_firstBroken_b2, ms_w (s := s) (x := 4) (k := 4) rfl (by decide), H.1, Option.bind_some, if_pos (nI_le (Nat.le_refl is.length) (show is.length < 2 ^ 31 by omega))]
theorem m_guard {D : gx_D} {b : HX} {o : Nat} {s : MS} {k : Nat} {t : TR} {q : CF} (ht : m_tr (s.2 0) (93 + 9 * k) t) (ho : tr_ok t) (hk : k < 24) (hq : cf_ok q) : f_X9_isGuardRight D b o s (nI k) (nI (cf_m q)) = some (trOpen t q) := by
  obtain ⟨t1, t2, t3, t4, t5⟩ := ht
  unfold f_X9_isGuardRight trOpen
  rw [m_of (x := 3) (c := 3) rfl (by omega), Option.bind_some]
  revert t4
  cases e : t.2.2.2.1 with
  | none =>
    intro t4
    rw [if_pos t4]
  | some p =>
    intro t4
    obtain ⟨u1, u2, u3⟩ := t4
    have hp := ho.2.2.2.1 p e
    obtain ⟨c1, c2⟩ := m_cp (D := D) (b := b) (o := o) (s := s) hp hq
    have hp1 := hp.1
    rw [u1, if_neg (oI_ne (by omega)), c1, Option.bind_some, m_of (x := 4) (c := 4) rfl (by omega), Option.bind_some, u2, m_of (x := 5) (c := 5) rfl (by omega), Option.bind_some, u3, c2, Option.bind_some]
    show _ = some (cpH p q)
    cases cpH p q <;> rfl
theorem ms_pp {s : MS} {k : Nat} {x y : Int32} : ms_p (ms_p s k x) k y = ms_p s k y := by
  unfold ms_p
  simp only [Prod.mk.injEq, and_true]
  funext q
  by_cases c : q = k <;> simp [c]
theorem ms_pc {s : MS} {j k : Nat} {x y : Int32} (h : j ≠ k) : ms_p (ms_p s j x) k y = ms_p (ms_p s k y) j x := by
  unfold ms_p
  simp only [Prod.mk.injEq, and_true]
  funext q
  by_cases c : q = k
  · subst c
    have : ¬ q = j := fun e => h e.symm
    simp [this]
  · by_cases c2 : q = j
    · subst c2
      simp [c]
    · simp [c, c2]
theorem ms_p1 {s : MS} {k : Nat} {x : Int32} : (ms_p s k x).1 k = x := if_pos rfl
theorem ms_p1n {s : MS} {j k : Nat} {x : Int32} (h : j ≠ k) : (ms_p s k x).1 j = s.1 j := if_neg h
theorem ms_p2 {s : MS} {k : Nat} {x : Int32} : (ms_p s k x).2 = s.2 := rfl
theorem m_choose {D : gx_D} {b : HX} {o e : Nat} {s : MS} {ts : List TR} {q : CF} (H : m_trs (s.2 0) ts) (hl : ts.length ≤ 24) (ho : tr_oks ts) (hq : cf_ok q) (he : e < 2 ^ 31) : f_X9_choose D b o s (nI (cf_m q)) (nI e) = some (anyN ts q e, ms_p s 7 (oI (chN ts q e))) := by
  unfold f_X9_choose ms_pf
  rw [Option.bind_some]
  have hq1 := hq.1
  obtain ⟨r, e1, e2⟩ := gx_lp (F := fun f (z : MS × Bool × Int32) => f_X9_choose_b10 D b o f z.1 (nI (cf_m q)) (nI e) z.2.1 z.2.2)
    (I := fun i z => z.2.2 = nI i ∧ ((z.1 = ms_p s 7 (-1) ∧ (∀ j (hj : j < ts.length), j < i → (trFor ts[j] q.1 e && trOpen ts[j] q) = false) ∧ (z.2.1 = true ↔ ∃ j, ∃ hj : j < ts.length, j < i ∧ trFor ts[j] q.1 e = true)) ∨ (z.1 = ms_p s 7 (oI (chN ts q e)) ∧ z.2.1 = anyN ts q e ∧ chN ts q e ≠ none)))
    (Q := fun r => r = (anyN ts q e, ms_p s 7 (oI (chN ts q e)))) ts.length (by
    intro f i z hi hI
    obtain ⟨z1, z2, z3⟩ := z
    obtain ⟨h3, hI⟩ := hI
    simp only at h3 hI
    subst h3
    rcases hI with ⟨rfl, h4, h5⟩ | ⟨rfl, h4, h5⟩
    · have ht := H.2 i _ (List.getElem?_eq_getElem hi)
      have hto := ho _ (List.getElem_mem hi)
      obtain ⟨o1, o2, o3, o4, o5⟩ := id hto
      have hg := m_guard (D := D) (b := b) (o := o) (s := ms_p s 7 (-1)) ht hto (show i < 24 by omega) hq
      have tf : trFor ts[i] q.1 e = (decide (ts[i].1 = q.1) && decide (ts[i].2.1 = e)) := rfl
      simp only [f_X9_choose_b10, f_X9_choose_b75, ms_w (s := ms_p s 7 (-1)) (x := 3) (k := 3) rfl (by decide), Option.bind_some, ms_p2, H.1, if_neg (nI_ge hi (show ts.length < 2 ^ 31 by omega)), ms_p1, if_true, m_of (s := ms_p s 7 (-1)) (k := i) (c := 0) (x := 0) rfl (by omega), m_of (s := ms_p s 7 (-1)) (k := i) (c := 1) (x := 1) rfl (by omega), m_state hq, hg, Nat.add_zero, ht.1, ht.2.1, nI_eq (show ts[i].1 < 2 ^ 31 by omega) (show q.1 < 2 ^ 31 by omega), nI_eq (show ts[i].2.1 < 2 ^ 31 by omega) he, gx_c1, ms_pf]
      by_cases c1 : ts[i].1 = q.1
      · by_cases c2 : ts[i].2.1 = e
        · rw [decide_eq_true c1, decide_eq_true c2] at tf
          have any : anyN ts q e = true := List.any_eq_true.2 ⟨ts[i], List.getElem_mem hi, tf⟩
          cases c3 : trOpen ts[i] q with
          | true =>
            have ch : chN ts q e = some i := List.findIdx?_eq_some_iff_getElem.2 ⟨hi, by rw [tf, c3]; rfl, fun j hj => by rw [h4 j (by omega) hj]; exact Bool.false_ne_true⟩
            refine Or.inl ⟨(ms_p s 7 (nI i), true, nI (i + 1)), ⟨rfl, Or.inr ⟨by rw [ch]; rfl, any.symm, by rw [ch]; simp⟩⟩, ?_⟩
            simp only [if_pos c1, if_pos c2, if_true, ms_pp]
          | false =>
            refine Or.inl ⟨(ms_p s 7 (-1), true, nI (i + 1)), ⟨rfl, Or.inl ⟨rfl, fun j hj hji => ?_, ⟨fun _ => ⟨i, hi, by omega, tf⟩, fun _ => rfl⟩⟩⟩, ?_⟩
            · by_cases c : j = i
              · subst c; rw [c3, Bool.and_false]
              · exact h4 j hj (by omega)
            · simp only [if_pos c1, if_pos c2, Bool.false_eq_true, if_false]
        · rw [decide_eq_true c1, decide_eq_false c2] at tf
          refine Or.inl ⟨(ms_p s 7 (-1), z2, nI (i + 1)), ⟨rfl, Or.inl ⟨rfl, fun j hj hji => ?_, ?_⟩⟩, ?_⟩
          · by_cases c : j = i
            · subst c; rw [tf]; rfl
            · exact h4 j hj (by omega)
          · rw [h5]
            exact ⟨fun ⟨j, hj, a1, a2⟩ => ⟨j, hj, by omega, a2⟩, fun ⟨j, hj, a1, a2⟩ => by
              by_cases c : j = i
              · subst c; rw [tf] at a2; cases a2
              · exact ⟨j, hj, by omega, a2⟩⟩
          · simp only [if_pos c1, if_neg c2]
      · rw [decide_eq_false c1] at tf
        refine Or.inl ⟨(ms_p s 7 (-1), z2, nI (i + 1)), ⟨rfl, Or.inl ⟨rfl, fun j hj hji => ?_, ?_⟩⟩, ?_⟩
        · by_cases c : j = i
          · subst c; rw [tf]; rfl
          · exact h4 j hj (by omega)
        · rw [h5]
          exact ⟨fun ⟨j, hj, a1, a2⟩ => ⟨j, hj, by omega, a2⟩, fun ⟨j, hj, a1, a2⟩ => by
            by_cases c : j = i
            · subst c; rw [tf] at a2; cases a2
            · exact ⟨j, hj, by omega, a2⟩⟩
        · simp only [if_neg c1]
    · subst h4
      refine Or.inr ⟨_, ?_, rfl⟩
      obtain ⟨k, hk⟩ := Option.ne_none_iff_exists'.1 h5
      have := chN_lt hk
      simp only [f_X9_choose_b10, ms_w (s := ms_p s 7 (oI (chN ts q e))) (x := 3) (k := 3) rfl (by decide), Option.bind_some, ms_p2, H.1, if_neg (nI_ge hi (show ts.length < 2 ^ 31 by omega)), ms_p1]
      rw [if_neg (by rw [hk]; exact oI_sne (by omega))]) (by
    intro f z hI
    obtain ⟨z1, z2, z3⟩ := z
    obtain ⟨h3, hI⟩ := hI
    simp only at h3 hI
    subst h3
    refine ⟨(z2, z1), ?_, ?_⟩
    · have : z1.2 = s.2 := by rcases hI with ⟨rfl, _⟩ | ⟨rfl, _⟩ <;> rfl
      simp only [f_X9_choose_b10, ms_w (s := z1) (x := 3) (k := 3) rfl (by decide), Option.bind_some, this, H.1, if_pos (nI_le (Nat.le_refl ts.length) (show ts.length < 2 ^ 31 by omega))]
    · rcases hI with ⟨rfl, h4, h5⟩ | ⟨rfl, h4, h5⟩
      · have ch : chN ts q e = none := List.findIdx?_eq_none_iff.2 fun x hx => by
          obtain ⟨j, hj, rfl⟩ := List.getElem_of_mem hx
          exact h4 j hj hj
        rw [ch, show oI none = -1 from rfl]
        congr 1
        cases z2 with
        | true =>
          obtain ⟨j, hj, a1, a2⟩ := h5.1 rfl
          exact (List.any_eq_true.2 ⟨ts[j], List.getElem_mem hj, a2⟩).symm
        | false =>
          refine (List.any_eq_false.2 fun x hx => ?_).symm
          obtain ⟨j, hj, rfl⟩ := List.getElem_of_mem hx
          intro a2
          exact absurd (h5.2 ⟨j, hj, hj, a2⟩) Bool.false_ne_true
      · rw [h4]) ts.length 0 gx_fuel (ms_p s 7 (-1), false, 0) (by omega) (by rw [pl_fl]; omega) ⟨rfl, Or.inl ⟨rfl, fun j _ h => by omega, ⟨fun h => (by cases h), fun ⟨j, _, h, _⟩ => (by omega)⟩⟩⟩
  rw [e1, e2]
/-- where a verdict looked -/
def toN (ts : List TR) (q : CF) (e : Nat) : CF := match chN ts q e with
  | none => q
  | some k => match ts[k]? with
    | none => q
    | some t => match trNext t q with
      | none => q
      | some p => p
def vdS (ts : List TR) (q : CF) (e : Nat) (s : MS) : MS := ms_p (ms_p s 8 (nI (cf_m (toN ts q e)))) 7 (oI (chN ts q e))
theorem cf_m_st {q : CF} {t : Nat} : nI (cf_m q) + 1000 * (nI t - nI q.1) = nI (cf_m (t, q.2)) := by
  rw [show (1000 : Int32) = nI 1000 by decide]
  apply nI_chg'
  unfold cf_m
  simp only
  omega
theorem cf_m_set {q : CF} {v x : Nat} (hv : v < 3) : cf_m (cf_set q v x) + cf_val q v * wtM v = cf_m q + x * wtM v := by
  match v, hv with
  | 0, _ => simp only [cf_set, cf_m, cf_val, wtM]; omega
  | 1, _ => simp only [cf_set, cf_m, cf_val, wtM]; omega
  | 2, _ => simp only [cf_set, cf_m, cf_val, wtM]; omega
  | n + 3, h => omega
theorem m_with {D : gx_D} {b : HX} {o : Nat} {s : MS} {q : CF} {v x : Nat} (hq : cf_ok q) (hv : v < 3) : f_X9_with D b o s (nI (cf_m q)) (nI v) (nI x) = some (nI (cf_m (cf_set q v x))) := by
  unfold f_X9_with
  rw [m_wt hv, Option.bind_some, m_val (by have := cf_m_lt hq; omega) hv, Option.bind_some, cf_m_val hq hv]
  exact congrArg some (nI_chg' (cf_m_set hv))
theorem m_acted {D : gx_D} {b : HX} {o : Nat} {s : MS} {k x : Nat} {p : AC} (h7 : s.2 0 (93 + 9 * k + 7) = nI p.2.1) (h8 : s.2 0 (93 + 9 * k + 8) = nI p.2.2) (hp : ac_ok p) (hk : k < 24) : f_X9_acted D b o s (nI k) (nI x) = some (aft p.2.1 x p.2.2) := by
  unfold f_X9_acted
  rw [m_of (x := 8) (c := 8) rfl (by omega), Option.bind_some, m_of (x := 7) (c := 7) rfl (by omega), Option.bind_some, h7, h8]
  have hc : p.2.1 = 0 ∨ p.2.1 = 1 ∨ p.2.1 = 2 := by have := hp.2.1; omega
  rcases hc with e | e | e
  · rw [e, if_pos (by decide)]; rfl
  · rw [e, if_neg (by decide), if_pos (by decide)]; rfl
  · rw [e, if_neg (by decide), if_neg (by decide)]; rfl
theorem m_verdict {D : gx_D} {b : HX} {o e : Nat} {s : MS} {ts : List TR} {is : List IV} {q : CF} (H : m_trs (s.2 0) ts) (hl : ts.length ≤ 24) (ho : tr_oks ts) (H2 : m_ivs (s.2 0) is) (hl2 : is.length ≤ 12) (ho2 : ∀ i, i ∈ is → iv_ok i) (hq : cf_ok q) (he : e < 2 ^ 31) : f_X9_verdict D b o s (nI (cf_m q)) (nI e) = some (nI (vdN ts is q e), vdS ts q e s) := by
  have h103 : ∀ (s' : MS) (p : CF), s'.2 = s.2 → cf_ok p → f_X9_verdict_b103 D b o s' (nI (cf_m p)) = some (if (brk is p).isSome = true then 4 else 0, ms_p s' 8 (nI (cf_m p))) := by
    intro s' p hs hp
    unfold f_X9_verdict_b103 ms_pf
    rw [Option.bind_some, m_broken (is := is) (by rw [ms_p2, hs]; exact H2) hl2 ho2 hp, Option.bind_some]
    cases e : brk is p with
    | none => rw [if_pos oI_nn]; rfl
    | some j => rw [if_neg (oI_sne (by have := brk_lt e; omega))]; rfl
  unfold f_X9_verdict
  have c1 := m_choose (D := D) (b := b) (o := o) (e := e) (s := ms_p s 8 (nI (cf_m q))) H hl ho hq he
  simp only [ms_pf, Option.bind_some, gx_b2, c1, ms_p1]
  unfold vdN vdS toN
  cases e1 : chN ts q e with
  | none =>
    cases e2 : anyN ts q e with
    | true => simp only [if_true, if_pos oI_nn]; rfl
    | false => simp only [Bool.false_eq_true, if_false]; rfl
  | some k =>
    have hk := chN_lt e1
    have any : anyN ts q e = true := List.any_eq_true.2 ⟨ts[k], List.getElem_mem hk, by
      have := (List.findIdx?_eq_some_iff_getElem.1 e1).2.1
      simp only [Bool.and_eq_true] at this
      exact this.1⟩
    have ht := H.2 k _ (List.getElem?_eq_getElem hk)
    have hto := ho _ (List.getElem_mem hk)
    obtain ⟨t1, t2, t3, t4, t5⟩ := id ht
    obtain ⟨o1, o2, o3, o4, o5⟩ := id hto
    simp only [any, if_true, if_neg (oI_sne (show k < 2 ^ 31 by omega))]
    simp only [show oI (some k) = nI k from rfl, m_of (s := ms_p (ms_p s 8 (nI (cf_m q))) 7 (nI k)) (k := k) (x := 2) (c := 2) rfl (by omega), m_of (s := ms_p (ms_p s 8 (nI (cf_m q))) 7 (nI k)) (k := k) (x := 6) (c := 6) rfl (by omega), Option.bind_some, m_state hq, ms_p2, t3, List.getElem?_eq_getElem hk, cf_m_st]
    revert t5
    cases e2 : ts[k].2.2.2.2 with
    | none =>
      intro t5
      have hn : trNext ts[k] q = some (ts[k].2.2.1, q.2) := by unfold trNext; rw [e2]
      rw [if_pos t5, h103 (ms_p (ms_p s 8 (nI (cf_m q))) 7 (nI k)) (ts[k].2.2.1, q.2) rfl ⟨o3, hq.2.1, hq.2.2.1, hq.2.2.2⟩, hn, ms_pc (by decide), ms_pp]
      simp only
      cases brk is (ts[k].2.2.1, q.2) <;> rfl
    | some p =>
      intro t5
      obtain ⟨u1, u2, u3⟩ := t5
      have hp := o5 p e2
      obtain ⟨p1, p2, p3⟩ := id hp
      have hv := cf_val_lt hq p.1
      obtain ⟨a1, a2⟩ := aft_in (k := p.2.1) hv p3 p.1
      have hn : trNext ts[k] q = (actN p (cf_val q p.1)).map fun x => (ts[k].2.2.1, (cf_set q p.1 x).2) := by unfold trNext; rw [e2]
      rw [if_neg (by rw [u1]; exact oI_ne (by omega)), u1, m_val (by have := cf_m_lt hq; omega) p1, cf_m_val hq p1, Option.bind_some, m_acted (s := ms_p (ms_p s 8 (nI (cf_m q))) 7 (nI k)) u2 u3 hp (by omega), Option.bind_some, m_inRange, a1, Option.bind_some, hn]
      cases e3 : actN p (cf_val q p.1) with
      | none => rfl
      | some y =>
        obtain ⟨b1, b2⟩ := a2 y e3
        have hq2 : cf_ok (ts[k].2.2.1, q.2) := ⟨o3, hq.2.1, hq.2.2.1, hq.2.2.2⟩
        have hst : cf_set (ts[k].2.2.1, q.2) p.1 y = (ts[k].2.2.1, (cf_set q p.1 y).2) := by unfold cf_set; split <;> rfl
        rw [b1, if_pos (show (some y).isSome = true from rfl), m_with hq2 p1, Option.bind_some, h103 (ms_p (ms_p s 8 (nI (cf_m q))) 7 (nI k)) _ rfl (cf_set_ok hq2 b2), ms_pc (by decide), ms_pp, hst]
        simp only [Option.map_some]
        cases brk is (ts[k].2.2.1, (cf_set q p.1 y).2) <;> rfl
theorem m_stuck {D : gx_D} {b : HX} {o : Nat} {s : MS} {F : DF} {R : RN} {q : CF} (H1 : s.2 0 1 = nI F.en.length) (h8 : F.en.length ≤ 8) (H : m_trs (s.2 0) F.ts) (hl : F.ts.length ≤ 24) (ho : tr_oks F.ts) (H2 : m_ivs (s.2 0) R.iv) (hl2 : R.iv.length ≤ 12) (ho2 : ∀ i, i ∈ R.iv → iv_ok i) (hq : cf_ok q) : ∃ x y, f_X9_isStuck D b o s (nI (cf_m q)) = some (stuckN F R q, ms_p (ms_p s 8 x) 7 y) := by
  unfold f_X9_isStuck stuckN
  obtain ⟨r, e1, e2⟩ := gx_lp (F := fun f (z : MS × Int32) => f_X9_isStuck_b2 D b o f z.1 (nI (cf_m q)) z.2) (I := fun i z => z.2 = nI i ∧ (∃ x y, z.1 = ms_p (ms_p s 8 x) 7 y) ∧ ∀ j, j < i → (nxN F.ts R.iv q j).isNone = true) (Q := fun r => ∃ x y, r = ((List.range F.en.length).all fun e => (nxN F.ts R.iv q e).isNone, ms_p (ms_p s 8 x) 7 y)) F.en.length (by
    intro f i z hi hI
    obtain ⟨z1, z2⟩ := z
    obtain ⟨h1, ⟨x, y, h2⟩, h3⟩ := hI
    simp only at h1 h2
    subst h1 h2
    have e1 := m_verdict (D := D) (b := b) (o := o) (e := i) (s := ms_p (ms_p s 8 x) 7 y) H hl ho H2 hl2 ho2 hq (show i < 2 ^ 31 by omega)
    simp only [f_X9_isStuck_b2, ms_w (s := ms_p (ms_p s 8 x) 7 y) (x := 1) (k := 1) rfl (by decide), ms_p2, H1, Option.bind_some, if_neg (nI_ge hi (show F.en.length < 2 ^ 31 by omega)), gx_b2, e1, gx_c1]
    have nn := nxN_of (F := F) (R := R) (q := q) (e := i)
    have vlt : vdN F.ts R.iv q i < 2 ^ 31 := by
      unfold vdN
      split
      · split <;> decide
      · split
        · decide
        · split
          · decide
          · split <;> decide
    have hv : (nI (vdN F.ts R.iv q i) = 0) ↔ vdN F.ts R.iv q i = 0 := nI_eq (b := 0) vlt (by decide)
    have hs : ∃ x' y', vdS F.ts q i (ms_p (ms_p s 8 x) 7 y) = ms_p (ms_p s 8 x') 7 y' := ⟨_, _, by unfold vdS; rw [ms_pc (k := 8) (by decide), ms_pp, ms_pp]⟩
    by_cases c : vdN F.ts R.iv q i = 0
    · obtain ⟨x', y', hs⟩ := hs
      refine Or.inr ⟨_, if_pos (hv.2 c), x', y', ?_⟩
      rw [hs]
      congr 1
      refine (List.all_eq_false.2 ⟨i, List.mem_range.2 hi, ?_⟩).symm
      rw [decide_eq_true c] at nn
      rw [Option.isNone_eq_false_iff.2 nn]
      exact Bool.false_ne_true
    · refine Or.inl ⟨(vdS F.ts q i (ms_p (ms_p s 8 x) 7 y), nI (i + 1)), ⟨rfl, hs, fun j hj => ?_⟩, if_neg fun e => c (hv.1 e)⟩
      by_cases c2 : j = i
      · subst c2
        rw [decide_eq_false c] at nn
        exact Option.isSome_eq_false_iff.1 nn
      · exact h3 j (by omega)) (by
    intro f z hI
    obtain ⟨z1, z2⟩ := z
    obtain ⟨h1, ⟨x, y, h2⟩, h3⟩ := hI
    simp only at h1 h2
    subst h1 h2
    simp only [f_X9_isStuck_b2, ms_w (s := ms_p (ms_p s 8 x) 7 y) (x := 1) (k := 1) rfl (by decide), ms_p2, H1, Option.bind_some, if_pos (nI_le (Nat.le_refl F.en.length) (show F.en.length < 2 ^ 31 by omega))]
    exact ⟨_, rfl, x, y, by rw [List.all_eq_true.2 fun j hj => h3 j (List.mem_range.1 hj)]⟩) F.en.length 0 gx_fuel (s, 0) (by omega) (by rw [pl_fl]; omega) ⟨rfl, ⟨s.1 8, s.1 7, by
      unfold ms_p
      refine Prod.ext ?_ rfl
      funext k
      by_cases c : k = 7
      · simp [c]
      · by_cases c2 : k = 8 <;> simp [c, c2]⟩, fun j h => by omega⟩
  obtain ⟨x, y, e2⟩ := e2
  exact ⟨x, y, by rw [e1, e2]⟩
