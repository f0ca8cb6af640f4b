/-! the model's tokens -/
set_option maxRecDepth 100000
set_option linter.unusedSimpArgs false
def mkd (k : Nat) : Nat := if k = 3 then 0 else if k = 4 then 4 else k + 1
/-- nothing but what a parser may write at a token -/
def mq7 (s t : MS) : Prop := (∀ j, j < 16 ∨ 22 < j → t.1 j = s.1 j) ∧ ∀ q, q ≠ 7 → t.2 q = s.2 q
theorem mq7.rf {s : MS} : mq7 s s := ⟨fun _ _ => rfl, fun _ _ => rfl⟩
theorem mq7.tr {a b c : MS} (x : mq7 a b) (y : mq7 b c) : mq7 a c := ⟨fun j h => (y.1 j h).trans (x.1 j h), fun q h => (y.2 q h).trans (x.2 q h)⟩
theorem mq7.p {s : MS} {k : Nat} {x : Int32} (h : 16 ≤ k ∧ k ≤ 22) : mq7 s (ms_p s k x) := ⟨fun j hj => ms_p1n (by omega), fun _ _ => rfl⟩
theorem mq7.inp {s t : MS} {ib : List Nat} (q : mq7 s t) (I : m_in s ib) : m_in t ib := ⟨(q.1 13 (Or.inl (by decide))).trans I.1, fun k b h => by rw [q.2 6 (by decide)]; exact I.2 k b h⟩
def MT (t : MS) (ib : List Nat) (p : Nat) : Prop := m_in t ib ∧ t.1 16 = 0 ∧ t.1 18 = nI (adv ib p).2.1 ∧ t.1 19 = nI (adv ib p).1 ∧ t.1 21 = nI (mkd (adv ib p).2.2.2.1) ∧ ((adv ib p).2.2.2.1 = 1 → t.1 20 = nI (adv ib p).2.2.1)
theorem ms_pe {s : MS} {k : Nat} {x : Int32} (h : s.1 k = x) : ms_p s k x = s := by
  refine Prod.ext (funext fun j => ?_) rfl
  show (if j = k then x else s.1 j) = s.1 j
  by_cases e : j = k
  · rw [if_pos e, e, h]
  · rw [if_neg e]
theorem ms_ppk {s : MS} {k : Nat} {x y : Int32} : ms_p (ms_p s k x) k y = ms_p s k y := by
  refine Prod.ext (funext fun j => ?_) rfl
  show (if j = k then y else if j = k then x else s.1 j) = if j = k then y else s.1 j
  by_cases e : j = k
  · rw [if_pos e, if_pos e]
  · rw [if_neg e, if_neg e, if_neg e]
theorem m_byte {D : gx_D} {b : HX} {o k : Nat} {s : MS} {ib : List Nat} (I : m_in s ib) (hb : ib_ok ib) (hk : k < 2 ^ 31) : f_X9_byteAt D b o s (nI k) = some (atI ib k) := by
  have hl := hb.1
  unfold f_X9_byteAt atI
  rw [I.1]
  cases e : ib[k]? with
  | none =>
    have := List.getElem?_eq_none_iff.1 e
    rw [if_pos (nI_le (by omega) hk)]
  | some c =>
    have lt := (List.getElem?_eq_some_iff.1 e).1
    rw [if_neg (nI_ge lt (by omega)), ms_ai_n (j := 6) (by decide) rfl (show k < ms_len 6 from by show k < 700; omega), Option.bind_some, I.2 k c e]
theorem m_isLet {D : gx_D} {b : HX} {o k : Nat} {s : MS} {ib : List Nat} (I : m_in s ib) (hb : ib_ok ib) (hk : k < 2 ^ 31) : f_X9_isLetter D b o s (nI k) = some (match ib[k]? with | none => false | some c => isL c) := by
  unfold f_X9_isLetter
  rw [m_byte I hb hk, Option.bind_some, m_inRange, Option.bind_some, show (97 : Int32) = nI 97 from rfl, show (122 : Int32) = nI 122 from rfl, atI_rng hb k 97 122 (by decide) (by decide)]
  rfl
theorem numV_app (l : List Nat) (c : Nat) : numV (l ++ [c]) = 10 * numV l + (c - 48) := by
  unfold numV
  rw [List.foldl_append]
  rfl
theorem numV_lt : ∀ (l : List Nat) (n : Nat), (∀ c, c ∈ l → isD c = true) → l.foldl (fun a c => 10 * a + (c - 48)) n < (n + 1) * 10 ^ l.length
  | [], n, _ => by simp
  | c :: l, n, h => by
    have hc := h c (by simp)
    unfold isD at hc
    rw [Bool.and_eq_true, decide_eq_true_eq, decide_eq_true_eq] at hc
    have := numV_lt l (10 * n + (c - 48)) (fun x hx => h x (by simp [hx]))
    rw [List.foldl_cons, List.length_cons, Nat.pow_succ]
    refine Nat.lt_of_lt_of_le this ?_
    rw [Nat.mul_comm (10 ^ l.length) 10, ← Nat.mul_assoc]
    exact Nat.mul_le_mul_right _ (by omega)
theorem cut_s {ib : List Nat} {a i c : Nat} (h : ib[i]? = some c) (ha : a ≤ i) : cut ib a (i + 1) = cut ib a i ++ [c] := by
  have := (List.getElem?_eq_some_iff.1 h).1
  unfold cut
  rw [show i + 1 - a = (i - a) + 1 by omega, List.take_add_one]
  congr 1
  rw [List.getElem?_drop, show a + (i - a) = i by omega, h]
  rfl
theorem cut_0 {ib : List Nat} {a : Nat} : cut ib a a = [] := by
  unfold cut
  rw [Nat.sub_self]
  rfl
theorem m_advance {D : gx_D} {b : HX} {o p : Nat} {s : MS} {ib : List Nat} (I : m_in s ib) (hb : ib_ok ib) (hp : p ≤ ib.length) (h18 : s.1 18 = nI p) (h16 : s.1 16 = 0) : ∃ t, f_X9_advanceToken D b o s = some t ∧ MT t ib p ∧ mq7 s t ∧ t.1 17 = s.1 17 ∧ t.2 7 = s.2 7 ∧ t.1 22 = s.1 22 := by
  have hl := hb.1
  have r1 := rl_ge (P := isS) (ib := ib) (p := p)
  have r2 := rl_le (P := isS) hp
  have I18 : ∀ x, m_in (ms_p s 18 x) ib := fun x => I
  unfold f_X9_advanceToken
  obtain ⟨f, s1, hs1, e1⟩ := wl_loop (F := fun f s => f_X9_advanceToken_b0 D b o f s) (I := fun i z => z = ms_p s 18 (nI i)) (ib := ib) (P := isS) (p := p) hl hp (fun f i z c hi hi2 hc hP hz => by
    subst hz
    refine ⟨_, rfl, ?_⟩
    have eb : f_X9_byteAt D b o (ms_p s 18 (nI i)) (nI i) = some (nI c) := by
      rw [m_byte (I18 _) hb (by omega)]
      unfold atI
      rw [hc]
    have e18 : (ms_p s 18 (nI i)).1 18 = nI i := rfl
    have nx : f_X9_advanceToken_b26 D b o (f_X9_advanceToken_b0 D b o f) (ms_p s 18 (nI i)) = f_X9_advanceToken_b0 D b o f (ms_p s 18 (nI (i + 1))) := by
      unfold f_X9_advanceToken_b26 ms_pf
      rw [Option.bind_some, e18, nI_1, ms_ppk]
    show f_X9_advanceToken_b0 D b o (f + 1) (ms_p s 18 (nI i)) = _
    simp only [f_X9_advanceToken_b0, e18, eb, Option.bind_some, nx]
    unfold isS at hP
    rw [Bool.or_eq_true, decide_eq_true_eq, decide_eq_true_eq] at hP
    rcases hP with e | e
    · rw [e]
      exact if_pos rfl
    · rw [e]
      rw [if_neg (by decide)]
      exact if_pos rfl) s (ms_pe h18).symm
  rw [e1]
  obtain ⟨st, hst⟩ : ∃ st, st = rl isS ib p := ⟨_, rfl⟩
  rw [← hst] at hs1 r1 r2
  subst hs1
  have e18 : (ms_p s 18 (nI st)).1 18 = nI st := rfl
  have eb : f_X9_byteAt D b o (ms_p s 18 (nI st)) (nI st) = some (atI ib st) := m_byte (I18 _) hb (by omega)
  have n32 : ¬ atI ib st = 32 := fun h => by
    have := rl_out (P := isS) (hst ▸ (atI_eq hb st 32 (by decide)).1 h)
    exact absurd this (by decide)
  have n10 : ¬ atI ib st = 10 := fun h => by
    have := rl_out (P := isS) (hst ▸ (atI_eq hb st 10 (by decide)).1 h)
    exact absurd this (by decide)
  simp only [f_X9_advanceToken_b0, e18, eb, Option.bind_some, if_neg n32, if_neg n10]
  unfold f_X9_advanceToken_b39 ms_pf
  rw [Option.bind_some, e18]
  obtain ⟨u, hu⟩ : ∃ u, u = ms_p (ms_p s 18 (nI st)) 19 (nI st) := ⟨_, rfl⟩
  rw [← hu]
  have Iu : m_in u ib := by rw [hu]; exact I
  have u18 : u.1 18 = nI st := by rw [hu]; rfl
  have qu : mq7 s u := by rw [hu]; exact (mq7.p (by decide)).tr (mq7.p (by decide))
  rw [u18, m_byte Iu hb (by omega), Option.bind_some, Option.bind_some]
  obtain ⟨v, hv⟩ : ∃ v, v = ms_p u 20 0 := ⟨_, rfl⟩
  rw [← hv]
  have Iv : m_in v ib := by rw [hv]; exact Iu
  have v18 : v.1 18 = nI st := by rw [hv]; exact u18
  have v19 : v.1 19 = nI st := by rw [hv, hu]; rfl
  have v20 : v.1 20 = 0 := by rw [hv]; rfl
  have v16 : v.1 16 = 0 := by rw [hv, hu]; exact h16
  have qv : mq7 s v := by rw [hv]; exact qu.tr (mq7.p (by decide))
  have v17 : v.1 17 = s.1 17 := by rw [hv, hu]; rfl
  have v22 : v.1 22 = s.1 22 := by rw [hv, hu]; rfl
  have v7 : v.2 7 = s.2 7 := by rw [hv, hu]; rfl
  -- the end of it
  have fin : ∀ (x20 : Int32) (nx kd vl : Nat) (wd : List Nat), adv ib p = (st, nx, vl, kd, wd) → (kd = 1 → x20 = nI vl) → MT (ms_p (ms_p (ms_p v 20 x20) 18 (nI nx)) 21 (nI (mkd kd))) ib p ∧ mq7 s (ms_p (ms_p (ms_p v 20 x20) 18 (nI nx)) 21 (nI (mkd kd))) ∧ (ms_p (ms_p (ms_p v 20 x20) 18 (nI nx)) 21 (nI (mkd kd))).1 17 = s.1 17 ∧ (ms_p (ms_p (ms_p v 20 x20) 18 (nI nx)) 21 (nI (mkd kd))).2 7 = s.2 7 ∧ (ms_p (ms_p (ms_p v 20 x20) 18 (nI nx)) 21 (nI (mkd kd))).1 22 = s.1 22 := fun x20 nx kd vl wd ha hx => by
    refine ⟨⟨Iv, v16, by rw [ha]; rfl, by rw [ha]; exact v19, by rw [ha]; rfl, by rw [ha]; exact hx⟩, ?_, v17, v7, v22⟩
    exact qv.tr ((mq7.p (by decide)).tr ((mq7.p (by decide)).tr (mq7.p (by decide))))
  have p20 : ms_p v 20 0 = v := ms_pe v20
  have p18 : ms_p v 18 (nI st) = v := ms_pe v18
  unfold adv at fin
  rw [← hst] at fin
  cases ec : ib[st]? with
  | none =>
    have en : atI ib st = -1 := (atI_end hb st).2 ec
    rw [if_pos en, Option.bind_some]
    rw [ec] at fin
    have := fin 0 st 3 0 [] rfl (by simp)
    rw [p20, p18] at this
    exact ⟨_, rfl, this⟩
  | some c =>
    have en : ¬ atI ib st = -1 := fun h => by rw [(atI_end hb st).1 h] at ec; cases ec
    rw [ec] at fin
    simp only at fin
    have lt := (List.getElem?_eq_some_iff.1 ec).1
    have il := m_isLet (D := D) (b := b) (o := o) (k := st) Iv hb (by omega)
    rw [ec] at il
    simp only at il
    rw [if_neg en, v18, il, Option.bind_some]
    by_cases c1 : isL c = true
    · rw [if_pos c1]
      rw [if_pos c1] at fin
      obtain ⟨f, s2, hs2, e2⟩ := wl_loop (F := fun f s => f_X9_advanceToken_b85 D b o f s) (I := fun i z => z = ms_p v 18 (nI i)) (ib := ib) (P := isL) (p := st) hl r2 (fun f i z c hi hi2 hc hP hz => by
        subst hz
        refine ⟨_, rfl, ?_⟩
        have il := m_isLet (D := D) (b := b) (o := o) (k := i) (s := ms_p v 18 (nI i)) Iv hb (by omega)
        rw [hc] at il
        simp only at il
        have e18 : (ms_p v 18 (nI i)).1 18 = nI i := rfl
        show f_X9_advanceToken_b85 D b o (f + 1) (ms_p v 18 (nI i)) = _
        simp only [f_X9_advanceToken_b85, e18, il, Option.bind_some, hP, if_true, ms_pf, nI_1, ms_ppk]) v p18.symm
      rw [e2]
      subst hs2
      have r3 := rl_ge (P := isL) (ib := ib) (p := st)
      have r4 := rl_le (P := isL) r2
      obtain ⟨e, he⟩ : ∃ e, e = rl isL ib st := ⟨_, rfl⟩
      rw [← he] at fin r3 r4
      rw [← he]
      have e18 : (ms_p v 18 (nI e)).1 18 = nI e := rfl
      have e19 : (ms_p v 18 (nI e)).1 19 = nI st := v19
      have il := m_isLet (D := D) (b := b) (o := o) (k := e) (s := ms_p v 18 (nI e)) Iv hb (by omega)
      have il : f_X9_isLetter D b o (ms_p v 18 (nI e)) (nI e) = some false := by
        rw [il]
        cases ee : ib[e]? with
        | none => rfl
        | some c => exact congrArg some (rl_out (P := isL) (he ▸ ee))
      simp only [f_X9_advanceToken_b85, e18, il, Option.bind_some, if_neg Bool.false_ne_true, f_X9_advanceToken_b109, e19, pk_sub r3, f_X9_advanceToken_b129, ms_pf]
      by_cases c2 : e - st ≤ 8
      · rw [if_pos c2] at fin
        rw [if_pos (show nI (e - st) ≤ (8 : Int32) from (nI_leI (a := e - st) (b := 8) (by omega) (by decide)).2 c2)]
        have := fin 0 e 0 0 _ rfl (by simp)
        rw [p20] at this
        exact ⟨_, rfl, this⟩
      · rw [if_neg c2] at fin
        rw [if_neg (show ¬ nI (e - st) ≤ (8 : Int32) from fun h => c2 ((nI_leI (a := e - st) (b := 8) (by omega) (by decide)).1 h))]
        have := fin 0 e 4 0 [] rfl (by simp)
        rw [p20] at this
        exact ⟨_, rfl, this⟩
    · rw [if_neg c1]
      rw [if_neg c1] at fin
      have ra := atI_rng hb st 48 57 (by decide) (by decide)
      rw [ec] at ra
      rw [m_inRange, Option.bind_some, show (48 : Int32) = nI 48 from rfl, show (57 : Int32) = nI 57 from rfl, ra]
      by_cases c3 : isD c = true
      · rw [if_pos (show (decide (48 ≤ c) && decide (c ≤ 57)) = true from c3)]
        rw [if_pos c3] at fin
        obtain ⟨f, s2, hs2, e2⟩ := wl_loop (F := fun f s => f_X9_advanceToken_b146 D b o f s) (I := fun i z => st ≤ i ∧ z = ms_p (ms_p v 20 (nI (numV ((cut ib st i).take 3)))) 18 (nI i)) (ib := ib) (P := isD) (p := st) hl r2 (fun f i z c hi hi2 hc hP hz => by
          obtain ⟨hz0, hz⟩ := hz
          subst hz
          refine ⟨_, ⟨by omega, rfl⟩, ?_⟩
          have e18 : (ms_p (ms_p v 20 (nI (numV ((cut ib st i).take 3)))) 18 (nI i)).1 18 = nI i := rfl
          have e19 : (ms_p (ms_p v 20 (nI (numV ((cut ib st i).take 3)))) 18 (nI i)).1 19 = nI st := v19
          have e20 : (ms_p (ms_p v 20 (nI (numV ((cut ib st i).take 3)))) 18 (nI i)).1 20 = nI (numV ((cut ib st i).take 3)) := rfl
          have eb : f_X9_byteAt D b o (ms_p (ms_p v 20 (nI (numV ((cut ib st i).take 3)))) 18 (nI i)) (nI i) = some (nI c) := by
            rw [m_byte (s := ms_p (ms_p v 20 (nI (numV ((cut ib st i).take 3)))) 18 (nI i)) Iv hb (by omega)]
            unfold atI
            rw [hc]
          have hD := hP
          unfold isD at hD
          rw [Bool.and_eq_true, decide_eq_true_eq, decide_eq_true_eq] at hD
          have rg : f_X9_inRange D b o (ms_p (ms_p v 20 (nI (numV ((cut ib st i).take 3)))) 18 (nI i)) (nI c) 48 57 = some true := by
            rw [m_inRange]
            refine congrArg some ?_
            rw [Bool.and_eq_true, decide_eq_true_eq, decide_eq_true_eq]
            exact ⟨(nI_leI (a := 48) (b := c) (by decide) (by omega)).2 hD.1, (nI_leI (a := c) (b := 57) (by omega) (by decide)).2 hD.2⟩
          have pp : ∀ x y : Int32, ms_p (ms_p (ms_p (ms_p v 20 x) 18 (nI i)) 20 y) 18 (nI (i + 1)) = ms_p (ms_p v 20 y) 18 (nI (i + 1)) := fun x y => by
            refine Prod.ext (funext fun j => ?_) rfl
            show (if j = 18 then nI (i + 1) else if j = 20 then y else if j = 18 then nI i else if j = 20 then x else v.1 j) = if j = 18 then nI (i + 1) else if j = 20 then y else v.1 j
            by_cases a : j = 18
            · rw [if_pos a, if_pos a]
            · rw [if_neg a, if_neg a, if_neg a]
              by_cases b : j = 20
              · rw [if_pos b, if_pos b]
              · rw [if_neg b, if_neg b, if_neg b]
          have nx : ∀ y, f_X9_advanceToken_b204 D b o (f_X9_advanceToken_b146 D b o f) (ms_p (ms_p v 20 (nI (numV ((cut ib st i).take 3)))) 18 (nI i)) y = f_X9_advanceToken_b146 D b o f (ms_p (ms_p v 20 y) 18 (nI (i + 1))) := fun y => by
            unfold f_X9_advanceToken_b204 ms_pf
            rw [Option.bind_some, Option.bind_some]
            have : (ms_p (ms_p (ms_p v 20 (nI (numV ((cut ib st i).take 3)))) 18 (nI i)) 20 y).1 18 = nI i := rfl
            rw [this, nI_1, pp]
          show f_X9_advanceToken_b146 D b o (f + 1) _ = _
          simp only [f_X9_advanceToken_b146, e18, eb, Option.bind_some, rg, if_true, e19, pk_sub hz0, e20, nx]
          have cl : (cut ib st i).length = i - st := cut_len (by omega)
          by_cases c4 : 3 ≤ i - st
          · rw [if_pos (show (3 : Int32) ≤ nI (i - st) from (nI_leI (a := 3) (b := i - st) (by decide) (by omega)).2 c4)]
            rw [cut_s hc hz0, List.take_append_of_le_length (by omega)]
          · rw [if_neg (show ¬ (3 : Int32) ≤ nI (i - st) from fun h => c4 ((nI_leI (a := 3) (b := i - st) (by decide) (by omega)).1 h))]
            rw [cut_s hc hz0, List.take_of_length_le (l := cut ib st i) (by omega), List.take_of_length_le (by rw [List.length_append, List.length_singleton]; omega), numV_app]
            have n1 : (10 : Int32) * nI (numV (cut ib st i)) + nI c - 48 = nI (10 * numV (cut ib st i) + (c - 48)) := by
              rw [show (10 : Int32) = nI 10 from rfl, pk_mul, nI_add, show (48 : Int32) = nI 48 from rfl, pk_sub (by omega)]
              congr 1
              omega
            rw [n1]) v ⟨Nat.le_refl _, by rw [cut_0]; show v = ms_p (ms_p v 20 0) 18 (nI st); rw [p20, p18]⟩
        rw [e2]
        obtain ⟨_, hs2⟩ := hs2
        subst hs2
        have r3 := rl_ge (P := isD) (ib := ib) (p := st)
        have r4 := rl_le (P := isD) r2
        obtain ⟨e, he⟩ : ∃ e, e = rl isD ib st := ⟨_, rfl⟩
        rw [← he] at fin r3 r4
        rw [← he]
        obtain ⟨y, hy⟩ : ∃ y, y = nI (numV ((cut ib st e).take 3)) := ⟨_, rfl⟩
        rw [← hy]
        have e18 : (ms_p (ms_p v 20 y) 18 (nI e)).1 18 = nI e := rfl
        have e19 : (ms_p (ms_p v 20 y) 18 (nI e)).1 19 = nI st := v19
        have eb : f_X9_byteAt D b o (ms_p (ms_p v 20 y) 18 (nI e)) (nI e) = some (atI ib e) := m_byte (s := ms_p (ms_p v 20 y) 18 (nI e)) Iv hb (by omega)
        have rg : f_X9_inRange D b o (ms_p (ms_p v 20 y) 18 (nI e)) (atI ib e) 48 57 = some false := by
          rw [m_inRange]
          refine congrArg some ?_
          rw [show (48 : Int32) = nI 48 from rfl, show (57 : Int32) = nI 57 from rfl, atI_rng hb e 48 57 (by decide) (by decide)]
          cases ee : ib[e]? with
          | none => rfl
          | some c => exact rl_out (P := isD) (he ▸ ee)
        have cl : (cut ib st e).length = e - st := cut_len r4
        rw [show (nI 48) = (48 : Int32) from rfl, show (nI 57) = (57 : Int32) from rfl] at *
        simp only [f_X9_advanceToken_b146, e18, eb, rg, Option.bind_some, if_neg Bool.false_ne_true, f_X9_advanceToken_b220, e19, pk_sub r3, f_X9_advanceToken_b239, ms_pf]
        by_cases c2 : e - st ≤ 3
        · rw [if_pos c2] at fin
          rw [if_pos (show nI (e - st) ≤ (3 : Int32) from (nI_leI (a := e - st) (b := 3) (by omega) (by decide)).2 c2)]
          exact ⟨_, rfl, fin y e 1 _ [] rfl (fun _ => by rw [hy, List.take_of_length_le (by omega)])⟩
        · rw [if_neg c2] at fin
          rw [if_neg (show ¬ nI (e - st) ≤ (3 : Int32) from fun h => c2 ((nI_leI (a := e - st) (b := 3) (by omega) (by decide)).1 h))]
          exact ⟨_, rfl, fin y e 4 0 [] rfl (by simp)⟩
      · rw [if_neg (show ¬ (decide (48 ≤ c) && decide (c ≤ 57)) = true from c3)]
        rw [if_neg c3] at fin
        have e59 : (atI ib st = 59) ↔ c = 59 := by
          have := atI_eq hb st 59 (by decide)
          rw [ec, Option.some.injEq] at this
          exact this
        have last : ∀ (k kd : Nat), k = mkd kd → adv ib p = (st, st + 1, 0, kd, []) → kd ≠ 1 → ∃ t, f_X9_advanceToken_b257 D b o v (nI k) = some t ∧ MT t ib p ∧ mq7 s t ∧ t.1 17 = s.1 17 ∧ t.2 7 = s.2 7 ∧ t.1 22 = s.1 22 := fun k kd hk ha h1 => by
          subst hk
          have h18' : (ms_p v 21 (nI (mkd kd))).1 18 = nI st := v18
          refine ⟨ms_p (ms_p v 21 (nI (mkd kd))) 18 (nI (st + 1)), ?_, ⟨Iv, v16, by rw [ha]; rfl, by rw [ha]; exact v19, by rw [ha]; rfl, by rw [ha]; exact fun h => absurd h h1⟩, qv.tr ((mq7.p (by decide)).tr (mq7.p (by decide))), v17, v7, v22⟩
          unfold f_X9_advanceToken_b257 ms_pf
          rw [Option.bind_some, Option.bind_some, h18', nI_1]
        by_cases c5 : c = 59
        · rw [if_pos (e59.2 c5)]
          refine last 3 2 rfl ?_ (by decide)
          unfold adv
          rw [← hst, ec]
          simp only
          rw [if_neg c1, if_neg c3, if_pos c5]
        · rw [if_neg (fun h => c5 (e59.1 h))]
          refine last 4 4 rfl ?_ (by decide)
          unfold adv
          rw [← hst, ec]
          simp only
          rw [if_neg c1, if_neg c3, if_neg c5]
