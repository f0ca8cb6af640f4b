/-! the model's searches -/
set_option maxRecDepth 100000
/-- all but what is scratch -/
def ms_q (s0 s : MS) : Prop := (∀ j, j ≠ 4 → j ≠ 5 → j ≠ 10 → j ≠ 11 → s.2 j = s0.2 j) ∧ ∀ j, j ≠ 7 → j ≠ 8 → j ≠ 11 → s.1 j = s0.1 j
theorem ms_q.rf {s : MS} : ms_q s s := ⟨fun _ _ _ _ _ => rfl, fun _ _ _ _ => rfl⟩
theorem ms_q.tr {a b c : MS} (h1 : ms_q a b) (h2 : ms_q b c) : ms_q a c := ⟨fun j a1 a2 a3 a4 => (h2.1 j a1 a2 a3 a4).trans (h1.1 j a1 a2 a3 a4), fun j a1 a2 a3 => (h2.2 j a1 a2 a3).trans (h1.2 j a1 a2 a3)⟩
theorem ms_q.w {a b : MS} (h : ms_q a b) : b.2 0 = a.2 0 := h.1 0 (by decide) (by decide) (by decide) (by decide)
theorem ms_q.p7 {a b : MS} {x : Int32} (h : ms_q a b) : ms_q a (ms_p b 7 x) := ⟨h.1, fun j a1 a2 a3 => by rw [ms_p1n a1]; exact h.2 j a1 a2 a3⟩
theorem ms_q.p8 {a b : MS} {x : Int32} (h : ms_q a b) : ms_q a (ms_p b 8 x) := ⟨h.1, fun j a1 a2 a3 => by rw [ms_p1n a2]; exact h.2 j a1 a2 a3⟩
theorem ms_q.p11 {a b : MS} {x : Int32} (h : ms_q a b) : ms_q a (ms_p b 11 x) := ⟨h.1, fun j a1 a2 a3 => by rw [ms_p1n a3]; exact h.2 j a1 a2 a3⟩
theorem ms_q.u {a b : MS} {j i : Nat} {x : Int32} (h : ms_q a b) (hj : j = 4 ∨ j = 5 ∨ j = 10 ∨ j = 11) : ms_q a (ms_u b j i x) := ⟨fun k a1 a2 a3 a4 => by
  show (if k = j then _ else b.2 k) = _
  rw [if_neg (by omega)]
  exact h.1 k a1 a2 a3 a4, h.2⟩
theorem ms_u_at {s : MS} {j i : Nat} {x : Int32} : (ms_u s j i x).2 j = upd (s.2 j) i x := if_pos rfl
theorem ms_u_ne {s : MS} {j k i : Nat} {x : Int32} (h : k ≠ j) : (ms_u s j i x).2 k = s.2 k := if_neg h
theorem ms_q.vd {a b : MS} {ts : List TR} {q : CF} {e : Nat} (h : ms_q a b) : ms_q a (vdS ts q e b) := h.p8.p7
/-- what a verdict needs -/
def mV (s : MS) (F : DF) (R : RN) : Prop := m_trs (s.2 0) F.ts ∧ F.ts.length ≤ 24 ∧ tr_oks F.ts ∧ m_ivs (s.2 0) R.iv ∧ R.iv.length ≤ 12 ∧ (∀ i, i ∈ R.iv → iv_ok i) ∧ s.2 0 1 = nI F.en.length ∧ F.en.length ≤ 8
theorem mV.q {a b : MS} {F : DF} {R : RN} (V : mV a F R) (h : ms_q a b) : mV b F R := by
  unfold mV
  rw [h.w]
  exact V
theorem mV.vd {D : gx_D} {b : HX} {o e : Nat} {s : MS} {F : DF} {R : RN} {q : CF} (V : mV s F R) (hq : cf_ok q) (he : e < 2 ^ 31) : f_X9_verdict D b o s (nI (cf_m q)) (nI e) = some (nI (vdN F.ts R.iv q e), vdS F.ts q e s) := m_verdict V.1 V.2.1 V.2.2.1 V.2.2.2.1 V.2.2.2.2.1 V.2.2.2.2.2.1 hq he
theorem vdN_lt {ts : List TR} {is : List IV} {q : CF} {e : Nat} : vdN ts is q e < 5 := by
  unfold vdN
  split
  · split <;> decide
  · split
    · decide
    · split
      · decide
      · split <;> decide
theorem vdN_0 {F : DF} {R : RN} {q : CF} {e : Nat} : (nI (vdN F.ts R.iv q e) = 0) ↔ (nxN F.ts R.iv q e).isSome = true := by
  rw [nxN_of, decide_eq_true_eq]
  exact nI_eq (b := 0) (by have := vdN_lt (ts := F.ts) (is := R.iv) (q := q) (e := e); omega) (by decide)
theorem toN_of {F : DF} {R : RN} {q p : CF} {e : Nat} (h : nxN F.ts R.iv q e = some p) : toN F.ts q e = p ∧ ∃ k, chN F.ts q e = some k := by
  unfold nxN at h
  unfold toN
  revert h
  cases chN F.ts q e with
  | none => intro h; cases h
  | some k =>
    simp only
    cases F.ts[k]? with
    | none => intro h; cases h
    | some t =>
      simp only
      cases trNext t q with
      | none => intro h; cases h
      | some p' =>
        simp only
        cases brk R.iv p' with
        | none => intro h; cases h; exact ⟨rfl, k, rfl⟩
        | some j => intro h; cases h
def mS (s0 s : MS) (L : List EN) : Prop := ms_q s0 s ∧ s.1 11 = nI L.length ∧ (∀ (k : Nat) (y : EN), L[k]? = some y → s.2 5 k = nI (cf_m y.1)) ∧ (∀ y, y ∈ L → s.2 4 (cf_m y.1) = nI y.2.1) ∧ (∀ q, cf_ok q → q ∉ L.map (fun y : EN => y.1) → s.2 4 (cf_m q) = -1) ∧ (L.map (fun y : EN => y.1)).Nodup ∧ ∀ y, y ∈ L → cf_ok y.1 ∧ y.2.1 < L.length
theorem mS.vd {s0 s : MS} {L : List EN} {ts : List TR} {q : CF} {e : Nat} (h : mS s0 s L) : mS s0 (vdS ts q e s) L := ⟨h.1.vd, h.2⟩
theorem mS.p7 {s0 s : MS} {L : List EN} {x y : Int32} (h : mS s0 s L) : mS s0 (ms_p (ms_p s 8 x) 7 y) L := ⟨h.1.p8.p7, h.2⟩
theorem mS.len {s0 s : MS} {L : List EN} (h : mS s0 s L) : L.length ≤ 10000 := by
  have := cf_len h.2.2.2.2.2.1 (fun q hq => by
    obtain ⟨y, hy, rfl⟩ := List.mem_map.1 hq
    exact (h.2.2.2.2.2.2 y hy).1)
  rwa [List.length_map] at this
theorem m_reaches {D : gx_D} {b : HX} {o : Nat} {s0 s : MS} {L : List EN} {y : EN} (H : mS s0 s L) (hy : cf_ok y.1) (hd : y.2.1 ≤ L.length) : ∃ s', f_X9_reaches D b o s (nI (cf_m y.1)) (nI y.2.1) = some s' ∧ mS s0 s' (if y.1 ∈ L.map (fun y : EN => y.1) then L else L ++ [y]) := by
  have hl := H.len
  obtain ⟨h1, h2, h3, h4, h5, h6, h7⟩ := id H
  have cl := cf_m_lt hy
  unfold f_X9_reaches
  rw [ms_ai_n (by decide) rfl cl, Option.bind_some]
  by_cases c : y.1 ∈ L.map (fun y : EN => y.1)
  · obtain ⟨z, hz, ez⟩ := List.mem_map.1 c
    refine ⟨s, ?_, by rw [if_pos c]; exact H⟩
    have lz := (h7 z hz).2
    rw [if_neg]
    rw [← ez, h4 z hz]
    exact oI_ne (by omega)
  · have lt : L.length < 10000 := en_lt h6 (fun z hz => (h7 z hz).1) hy c
    rw [if_pos (h5 _ hy c), ms_si_n (by decide) rfl cl, Option.bind_some, show (ms_u s 4 (cf_m y.1) (nI y.2.1)).1 11 = nI L.length from h2, ms_si_n (by decide) rfl lt, Option.bind_some]
    unfold ms_pf
    rw [Option.bind_some]
    refine ⟨_, rfl, ?_⟩
    rw [if_neg c]
    refine ⟨((h1.u (Or.inl rfl)).u (Or.inr (Or.inl rfl))).p11, ?_, fun k z hk => ?_, fun z hz => ?_, fun q hq hn => ?_, ?_, fun z hz => ?_⟩
    · rw [ms_p1, List.length_append, List.length_singleton, ← nI_1]
      exact congrArg (· + 1) h2
    · rw [ms_p2, ms_u_at, ms_u_ne (by decide)]
      by_cases ck : k < L.length
      · rw [List.getElem?_append_left ck] at hk
        rw [pk_un (by omega)]
        exact h3 k z hk
      · rw [List.getElem?_append_right (by omega)] at hk
        obtain ⟨c2, c3⟩ := List.getElem?_eq_some_iff.1 hk
        simp only [List.length_singleton] at c2
        have c4 : k = L.length := by omega
        subst c4
        simp only [Nat.sub_self, List.getElem_singleton] at c3
        rw [pk_us, c3]
    · rw [ms_p2, ms_u_ne (by decide), ms_u_at]
      rcases List.mem_append.1 hz with c2 | c2
      · rw [pk_un (fun e => c (by
          rw [← cf_m_inj (h7 z c2).1 hy e]
          exact List.mem_map.2 ⟨z, c2, rfl⟩))]
        exact h4 z c2
      · rw [List.mem_singleton.1 c2, pk_us]
    · rw [ms_p2, ms_u_ne (by decide), ms_u_at]
      rw [List.map_append] at hn
      have n1 : q ∉ L.map (fun y : EN => y.1) := fun h => hn (List.mem_append.2 (Or.inl h))
      have n2 : q ≠ y.1 := fun e => hn (List.mem_append.2 (Or.inr (by rw [e]; exact List.mem_singleton.2 rfl)))
      rw [pk_un (fun e => n2 (cf_m_inj hq hy e))]
      exact h5 q hq n1
    · rw [List.map_append]
      exact List.nodup_append.2 ⟨h6, List.pairwise_singleton _ _, fun p hp r hr e => by
        rw [List.mem_singleton.1 hr] at e
        subst e
        exact c hp⟩
    · simp only [List.length_append, List.length_singleton]
      rcases List.mem_append.1 hz with c2 | c2
      · have := h7 z c2
        exact ⟨this.1, by omega⟩
      · rw [List.mem_singleton.1 c2]
        exact ⟨hy, by omega⟩
theorem m_expand {D : gx_D} {b : HX} {o i : Nat} {s0 s : MS} {L : List EN} {F : DF} {R : RN} {y : EN} (k35 : MS → Int32 → Option MS) (V : mV s0 F R) (H : mS s0 s L) (hy : L[i]? = some y) : ∃ s', f_X9_searches_b53 D b o k35 gx_fuel s (nI i) (nI (cf_m y.1)) 0 = k35 s' (nI (i + 1)) ∧ mS s0 s' (bxs (nxN F.ts R.iv) L i F.en.length) := by
  have hE := V.2.2.2.2.2.2.2
  obtain ⟨z, h1, h2⟩ := gx_lq (F := fun f (z : MS × Int32) => f_X9_searches_b53 D b o k35 f z.1 (nI i) (nI (cf_m y.1)) z.2) (I := fun e z => z.2 = nI e ∧ mS s0 z.1 (bxs (nxN F.ts R.iv) L i e)) F.en.length (by
    intro f e z he hI
    obtain ⟨z1, z2⟩ := z
    obtain ⟨i1, i2⟩ := hI
    simp only at i1 i2
    subst i1
    have hl := i2.len
    obtain ⟨h1, h2, h3, h4, h5, h6, h7⟩ := id i2
    have hy' := pre_get (bxs_pre (nx := nxN F.ts R.iv) (b := i) e) hy
    have hym := List.mem_of_getElem? hy'
    have yo := (h7 y hym).1
    have V1 := V.q h1
    have hv := V1.vd (D := D) (b := b) (o := o) (e := e) yo (by omega)
    have st : bxs (nxN F.ts R.iv) L i (e + 1) = bxN (nxN F.ts R.iv) (bxs (nxN F.ts R.iv) L i e) i e := rfl
    simp only [f_X9_searches_b53, f_X9_searches_b90, ms_w (s := z1) (x := 1) (k := 1) rfl (by decide), V1.2.2.2.2.2.2.1, Option.bind_some, if_neg (nI_ge he (show F.en.length < 2 ^ 31 by omega)), gx_b2, hv, gx_c1]
    unfold bxN at st
    rw [hy'] at st
    simp only at st
    cases e1 : nxN F.ts R.iv y.1 e with
    | none =>
      rw [e1] at st
      rw [st]
      refine ⟨(vdS F.ts y.1 e z1, nI (e + 1)), ⟨rfl, i2.vd⟩, ?_⟩
      rw [if_neg (fun h => by have := vdN_0.1 h; rw [e1] at this; cases this)]
    | some p =>
      rw [e1] at st
      obtain ⟨t1, t2⟩ := toN_of e1
      obtain ⟨s', m1, m2⟩ := m_reaches (D := D) (b := b) (o := o) (y := (p, y.2.1 + 1, if y.2.1 = 0 then e else y.2.2.1, 10 * i + e)) (i2.vd (ts := F.ts) (q := y.1) (e := e)) (nxN_ok V.2.2.1 yo e1) (by have := (h7 y hym).2; show y.2.1 + 1 ≤ _; omega)
      refine ⟨(s', nI (e + 1)), ⟨rfl, by rw [st]; exact m2⟩, ?_⟩
      have h8 : (vdS F.ts y.1 e z1).1 8 = nI (cf_m p) := by
        unfold vdS
        rw [ms_p1n (by decide), ms_p1, t1]
      have h4' : (vdS F.ts y.1 e z1).2 4 (cf_m y.1) = nI y.2.1 := h4 y hym
      rw [if_pos (vdN_0.2 (by rw [e1]; rfl)), ms_ai_n (by decide) rfl (cf_m_lt yo), h4', Option.bind_some, h8, nI_1]
      rw [show f_X9_reaches D b o (vdS F.ts y.1 e z1) (nI (cf_m p)) (nI (y.2.1 + 1)) = some s' from m1, Option.bind_some]) F.en.length 0 gx_fuel (s, 0) (by omega) (by rw [pl_fl]; omega) ⟨rfl, H⟩
  obtain ⟨z1, z2⟩ := z
  obtain ⟨i1, i2⟩ := h1
  simp only at i1 i2
  subst i1
  refine ⟨z1, ?_, i2⟩
  obtain ⟨g, hg⟩ : ∃ g, gx_fuel - F.en.length = g + 1 := ⟨gx_fuel - F.en.length - 1, by rw [pl_fl]; omega⟩
  rw [hg] at h2
  have V1 := V.q i2.1
  rw [show f_X9_searches_b53 D b o k35 gx_fuel s (nI i) (nI (cf_m y.1)) 0 = _ from h2]
  simp only [f_X9_searches_b53, ms_w (s := z1) (x := 1) (k := 1) rfl (by decide), V1.2.2.2.2.2.2.1, Option.bind_some, if_pos (nI_le (Nat.le_refl F.en.length) (show F.en.length < 2 ^ 31 by omega)), f_X9_searches_b96, gx_c1]
theorem m_search0 {D : gx_D} {b : HX} {o : Nat} {s : MS} {x : Int32} : ∃ z, f_X9_searches D b o s x = f_X9_searches_b22 D b o z x ∧ ms_q s z ∧ ∀ k, k < 10000 → z.2 4 k = -1 := by
  unfold f_X9_searches
  obtain ⟨z, h1, h2⟩ := gx_lq (F := fun f (z : MS × Int32) => f_X9_searches_b2 D b o f z.1 x z.2) (I := fun i z => z.2 = nI i ∧ ms_q s z.1 ∧ ∀ k, k < i → z.1.2 4 k = -1) 10000 (by
    intro f i z hi hI
    obtain ⟨z1, z2⟩ := z
    obtain ⟨i1, i2, i3⟩ := hI
    simp only at i1 i2 i3
    subst i1
    refine ⟨(ms_u z1 4 i (-1), nI (i + 1)), ⟨rfl, i2.u (Or.inl rfl), fun k hk => ?_⟩, ?_⟩
    · simp only
      rw [ms_u_at]
      by_cases c : k = i
      · rw [c, pk_us]
      · rw [pk_un c]; exact i3 k (by omega)
    · simp only [f_X9_searches_b2, if_neg (show ¬ (10000 : Int32) ≤ nI i from nI_ge hi (by decide)), ms_si_n (s := z1) (j := 4) (k := i) (x := -1) (by decide) rfl hi, Option.bind_some, gx_c1]) 10000 0 gx_fuel (s, 0) (by omega) (by rw [pl_fl]; omega) ⟨rfl, ms_q.rf, fun k h => by omega⟩
  obtain ⟨z1, z2⟩ := z
  obtain ⟨i1, i2, i3⟩ := h1
  simp only at i1 i2 i3
  subst i1
  obtain ⟨g, hg⟩ : ∃ g, gx_fuel - 10000 = g + 1 := ⟨189999, by rw [pl_fl]⟩
  rw [hg] at h2
  refine ⟨z1, ?_, i2, i3⟩
  have h3 : f_X9_searches_b2 D b o gx_fuel s x 0 = f_X9_searches_b2 D b o (g + 1) z1 x (nI 10000) := h2
  rw [h3]
  simp only [f_X9_searches_b2, if_pos (show (10000 : Int32) ≤ nI 10000 by decide)]
theorem b35_s {D : gx_D} {b : HX} {o n : Nat} {h : MS} {v2 : Int32} : f_X9_searches_b35 D b o (n + 1) h v2 = if (h.1 11) ≤ v2 then some h else (ms_ai h 5 v2).bind fun x6 => f_X9_searches_b53 D b o (f_X9_searches_b35 D b o n) gx_fuel h v2 x6 ((0 : Int32)) := by rw [f_X9_searches_b35]
theorem m_search1 {D : gx_D} {b : HX} {o : Nat} {s s1 : MS} {F : DF} {R : RN} {q0 : CF} (V : mV s F R) (hq0 : cf_ok q0) (m2 : mS s s1 (bfs (nxN F.ts R.iv) F.en.length q0 0)) : ∃ s', f_X9_searches_b35 D b o gx_fuel s1 0 = some s' ∧ mS s s' (bfA (nxN F.ts R.iv) F.en.length q0) := by
  have hE := V.2.2.2.2.2.2.2
  have hnx : nx_ok (nxN F.ts R.iv) := fun _ _ _ hq e => nxN_ok V.2.2.1 hq e
  obtain ⟨r, e1, e2⟩ := gx_lp (F := fun f (z : MS × Int32) => f_X9_searches_b35 D b o f z.1 z.2) (I := fun i z => z.2 = nI i ∧ mS s z.1 (bfs (nxN F.ts R.iv) F.en.length q0 i) ∧ i ≤ (bfs (nxN F.ts R.iv) F.en.length q0 i).length) (Q := fun r => mS s r (bfA (nxN F.ts R.iv) F.en.length q0)) 10000 (by
    intro f i z hi hI
    obtain ⟨z1, z2⟩ := z
    obtain ⟨i1, i2, i3⟩ := hI
    simp only at i1 i2 i3
    subst i1
    have hl := i2.len
    by_cases c : (bfs (nxN F.ts R.iv) F.en.length q0 i).length ≤ i
    · refine Or.inr ⟨z1, ?_, by rw [bfA_end hE hnx hq0 c]; exact i2⟩
      simp only [f_X9_searches_b35, i2.2.1, if_pos (nI_le c (show i < 2 ^ 31 by omega))]
    · have hlt : i < (bfs (nxN F.ts R.iv) F.en.length q0 i).length := by omega
      have hy := List.getElem?_eq_getElem hlt
      obtain ⟨s', n1, n2⟩ := m_expand (D := D) (b := b) (o := o) (f_X9_searches_b35 D b o f) V i2 hy
      refine Or.inl ⟨(s', nI (i + 1)), ⟨rfl, n2, ?_⟩, ?_⟩
      · have := (bfs_pre (nx := nxN F.ts R.iv) (nE := F.en.length) (q0 := q0) i 1).length_le
        omega
      · show f_X9_searches_b35 D b o (f + 1) z1 (nI i) = f_X9_searches_b35 D b o f s' (nI (i + 1))
        rw [b35_s, i2.2.1, if_neg (nI_ge hlt (show (bfs (nxN F.ts R.iv) F.en.length q0 i).length < 2 ^ 31 by omega)), ms_ai_n (s := z1) (j := 5) (k := i) (by decide) rfl hi, Option.bind_some, i2.2.2.1 i _ hy, n1]) (by
    intro f z hI
    obtain ⟨z1, z2⟩ := z
    obtain ⟨i1, i2, i3⟩ := hI
    simp only at i1 i2 i3
    subst i1
    have hl := i2.len
    refine ⟨z1, ?_, i2⟩
    simp only [f_X9_searches_b35, i2.2.1, if_pos (nI_le hl (show 10000 < 2 ^ 31 by decide))]) 10000 0 gx_fuel (s1, 0) (by omega) (by rw [pl_fl]; omega) ⟨rfl, m2, Nat.zero_le _⟩
  exact ⟨r, e1, e2⟩
theorem m_searches {D : gx_D} {b : HX} {o : Nat} {s : MS} {F : DF} {R : RN} {q0 : CF} (V : mV s F R) (hq0 : cf_ok q0) : ∃ s', f_X9_searches D b o s (nI (cf_m q0)) = some s' ∧ mS s s' (bfA (nxN F.ts R.iv) F.en.length q0) := by
  obtain ⟨z1, e0, i2, i3⟩ := m_search0 (D := D) (b := b) (o := o) (s := s) (x := nI (cf_m q0))
  have M0 : mS s (ms_p z1 11 0) [] := ⟨i2.p11, rfl, fun k y hk => by simp at hk, fun y hy => (by cases hy), fun q hq _ => i3 _ (cf_m_lt hq), List.Pairwise.nil, fun y hy => (by cases hy)⟩
  obtain ⟨s1, m1, m2⟩ := m_reaches (D := D) (b := b) (o := o) (y := (q0, 0, 0, 0)) M0 hq0 (Nat.le_refl _)
  rw [if_neg (by simp)] at m2
  obtain ⟨s', n1, n2⟩ := m_search1 (D := D) (b := b) (o := o) V hq0 m2
  refine ⟨s', ?_, n2⟩
  rw [e0]
  unfold f_X9_searches_b22 ms_pf
  rw [Option.bind_some, show f_X9_reaches D b o (ms_p z1 11 0) (nI (cf_m q0)) 0 = some s1 from m1, Option.bind_some, n1]
theorem m_q7 {s : MS} : s = ms_p (ms_p s 8 (s.1 8)) 7 (s.1 7) := by
  refine Prod.ext ?_ rfl
  funext k
  unfold ms_p
  by_cases c : k = 7
  · simp [c]
  · by_cases c2 : k = 8 <;> simp [c, c2]
theorem m_stuck' {D : gx_D} {b : HX} {o : Nat} {s : MS} {F : DF} {R : RN} {q : CF} (V : mV s F R) (hq : cf_ok q) : ∃ x y, f_X9_isStuck D b o s (nI (cf_m q)) = some (stuckN F R q, ms_p (ms_p s 8 x) 7 y) := m_stuck V.2.2.2.2.2.2.1 V.2.2.2.2.2.2.2 V.1 V.2.1 V.2.2.1 V.2.2.2.1 V.2.2.2.2.1 V.2.2.2.2.2.1 hq
theorem bfG_dep {L : List EN} {P : CF → Bool} : bfD L P = (bfG L P).map (fun y : EN => y.2.1) := by
  unfold bfD bfG
  cases bfF L P with
  | none => rfl
  | some k =>
    simp only
    cases L[k]? <;> rfl
theorem bfG_at {L : List EN} {P : CF → Bool} {i : Nat} (hi : i < L.length) (hp : P L[i].1 = true) (h : ∀ j (hj : j < L.length), j < i → P L[j].1 = false) : bfG L P = some L[i] := by
  have : bfF L P = some i := List.findIdx?_eq_some_iff_getElem.2 ⟨hi, hp, fun j hj => by rw [h j (by omega) hj]; exact Bool.false_ne_true⟩
  unfold bfG
  rw [this]
  exact List.getElem?_eq_getElem hi
theorem bfG_no {L : List EN} {P : CF → Bool} (h : ∀ j (hj : j < L.length), P L[j].1 = false) : bfG L P = none := by
  have : bfF L P = none := List.findIdx?_eq_none_iff.2 fun x hx => by
    obtain ⟨j, hj, rfl⟩ := List.getElem_of_mem hx
    exact h j hj
  unfold bfG
  rw [this]
theorem m_stepsBetween {D : gx_D} {b : HX} {o st : Nat} {s : MS} {F : DF} {R : RN} {q0 : CF} (V : mV s F R) (hq0 : cf_ok q0) (hst : st < 2 ^ 31) : ∃ s', f_X9_stepsBetween D b o s (nI (cf_m q0)) (nI st) = some (oI (bfD (bfA (nxN F.ts R.iv) F.en.length q0) fun q => decide (q.1 = st)), s') ∧ ms_q s s' := by
  obtain ⟨s1, e1, H⟩ := m_searches (D := D) (b := b) (o := o) V hq0
  have hl := H.len
  unfold f_X9_stepsBetween
  rw [e1, Option.bind_some]
  obtain ⟨r, e2, e3⟩ := gx_lp (F := fun f (x : Int32) => f_X9_stepsBetween_b7 D b o f s1 (nI st) x) (I := fun i x => x = nI i ∧ ∀ j (hj : j < (bfA (nxN F.ts R.iv) F.en.length q0).length), j < i → decide ((bfA (nxN F.ts R.iv) F.en.length q0)[j].1.1 = st) = false) (Q := fun r => r = (oI (bfD (bfA (nxN F.ts R.iv) F.en.length q0) fun q => decide (q.1 = st)), s1)) (bfA (nxN F.ts R.iv) F.en.length q0).length (by
    intro f i x hi hI
    obtain ⟨rfl, hI⟩ := hI
    have hy := List.getElem?_eq_getElem hi
    have hm := List.getElem_mem hi
    obtain ⟨yo, yd⟩ := H.2.2.2.2.2.2 _ hm
    have y1 := yo.1
    have ey : (nI (bfA (nxN F.ts R.iv) F.en.length q0)[i].1.1 = nI st) ↔ (bfA (nxN F.ts R.iv) F.en.length q0)[i].1.1 = st := nI_eq (by omega) hst
    by_cases c : (bfA (nxN F.ts R.iv) F.en.length q0)[i].1.1 = st
    · refine Or.inr ⟨_, ?_, rfl⟩
      rw [bfG_dep, bfG_at (P := fun q => decide (q.1 = st)) hi (decide_eq_true c) hI]
      simp only [f_X9_stepsBetween_b7, H.2.1, if_neg (nI_ge hi (show (bfA (nxN F.ts R.iv) F.en.length q0).length < 2 ^ 31 by omega)), ms_ai_n (s := s1) (j := 5) (k := i) (by decide) rfl (show i < 10000 by omega), H.2.2.1 i _ hy, Option.bind_some, m_state yo, if_pos (ey.2 c), f_X9_stepsBetween_b28, ms_ai_n (s := s1) (j := 4) (by decide) rfl (cf_m_lt yo), H.2.2.2.1 _ hm]
      rfl
    · refine Or.inl ⟨nI (i + 1), ⟨rfl, fun j hj hji => ?_⟩, ?_⟩
      · by_cases c2 : j = i
        · subst c2; exact decide_eq_false c
        · exact hI j hj (by omega)
      · simp only [f_X9_stepsBetween_b7, H.2.1, if_neg (nI_ge hi (show (bfA (nxN F.ts R.iv) F.en.length q0).length < 2 ^ 31 by omega)), ms_ai_n (s := s1) (j := 5) (k := i) (by decide) rfl (show i < 10000 by omega), H.2.2.1 i _ hy, Option.bind_some, m_state yo, if_neg (fun h => c (ey.1 h)), gx_c1]) (by
    intro f x hI
    obtain ⟨rfl, hI⟩ := hI
    refine ⟨_, ?_, rfl⟩
    rw [bfG_dep, bfG_no (P := fun q => decide (q.1 = st)) (fun j hj => hI j hj hj)]
    simp only [f_X9_stepsBetween_b7, H.2.1, if_pos (nI_le (Nat.le_refl (bfA (nxN F.ts R.iv) F.en.length q0).length) (show (bfA (nxN F.ts R.iv) F.en.length q0).length < 2 ^ 31 by omega))]
    rfl) (bfA (nxN F.ts R.iv) F.en.length q0).length 0 gx_fuel 0 (by omega) (by rw [pl_fl]; omega) ⟨rfl, fun j _ h => by omega⟩
  refine ⟨s1, ?_, H.1⟩
  rw [show f_X9_stepsBetween_b7 D b o gx_fuel s1 (nI st) 0 = some r from e2, e3]
theorem m_here {D : gx_D} {b : HX} {o : Nat} {s : MS} {R : RN} (H : m_rn (s.2 0) R) : f_X9_here D b o s = some (nI (cf_m R.cf)) := by
  obtain ⟨h1, h2, h3, h4⟩ := H
  have a0 := h3 0 (by decide)
  have a1 := h3 1 (by decide)
  have a2 := h3 2 (by decide)
  unfold f_X9_here
  rw [ms_w (x := 5) (k := 5) rfl (by decide), h2, Option.bind_some, ms_w (x := 6) (k := 6) rfl (by decide), show s.2 0 6 = _ from a0, Option.bind_some, ms_w (x := 7) (k := 7) rfl (by decide), show s.2 0 7 = _ from a1, Option.bind_some, ms_w (x := 8) (k := 8) rfl (by decide), show s.2 0 8 = _ from a2, Option.bind_some]
  rw [show (1000 : Int32) = nI 1000 by decide, show (100 : Int32) = nI 100 by decide, show (10 : Int32) = nI 10 by decide, pk_mul, pk_mul, pk_mul, nI_add, nI_add, nI_add]
  rfl
theorem ms_q.rn {a b : MS} {R : RN} (h : ms_q a b) (H : m_rn (a.2 0) R) : m_rn (b.2 0) R := by rw [h.w]; exact H
theorem m_first {D : gx_D} {b : HX} {o st : Nat} {s : MS} {F : DF} {R : RN} (V : mV s F R) (H : m_rn (s.2 0) R) (hq0 : cf_ok R.cf) (hst : st < 2 ^ 31) {y : EN} (hy : bfG (bfA (nxN F.ts R.iv) F.en.length R.cf) (fun q => decide (q.1 = st)) = some y) (hd : 0 < y.2.1) (hd2 : y.2.1 < 2 ^ 31) : ∃ s', f_X9_firstEventTo_b34 D b o gx_fuel s (nI st) (nI y.2.1) 0 = some (nI y.2.2.1, s') ∧ ms_q s s' := by
  have hE := V.2.2.2.2.2.2.2
  have hnx : nx_ok (nxN F.ts R.iv) := fun _ _ _ hq e => nxN_ok V.2.2.1 hq e
  have hk : ∃ k, bfF (bfA (nxN F.ts R.iv) F.en.length R.cf) (fun q => decide (q.1 = st)) = some k ∧ (bfA (nxN F.ts R.iv) F.en.length R.cf)[k]? = some y := by
    unfold bfG at hy
    cases e : bfF (bfA (nxN F.ts R.iv) F.en.length R.cf) (fun q => decide (q.1 = st)) with
    | none => rw [e] at hy; cases hy
    | some k => rw [e] at hy; exact ⟨k, rfl, hy⟩
  obtain ⟨k, k1, k2⟩ := hk
  obtain ⟨p1, ⟨q1, p2, p3⟩, p4⟩ := bf_first (bfA_bfE hE hnx hq0) hE k1 k2 hd (fun q => bfA (nxN F.ts R.iv) F.en.length q) (fun q1 e he => bfA_bfE hE hnx (hnx _ _ _ hq0 he))
  obtain ⟨r, e1, s', e2, e3⟩ := gx_lp (F := fun f (z : MS × Int32) => f_X9_firstEventTo_b34 D b o f z.1 (nI st) (nI y.2.1) z.2) (I := fun i z => z.2 = nI i ∧ ms_q s z.1 ∧ i ≤ y.2.2.1) (Q := fun r => ∃ s', r = (nI y.2.2.1, s') ∧ ms_q s s') F.en.length (by
    intro f e z he hI
    obtain ⟨z1, z2⟩ := z
    obtain ⟨i1, i2, i3⟩ := hI
    simp only at i1 i2
    subst i1
    have V1 := V.q i2
    have hv := V1.vd (D := D) (b := b) (o := o) (e := e) hq0 (by omega)
    simp only [f_X9_firstEventTo_b34, f_X9_firstEventTo_b76, ms_w (s := z1) (x := 1) (k := 1) rfl (by decide), V1.2.2.2.2.2.2.1, Option.bind_some, if_neg (nI_ge he (show F.en.length < 2 ^ 31 by omega)), gx_b2, m_here (i2.rn H), hv, gx_c1]
    cases e1 : nxN F.ts R.iv R.cf e with
    | none =>
      refine Or.inl ⟨(vdS F.ts R.cf e z1, nI (e + 1)), ⟨rfl, i2.vd, ?_⟩, ?_⟩
      · have : e ≠ y.2.2.1 := fun c => by rw [c, p2] at e1; cases e1
        omega
      · rw [if_neg (fun h => by have := vdN_0.1 h; rw [e1] at this; cases this)]
    | some p =>
      obtain ⟨t1, t2⟩ := toN_of e1
      have h8 : (vdS F.ts R.cf e z1).1 8 = nI (cf_m p) := by
        unfold vdS
        rw [ms_p1n (by decide), ms_p1, t1]
      have hp := hnx _ _ _ hq0 e1
      obtain ⟨s', b1, b2⟩ := m_stepsBetween (D := D) (b := b) (o := o) (V.q (i2.vd (ts := F.ts) (q := R.cf) (e := e))) hp hst
      have y31 : nI y.2.1 - 1 = nI (y.2.1 - 1) := pk_sub (b := 1) hd
      rw [if_pos (vdN_0.2 (by rw [e1]; rfl)), h8, b1, Option.bind_some]
      simp only [y31]
      have hiff : (oI (bfD (bfA (nxN F.ts R.iv) F.en.length p) fun q => decide (q.1 = st)) = nI (y.2.1 - 1)) ↔ (bfD (bfA (nxN F.ts R.iv) F.en.length p) fun q => decide (q.1 = st)) = some (y.2.1 - 1) := by
        cases e4 : bfD (bfA (nxN F.ts R.iv) F.en.length p) fun q => decide (q.1 = st) with
        | none => exact ⟨fun h => absurd h.symm (oI_ne (by omega)), fun h => by cases h⟩
        | some j =>
          have hj : j < 2 ^ 31 := by
            rw [bfG_dep] at e4
            obtain ⟨z, hz1, hz2⟩ := Option.map_eq_some_iff.1 e4
            have := bfs_len hE hnx hp 10000
            unfold bfG at hz1
            cases e5 : bfF (bfA (nxN F.ts R.iv) F.en.length p) (fun q => decide (q.1 = st)) with
            | none => rw [e5] at hz1; cases hz1
            | some k =>
              rw [e5] at hz1
              have w := (bfA_bfE hE hnx hp).mono
              have dl : ∀ (L : List EN) (q : CF), bfE (nxN F.ts R.iv) F.en.length q L → ∀ (k : Nat) (z : EN), L[k]? = some z → z.2.1 ≤ k := by
                intro L q HL k
                induction k using Nat.strongRecOn with
                | ind k ih =>
                  intro z hz
                  by_cases c0 : k = 0
                  · subst c0
                    rw [HL.1] at hz
                    cases hz
                    exact Nat.le_refl _
                  · obtain ⟨pp, a1, a2, a3, a4, a5, a6, a7⟩ := HL.2.1 k z hz (by omega)
                    have := ih _ a2 pp a1
                    omega
              have d1 := dl _ _ (bfA_bfE hE hnx hp) k z hz1
              have d2 := (List.getElem?_eq_some_iff.1 hz1).1
              unfold bfA at d2
              omega
          show nI j = nI (y.2.1 - 1) ↔ _
          rw [nI_eq hj (by omega)]
          exact ⟨fun h => by rw [h], fun h => Option.some.inj h⟩
      by_cases c : e = y.2.2.1
      · refine Or.inr ⟨(nI e, s'), ?_, s', by rw [c], i2.vd.tr b2⟩
        rw [if_pos (hiff.2 ?_)]
        rw [c, p2] at e1
        cases e1
        exact p3
      · refine Or.inl ⟨(s', nI (e + 1)), ⟨rfl, i2.vd.tr b2, by omega⟩, ?_⟩
        rw [if_neg (fun h => p4 e p (by omega) e1 (hiff.1 h))]) (by
    intro f z hI
    obtain ⟨i1, i2, i3⟩ := hI
    omega) F.en.length 0 gx_fuel (s, 0) (by omega) (by rw [pl_fl]; omega) ⟨rfl, ms_q.rf, Nat.zero_le _⟩
  exact ⟨s', by rw [show f_X9_firstEventTo_b34 D b o gx_fuel s (nI st) (nI y.2.1) 0 = some r from e1, e2], e3⟩
