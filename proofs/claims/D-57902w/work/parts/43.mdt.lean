/-! the model's searches, goes on -/
set_option maxRecDepth 100000
theorem ms_az_n {s : MS} {k : Nat} (hk : k < 10000) : ms_az s 10 (nI k) = some (s.2 10 k) := by
  unfold ms_az
  rw [nI_clamp (by omega), if_pos ⟨by decide, rfl, nI_pos' (by omega), hk⟩]
theorem ms_sz_n {s : MS} {k : Nat} {x : Int32} (hk : k < 10000) : ms_sz s 10 (nI k) x = some (ms_u s 10 k (x &&& 1)) := by
  unfold ms_sz
  rw [nI_clamp (by omega), if_pos ⟨by decide, rfl, nI_pos' (by omega), hk⟩]
def mD (s0 s : MS) (S T : List CF) : Prop := ms_q s0 s ∧ s.1 11 = s0.1 11 ∧ (∀ (k : Nat) (q : CF), S[k]? = some q → s.2 11 k = nI (cf_m q)) ∧ (∀ q, cf_ok q → (q ∈ T → s.2 10 (cf_m q) = 1) ∧ (q ∉ T → s.2 10 (cf_m q) = 0)) ∧ T.Nodup ∧ (∀ q, q ∈ T → cf_ok q) ∧ S.length ≤ T.length
theorem mD.vd {s0 s : MS} {S T : List CF} {ts : List TR} {q : CF} {e : Nat} (h : mD s0 s S T) : mD s0 (vdS ts q e s) S T := ⟨h.1.vd, h.2⟩
theorem b46_s {D : gx_D} {b : HX} {o n : Nat} {h : MS} {v1 v2 : Int32} : f_X9_deepCount_b46 D b o (n + 1) h v1 v2 = if v1 ≤ 0 then some (v2, h) else (ms_ai h 11 (v1 + (-1 : Int32))).bind fun x9 => f_X9_deepCount_b63 D b o (f_X9_deepCount_b46 D b o n) gx_fuel h ((v1 + (-1 : Int32))) v2 x9 ((0 : Int32)) := by rw [f_X9_deepCount_b46]
theorem cf_lt1 {T : List CF} {q : CF} (h1 : T.Nodup) (h2 : ∀ q, q ∈ T → cf_ok q) (hq : cf_ok q) (h : q ∉ T) : T.length < 10000 := by
  have := cf_len (T := T ++ [q]) (List.nodup_append.2 ⟨h1, List.pairwise_singleton _ _, fun a ha b hb e => by
    rw [List.mem_singleton.1 hb] at e
    exact h (e ▸ ha)⟩) (fun p hp => by
    rcases List.mem_append.1 hp with c | c
    · exact h2 p c
    · rw [List.mem_singleton.1 c]; exact hq)
  rw [List.length_append, List.length_singleton] at this
  omega
theorem m_push {s0 s : MS} {S T : List CF} {p : CF} (H : mD s0 s S T) (hp : cf_ok p) (hn : p ∉ T) : mD s0 (ms_u (ms_u s 10 (cf_m p) 1) 11 S.length (nI (cf_m p))) (S ++ [p]) (T ++ [p]) := by
  obtain ⟨h1, h2, h3, h4, h5, h6, h7⟩ := H
  refine ⟨(h1.u (Or.inr (Or.inr (Or.inl rfl)))).u (Or.inr (Or.inr (Or.inr rfl))), h2, fun k q hk => ?_, fun q hq => ?_, List.nodup_append.2 ⟨h5, List.pairwise_singleton _ _, fun a ha b hb e => by
    rw [List.mem_singleton.1 hb] at e
    exact hn (e ▸ ha)⟩, fun q hq => ?_, by simp only [List.length_append, List.length_singleton]; omega⟩
  · rw [ms_u_at, ms_u_ne (by decide)]
    by_cases c : k < S.length
    · rw [List.getElem?_append_left c] at hk
      rw [pk_un (by omega)]
      exact h3 k q hk
    · rw [List.getElem?_append_right (by omega)] at hk
      obtain ⟨c2, c3⟩ := List.getElem?_eq_some_iff.1 hk
      simp only [List.length_singleton] at c2
      have c4 : k = S.length := by omega
      subst c4
      simp only [Nat.sub_self, List.getElem_singleton] at c3
      rw [pk_us, c3]
  · rw [ms_u_ne (by decide), ms_u_at]
    by_cases c : q = p
    · subst c
      rw [pk_us]
      exact ⟨fun _ => rfl, fun h => absurd (List.mem_append.2 (Or.inr (List.mem_singleton.2 rfl))) h⟩
    · rw [pk_un (fun e => c (cf_m_inj hq hp e))]
      exact ⟨fun h => (h4 q hq).1 ((List.mem_append.1 h).resolve_right fun h => c (List.mem_singleton.1 h)), fun h => (h4 q hq).2 fun h' => h (List.mem_append.2 (Or.inl h'))⟩
  · rcases List.mem_append.1 hq with c | c
    · exact h6 q c
    · rw [List.mem_singleton.1 c]; exact hp
theorem m_dexpand {D : gx_D} {b : HX} {o : Nat} {s0 s : MS} {S T : List CF} {F : DF} {R : RN} {q : CF} (k46 : MS → Int32 → Int32 → Option (Int32 × MS)) (V : mV s0 F R) (H : mD s0 s S T) (hq : cf_ok q) : ∃ s', f_X9_deepCount_b63 D b o k46 gx_fuel s (nI S.length) (nI T.length) (nI (cf_m q)) 0 = k46 s' (nI (S ++ xsT (nxN F.ts R.iv) T q F.en.length).length) (nI (T ++ xsT (nxN F.ts R.iv) T q F.en.length).length) ∧ mD s0 s' (S ++ xsT (nxN F.ts R.iv) T q F.en.length) (T ++ xsT (nxN F.ts R.iv) T q F.en.length) := by
  have hE := V.2.2.2.2.2.2.2
  obtain ⟨z, h1, h2⟩ := gx_lq (F := fun f (z : MS × Int32 × Int32 × Int32) => f_X9_deepCount_b63 D b o k46 f z.1 z.2.1 z.2.2.1 (nI (cf_m q)) z.2.2.2) (I := fun e z => z.2 = (nI (S ++ xsT (nxN F.ts R.iv) T q e).length, nI (T ++ xsT (nxN F.ts R.iv) T q e).length, nI e) ∧ mD s0 z.1 (S ++ xsT (nxN F.ts R.iv) T q e) (T ++ xsT (nxN F.ts R.iv) T q e)) F.en.length (by
    intro f e z he hI
    obtain ⟨z1, z2⟩ := z
    obtain ⟨i1, i2⟩ := hI
    simp only at i1 i2
    subst i1
    have V1 := V.q i2.1
    have hv := V1.vd (D := D) (b := b) (o := o) (e := e) hq (by omega)
    have st : xsT (nxN F.ts R.iv) T q (e + 1) = match nxN F.ts R.iv q e with
      | none => xsT (nxN F.ts R.iv) T q e
      | some p => if p ∈ T ++ xsT (nxN F.ts R.iv) T q e then xsT (nxN F.ts R.iv) T q e else xsT (nxN F.ts R.iv) T q e ++ [p] := rfl
    simp only [f_X9_deepCount_b63, f_X9_deepCount_b125, ms_w (s := z1) (x := 1) (k := 1) rfl (by decide), V1.2.2.2.2.2.2.1, Option.bind_some, if_neg (nI_ge he (show F.en.length < 2 ^ 31 by omega)), gx_b2, hv, gx_c1]
    cases e1 : nxN F.ts R.iv q e with
    | none =>
      rw [e1] at st
      refine ⟨(vdS F.ts q e z1, _, _, nI (e + 1)), ⟨rfl, by rw [st]; exact i2.vd⟩, ?_⟩
      rw [if_neg (fun h => by have := vdN_0.1 h; rw [e1] at this; cases this), st]
    | some p =>
      rw [e1] at st
      simp only at st
      obtain ⟨t1, t2⟩ := toN_of e1
      have hp := nxN_ok V.2.2.1 hq e1
      have h8 : (vdS F.ts q e z1).1 8 = nI (cf_m p) := by
        unfold vdS
        rw [ms_p1n (by decide), ms_p1, t1]
      have I2 := i2.vd (ts := F.ts) (q := q) (e := e)
      have hs := I2.2.2.2.1 p hp
      rw [if_pos (vdN_0.2 (by rw [e1]; rfl)), h8, ms_az_n (cf_m_lt hp), Option.bind_some]
      by_cases c : p ∈ T ++ xsT (nxN F.ts R.iv) T q e
      · rw [if_pos c] at st
        refine ⟨(vdS F.ts q e z1, _, _, nI (e + 1)), ⟨rfl, by rw [st]; exact I2⟩, ?_⟩
        rw [hs.1 c, if_neg (by decide), st]
      · rw [if_neg c] at st
        have lt := cf_lt1 I2.2.2.2.2.1 I2.2.2.2.2.2.1 hp c
        have ls := I2.2.2.2.2.2.2
        refine ⟨(ms_u (ms_u (vdS F.ts q e z1) 10 (cf_m p) 1) 11 (S ++ xsT (nxN F.ts R.iv) T q e).length (nI (cf_m p)), _, _, nI (e + 1)), ⟨rfl, by rw [st, ← List.append_assoc, ← List.append_assoc]; exact m_push I2 hp c⟩, ?_⟩
        rw [hs.2 c, if_pos rfl, ms_sz_n (cf_m_lt hp), Option.bind_some, show ((1 : Int32) &&& 1) = 1 by decide, show (ms_u (vdS F.ts q e z1) 10 (cf_m p) 1).1 8 = nI (cf_m p) from h8, ms_si_n (by decide) rfl (show _ < 10000 by omega), Option.bind_some, st]
        simp only [List.length_append, List.length_singleton, Nat.add_assoc]) F.en.length 0 gx_fuel (s, nI S.length, nI T.length, 0) (by omega) (by rw [pl_fl]; omega) ⟨by simp [xsT]; rfl, by simpa [xsT] using H⟩
  obtain ⟨z1, z2⟩ := z
  obtain ⟨i1, i2⟩ := h1
  simp only at i1 i2
  subst i1
  refine ⟨z1, ?_, i2⟩
  obtain ⟨g, hg⟩ : ∃ g, gx_fuel - F.en.length = g + 1 := ⟨gx_fuel - F.en.length - 1, by rw [pl_fl]; omega⟩
  rw [hg] at h2
  have V1 := V.q i2.1
  rw [show f_X9_deepCount_b63 D b o k46 gx_fuel s (nI S.length) (nI T.length) (nI (cf_m q)) 0 = _ from h2]
  simp only [f_X9_deepCount_b63, ms_w (s := z1) (x := 1) (k := 1) rfl (by decide), V1.2.2.2.2.2.2.1, Option.bind_some, if_pos (nI_le (Nat.le_refl F.en.length) (show F.en.length < 2 ^ 31 by omega)), f_X9_deepCount_b131]
theorem m_deep0 {D : gx_D} {b : HX} {o : Nat} {s : MS} : ∃ z, f_X9_deepCount D b o s = f_X9_deepCount_b22 D b o z ∧ ms_q s z ∧ z.1 11 = s.1 11 ∧ ∀ k, k < 10000 → z.2 10 k = 0 := by
  unfold f_X9_deepCount
  obtain ⟨z, h1, h2⟩ := gx_lq (F := fun f (z : MS × Int32) => f_X9_deepCount_b2 D b o f z.1 z.2) (I := fun i z => z.2 = nI i ∧ ms_q s z.1 ∧ z.1.1 11 = s.1 11 ∧ ∀ k, k < i → z.1.2 10 k = 0) 10000 (by
    intro f i z hi hI
    obtain ⟨z1, z2⟩ := z
    obtain ⟨i1, i2, i4, i3⟩ := hI
    simp only at i1 i2 i3 i4
    subst i1
    refine ⟨(ms_u z1 10 i 0, nI (i + 1)), ⟨rfl, i2.u (Or.inr (Or.inr (Or.inl rfl))), i4, fun k hk => ?_⟩, ?_⟩
    · simp only
      rw [ms_u_at]
      by_cases c : k = i
      · rw [c, pk_us]
      · rw [pk_un c]; exact i3 k (by omega)
    · simp only [f_X9_deepCount_b2, if_neg (show ¬ (10000 : Int32) ≤ nI i from nI_ge hi (by decide)), ms_sz_n (s := z1) (x := 0) hi, Option.bind_some, gx_c1, show ((0 : Int32) &&& 1) = 0 by decide]) 10000 0 gx_fuel (s, 0) (by omega) (by rw [pl_fl]; omega) ⟨rfl, ms_q.rf, rfl, fun k h => by omega⟩
  obtain ⟨z1, z2⟩ := z
  obtain ⟨i1, i2, i4, i3⟩ := h1
  simp only at i1 i2 i3 i4
  subst i1
  obtain ⟨g, hg⟩ : ∃ g, gx_fuel - 10000 = g + 1 := ⟨189999, by rw [pl_fl]⟩
  rw [hg] at h2
  refine ⟨z1, ?_, i2, i4, i3⟩
  have h3 : f_X9_deepCount_b2 D b o gx_fuel s 0 = f_X9_deepCount_b2 D b o (g + 1) z1 (nI 10000) := h2
  rw [h3]
  simp only [f_X9_deepCount_b2, if_pos (show (10000 : Int32) ≤ nI 10000 by decide)]
theorem m_deepCount {D : gx_D} {b : HX} {o : Nat} {s : MS} {F : DF} {R : RN} (V : mV s F R) (H : m_rn (s.2 0) R) (hq0 : cf_ok R.cf) : ∃ s', f_X9_deepCount D b o s = some (nI (dfN (nxN F.ts R.iv) F.en.length R.cf), s') ∧ ms_q s s' := by
  have hnx : nx_ok (nxN F.ts R.iv) := fun _ _ _ hq e => nxN_ok V.2.2.1 hq e
  obtain ⟨z0, e0, i2, i4, i3⟩ := m_deep0 (D := D) (b := b) (o := o) (s := s)
  rw [e0]
  have M0 : mD s z0 [] [] := ⟨i2, i4, fun k q hk => by simp at hk, fun q hq => ⟨fun h => (by cases h), fun _ => i3 _ (cf_m_lt hq)⟩, List.Pairwise.nil, fun q h => (by cases h), Nat.le_refl _⟩
  have M1 : mD s (ms_u (ms_u z0 11 0 (nI (cf_m R.cf))) 10 (cf_m R.cf) 1) [R.cf] [R.cf] := by
    have := m_push M0 hq0 (fun h => by cases h)
    have e : ms_u (ms_u z0 11 0 (nI (cf_m R.cf))) 10 (cf_m R.cf) 1 = ms_u (ms_u z0 10 (cf_m R.cf) 1) 11 0 (nI (cf_m R.cf)) := by
      refine Prod.ext rfl ?_
      funext k
      unfold ms_u
      by_cases c : k = 10
      · subst c; simp
      · by_cases c2 : k = 11
        · subst c2; simp
        · simp [c, c2]
    rw [e]
    exact this
  unfold f_X9_deepCount_b22
  rw [m_here (i2.rn H), Option.bind_some, show (0 : Int32) = nI 0 from rfl, ms_si_n (by decide) rfl (show 0 < 10000 by decide), Option.bind_some, m_here (s := ms_u z0 11 0 (nI (cf_m R.cf))) ((i2.u (Or.inr (Or.inr (Or.inr rfl)))).rn H), Option.bind_some, ms_sz_n (cf_m_lt hq0), Option.bind_some, show ((1 : Int32) &&& 1) = 1 by decide]
  obtain ⟨r, e1, s', e2, e3⟩ := gx_lp (F := fun f (z : MS × Int32 × Int32) => f_X9_deepCount_b46 D b o f z.1 z.2.1 z.2.2) (I := fun n z => z.2 = (nI (dfs (nxN F.ts R.iv) F.en.length R.cf n).1.length, nI (dfs (nxN F.ts R.iv) F.en.length R.cf n).2.length) ∧ mD s z.1 (dfs (nxN F.ts R.iv) F.en.length R.cf n).1 (dfs (nxN F.ts R.iv) F.en.length R.cf n).2 ∧ dfs_I (nxN F.ts R.iv) F.en.length R.cf n) (Q := fun r => ∃ s', r = (nI (dfN (nxN F.ts R.iv) F.en.length R.cf), s') ∧ ms_q s s') 10000 (by
    intro f n z hn hI
    obtain ⟨z1, z2⟩ := z
    obtain ⟨i1, i2, i3⟩ := hI
    simp only at i1 i2
    subst i1
    obtain ⟨j1, j2, j3, j4, j5⟩ := id i3
    show (∃ s' : MS × Int32 × Int32, _ ∧ f_X9_deepCount_b46 D b o (f + 1) z1 (nI (dfs (nxN F.ts R.iv) F.en.length R.cf n).1.length) (nI (dfs (nxN F.ts R.iv) F.en.length R.cf n).2.length) = f_X9_deepCount_b46 D b o f s'.1 s'.2.1 s'.2.2) ∨ ∃ r, f_X9_deepCount_b46 D b o (f + 1) z1 (nI (dfs (nxN F.ts R.iv) F.en.length R.cf n).1.length) (nI (dfs (nxN F.ts R.iv) F.en.length R.cf n).2.length) = some r ∧ _
    rw [b46_s]
    cases e : (dfs (nxN F.ts R.iv) F.en.length R.cf n).1.getLast? with
    | none =>
      have c := List.getLast?_eq_none_iff.1 e
      refine Or.inr ⟨_, if_pos (by rw [c]; decide), z1, ?_, i2.1⟩
      rw [dfs_N (by omega) c]
    | some q =>
      have hm : q ∈ (dfs (nxN F.ts R.iv) F.en.length R.cf n).1 := List.mem_of_getLast? e
      have hl : 0 < (dfs (nxN F.ts R.iv) F.en.length R.cf n).1.length := List.length_pos_of_mem hm
      obtain ⟨ys, hys⟩ := List.getLast?_eq_some_iff.1 e
      have hdl : (dfs (nxN F.ts R.iv) F.en.length R.cf n).1.dropLast = ys := by rw [hys, List.dropLast_concat]
      have hyl : (dfs (nxN F.ts R.iv) F.en.length R.cf n).1.length = ys.length + 1 := by rw [hys, List.length_append, List.length_singleton]
      have ed : dfs (nxN F.ts R.iv) F.en.length R.cf (n + 1) = (ys ++ xsT (nxN F.ts R.iv) (dfs (nxN F.ts R.iv) F.en.length R.cf n).2 q F.en.length, (dfs (nxN F.ts R.iv) F.en.length R.cf n).2 ++ xsT (nxN F.ts R.iv) (dfs (nxN F.ts R.iv) F.en.length R.cf n).2 q F.en.length) := by
        show (match (dfs (nxN F.ts R.iv) F.en.length R.cf n).1.getLast? with
          | none => _
          | some q => _) = _
        rw [e, ← hdl]
      have qo := j5 _ (j3 _ hm)
      have D1 : mD s z1 ys (dfs (nxN F.ts R.iv) F.en.length R.cf n).2 := by
        obtain ⟨a1, a2, a3, a4, a5, a6, a7⟩ := i2
        refine ⟨a1, a2, fun k p hk => a3 k p ?_, a4, a5, a6, by omega⟩
        rw [hys, List.getElem?_append_left (List.getElem?_eq_some_iff.1 hk).1]
        exact hk
      obtain ⟨s', n1, n2⟩ := m_dexpand (D := D) (b := b) (o := o) (f_X9_deepCount_b46 D b o f) V D1 qo
      have tv := i2.2.2.1 ys.length q (by rw [hys, List.getElem?_append_right (Nat.le_refl _), Nat.sub_self]; rfl)
      refine Or.inl ⟨(s', nI (dfs (nxN F.ts R.iv) F.en.length R.cf (n + 1)).1.length, nI (dfs (nxN F.ts R.iv) F.en.length R.cf (n + 1)).2.length), ⟨rfl, by rw [ed]; exact n2, ?_⟩, ?_⟩
      · obtain ⟨n1', n2'⟩ := xsT_I hnx qo j4 j5 F.en.length
        refine ⟨?_, ?_, ?_, ?_, ?_⟩
        · rw [ed]; simp only [List.length_append]; omega
        · rw [ed]; exact cf_len n1' n2'
        · rw [ed]
          intro p hp
          rcases List.mem_append.1 hp with c | c
          · exact List.mem_append.2 (Or.inl (j3 p (by rw [hys]; exact List.mem_append.2 (Or.inl c))))
          · exact List.mem_append.2 (Or.inr c)
        · rw [ed]; exact n1'
        · rw [ed]; exact n2'
      · rw [if_neg (nI_nle hl (by omega)), hyl, pk_m1, ms_ai_n (by decide) rfl (show ys.length < 10000 by omega), tv, Option.bind_some, n1, ed]) (by
    intro f z hI
    obtain ⟨z1, z2⟩ := z
    obtain ⟨i1, i2, i3⟩ := hI
    simp only at i1 i2
    subst i1
    obtain ⟨j1, j2, j3, j4, j5⟩ := id i3
    have c : (dfs (nxN F.ts R.iv) F.en.length R.cf 10000).1 = [] := List.length_eq_zero_iff.1 (by omega)
    show ∃ r, f_X9_deepCount_b46 D b o (f + 1) z1 (nI (dfs (nxN F.ts R.iv) F.en.length R.cf 10000).1.length) (nI (dfs (nxN F.ts R.iv) F.en.length R.cf 10000).2.length) = some r ∧ _
    rw [b46_s]
    refine ⟨_, if_pos (by rw [c]; decide), z1, ?_, i2.1⟩
    rw [dfs_N (Nat.le_refl _) c]) 10000 0 gx_fuel (ms_u (ms_u z0 11 0 (nI (cf_m R.cf))) 10 (cf_m R.cf) 1, 1, 1) (by omega) (by rw [pl_fl]; omega) ⟨rfl, M1, (dfs_inv hnx hq0 0).resolve_left (by simp [dfs])⟩
  exact ⟨s', by rw [show f_X9_deepCount_b46 D b o gx_fuel (ms_u (ms_u z0 11 0 (nI (cf_m R.cf))) 10 (cf_m R.cf) 1) 1 1 = some r from e1, e2], e3⟩
