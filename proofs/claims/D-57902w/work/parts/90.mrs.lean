/-! the model's runScript -/
set_option maxRecDepth 100000
set_option linter.unusedSimpArgs false
def mf2 (s t : MS) : Prop := ((∀ j, j < 16 ∨ 22 < j → j ≠ 26 → t.1 j = s.1 j) ∧ (t.1 16 = 0 → s.1 16 = 0 ∧ t.1 17 = s.1 17)) ∧ ∀ q, q ≠ 7 → q ≠ 8 → q ≠ 9 → t.2 q = s.2 q
theorem mf2.rf {s : MS} : mf2 s s := ⟨⟨fun _ _ _ => rfl, fun h => ⟨h, rfl⟩⟩, fun _ _ _ _ => rfl⟩
theorem mf2.tr {a b c : MS} (x : mf2 a b) (y : mf2 b c) : mf2 a c := ⟨⟨fun j h k => (y.1.1 j h k).trans (x.1.1 j h k), fun h => ⟨(x.1.2 (y.1.2 h).1).1, (y.1.2 h).2.trans (x.1.2 (y.1.2 h).1).2⟩⟩, fun q h1 h2 h3 => (y.2 q h1 h2 h3).trans (x.2 q h1 h2 h3)⟩
theorem mfq.two {s t : MS} (F : mfq [7] s t) : mf2 s t := ⟨⟨fun j h _ => F.1.1 j h, F.1.2⟩, fun q h1 _ _ => F.2 q (by simp [h1])⟩
/-- the commands that were read -/
def mcs (t : MS) (cs : List CMD) : Prop := t.1 26 = nI cs.length ∧ cs.length ≤ 30 ∧ ∀ (k : Nat) (c : CMD), cs[k]? = some c → t.2 8 k = nI c.1 ∧ (c.1 = 1 → t.2 9 (2 * k) = nI c.2.1) ∧ (c.1 = 2 → t.2 9 (2 * k) = nI c.2.1 ∧ t.2 9 (2 * k + 1) = nI c.2.2)
theorem mcs.of {s t : MS} {cs : List CMD} (H : mcs s cs) (h26 : t.1 26 = s.1 26) (h8 : t.2 8 = s.2 8) (h9 : t.2 9 = s.2 9) : mcs t cs := ⟨h26.trans H.1, H.2.1, fun k c hc => by rw [h8, h9]; exact H.2.2 k c hc⟩
theorem ms_u_oth {s : MS} {j i q : Nat} {x : Int32} (h : q ≠ j) : (ms_u s j i x).2 q = s.2 q := if_neg h
section MRS
variable {D : gx_D} {b : HX} {o p : Nat} {s : MS} {ib : List Nat} {F : DF} {cs : List CMD}
def scN (w : List Nat) : Nat := if w = kw 21 then 1 else if w = kw 22 then 2 else if w = kw 23 then 3 else if w = kw 24 then 4 else 0
theorem m_scriptHere (KS : KM D b o) (T : MT s ib p) (hb : ib_ok ib) (hp : p ≤ ib.length) : f_X9_scriptHere D b o s = some (nI (scN (tW ib p))) := by
  have w : ∀ i cs, kcs[i]? = some cs → cs ≠ [] → f_X9_isWord D b o s (some (D.2.2.1 i)) = some (decide (tW ib p = cs)) := fun i cs hi hc => m_isWord T hb hp (KS s i cs hi) hc
  unfold f_X9_scriptHere scN
  rw [w 49 (kw 21) rfl (by decide), w 45 (kw 22) rfl (by decide), w 50 (kw 23) rfl (by decide), w 51 (kw 24) rfl (by decide)]
  simp only [Option.bind_some, decide_eq_true_eq]
  by_cases c1 : tW ib p = kw 21
  · rw [if_pos c1, if_pos c1]; rfl
  rw [if_neg c1, if_neg c1]
  by_cases c2 : tW ib p = kw 22
  · rw [if_pos c2, if_pos c2]; rfl
  rw [if_neg c2, if_neg c2]
  by_cases c3 : tW ib p = kw 23
  · rw [if_pos c3, if_pos c3]; rfl
  rw [if_neg c3, if_neg c3]
  by_cases c4 : tW ib p = kw 24
  · rw [if_pos c4, if_pos c4]; rfl
  rw [if_neg c4, if_neg c4]
  rfl
theorem scN_isC {w : List Nat} : (isC w = true ↔ scN w ≠ 0) ∧ scN w ≤ 4 := by
  unfold isC scN
  by_cases c1 : w = kw 21
  · subst c1; decide
  by_cases c2 : w = kw 22
  · subst c2; decide
  by_cases c3 : w = kw 23
  · subst c3; decide
  by_cases c4 : w = kw 24
  · subst c4; decide
  · simp [c1, c2, c3, c4]
/-- the rest of a command: its numbers are in n -/
def cmN (t : MS) (c : CMD) : Prop := (c.1 = 1 → t.2 7 0 = nI c.2.1) ∧ (c.1 = 2 → t.2 7 0 = nI c.2.1 ∧ t.2 7 1 = nI c.2.2)
theorem m_takesRest (T : MT s ib p) (hb : ib_ok ib) (hp : p ≤ ib.length) (NE : mnL (s.2 0) 427 1 F.en) (NV : mnL (s.2 0) 483 2 F.vn) {W : List Nat} (hW : isC W = true) : MR ib [7] s (f_X9_takesRest D b o s (nI (scN W))) (pCmd ib F (tN ib p) W) fun c t => cmN t c ∧ c.1 = scN W := by
  unfold f_X9_takesRest pCmd
  refine MR.adv T hb hp fun t F0 T1 _ => ?_
  have l1 := (tS_le hp).2.2
  have e0 : t.2 0 = s.2 0 := F0.2 0 (by simp)
  unfold scN
  by_cases c1 : W = kw 21
  · rw [if_pos c1, if_pos c1, if_pos (show nI 1 = 1 from rfl), gx_b2_id]
    obtain ⟨b', t2, e, F2, M⟩ := m_takesKnown (D := D) (b := b) (o := o) (k := 0) (c := 427) (m := 1) T1 hb l1 (by rw [e0]; exact NE) (by decide)
    refine ⟨b', t2, e, F2, ?_⟩
    cases em : pKnown ib F.en (tN ib p) with
    | inl e => rw [em] at M; exact M
    | inr v =>
      rw [em] at M
      obtain ⟨m1, m2, m3⟩ := M
      refine ⟨m1, ⟨⟨fun _ => ?_, fun h => by cases h⟩, rfl⟩, m3⟩
      rw [m2, pk_us]
  rw [if_neg c1, if_neg c1]
  by_cases c2 : W = kw 22
  · rw [if_pos c2, if_pos c2, if_neg (by decide), if_pos (show nI 2 = 2 from rfl)]
    refine MR.bnd (m_takesKnown (k := 0) (c := 483) (m := 2) T1 hb l1 (by rw [e0]; exact NV) (by decide)) fun v p2 t2 em F2 q T2 => ?_
    have l2 := ((gO_known l1).r em).2
    obtain ⟨b', t3, e, F3, M⟩ := m_takes (D := D) (b := b) (o := o) (k := 1) T2 hb l2 (by decide)
    have e : f_X9_takes D b o t2 1 = some (b', t3) := e
    rw [e, pl_b2_s]
    refine ⟨b', t3, by cases b' <;> rfl, F3, ?_⟩
    cases em2 : pNum ib p2 with
    | inl e => rw [em2] at M; exact M
    | inr u =>
      rw [em2] at M
      obtain ⟨m1, m2, m3⟩ := M
      refine ⟨m1, ⟨⟨fun h => (by cases h), fun _ => ⟨?_, ?_⟩⟩, rfl⟩, m3⟩
      · rw [m2, pk_un (by decide), q, pk_us]
      · rw [m2, pk_us]
  rw [if_neg c2, if_neg c2]
  by_cases c3 : W = kw 23
  · rw [if_pos c3, if_pos c3, if_neg (by decide), if_neg (by decide)]
    exact ⟨true, t, rfl, mfq.rf, rfl, ⟨⟨fun h => (by cases h), fun h => by cases h⟩, rfl⟩, T1⟩
  rw [if_neg c3, if_neg c3]
  have c4 : W = kw 24 := by
    unfold isC at hW
    simp only [Bool.or_eq_true, decide_eq_true_eq] at hW
    rcases hW with ((h | h) | h) | h
    · exact absurd h c1
    · exact absurd h c2
    · exact absurd h c3
    · exact h
  rw [if_pos c4, if_neg (by decide), if_neg (by decide)]
  exact ⟨true, t, rfl, mfq.rf, rfl, ⟨⟨fun h => (by cases h), fun h => by cases h⟩, rfl⟩, T1⟩
theorem m_one (KS : KM D b o) (T : MT s ib p) (hb : ib_ok ib) (hp : p ≤ ib.length) (NE : mnL (s.2 0) 427 1 F.en) (NV : mnL (s.2 0) 483 2 F.vn) (C : mcs s cs) : ∃ b' t, f_X9_readScriptStatement D b o s = some (b', t) ∧ mf2 s t ∧ (match pOne ib F cs p with
    | .inl e => b' = false ∧ t.1 16 = nI e.1 ∧ t.1 17 = nI e.2
    | .inr v => b' = true ∧ MT t ib v.2 ∧ mcs t v.1) := by
  obtain ⟨s1, s2⟩ := scN_isC (w := tW ib p)
  have fl : ∀ (c : Nat) (hc : 1 ≤ c ∧ c ≤ 7), ∃ t, f_X9_failsAt D b o s (nI c) = some (false, t) ∧ mf2 s t ∧ t.1 16 = nI c ∧ t.1 17 = nI (tS ib p) := fun c hc => by
    obtain ⟨b', t, e, Fr, M⟩ := MT.fail (α := Nat) (D := D) (b := b) (o := o) (W := [7]) (Q := fun _ _ => True) T c hc
    obtain ⟨rfl, m1, m2⟩ := M
    exact ⟨t, e, Fr.two, m1, m2⟩
  unfold f_X9_readScriptStatement
  rw [m_scriptHere KS T hb hp, Option.bind_some]
  by_cases c1 : isC (tW ib p) = true
  · have n0 := s1.1 c1
    rw [if_neg (show ¬ nI (scN (tW ib p)) = 0 from nI_ne (b := 0) (by omega) (by decide) n0), C.1]
    have c30 := C.2.1
    by_cases c2 : cs.length < 30
    · have hO : pOne ib F cs p = pb (pCmd ib F (tN ib p) (tW ib p)) fun c p2 => pb (pSemi ib p2) fun _ p3 => .inr (cs ++ [c], p3) := by
        unfold pOne pMany
        rw [if_pos c1, if_pos c2]
      rw [hO, if_neg (show ¬ nI cs.length = (30 : Int32) from nI_ne (b := 30) (by omega) (by decide) (by omega))]
      obtain ⟨b', t, e, Fr, M⟩ := m_takesRest (D := D) (b := b) (o := o) T hb hp NE NV c1
      rw [e, pl_b2_s]
      cases em : pCmd ib F (tN ib p) (tW ib p) with
      | inl er =>
        rw [em] at M
        obtain ⟨rfl, m1⟩ := M
        rw [if_neg Bool.false_ne_true, pb_err]
        exact ⟨false, t, rfl, Fr.two, rfl, m1⟩
      | inr v =>
        obtain ⟨c, p2⟩ := v
        rw [em] at M
        obtain ⟨rfl, ⟨⟨k1, k2⟩, k3⟩, T2⟩ := M
        have l2 := ((gO_cmd (tS_le hp).2.2).r em).2
        have h26 : t.1 26 = nI cs.length := (Fr.1.1 26 (Or.inr (by decide))).trans C.1
        have h8 : t.2 8 = s.2 8 := Fr.2 8 (by decide)
        have h9 : t.2 9 = s.2 9 := Fr.2 9 (by decide)
        rw [if_pos rfl, h26, ms_si_n (j := 8) (by decide) rfl (show cs.length < ms_len 8 from by show _ < 31; omega), Option.bind_some]
        obtain ⟨u1, hu1⟩ : ∃ u1, u1 = ms_u t 8 cs.length (nI (scN (tW ib p))) := ⟨_, rfl⟩
        rw [← hu1]
        have a1 : ∀ j, u1.1 j = t.1 j := fun j => by rw [hu1]; rfl
        have b1 : ∀ q, q ≠ 8 → u1.2 q = t.2 q := fun q hq => by rw [hu1]; exact if_neg hq
        have b18 : u1.2 8 = upd (t.2 8) cs.length (nI (scN (tW ib p))) := by rw [hu1]; exact ms_u_self
        have r0 : ms_ai u1 7 0 = some (t.2 7 0) := by
          rw [show (0 : Int32) = nI 0 from rfl, ms_ai_n (j := 7) (k := 0) (by decide) rfl (by decide), b1 7 (by decide)]
        have w2 : (2 : Int32) * nI cs.length = nI (2 * cs.length) := by rw [show (2 : Int32) = nI 2 from rfl, pk_mul]
        rw [r0, Option.bind_some, a1, h26, w2, ms_si_n (j := 9) (by decide) rfl (show 2 * cs.length < ms_len 9 from by show _ < 62; omega), Option.bind_some]
        obtain ⟨u2, hu2⟩ : ∃ u2, u2 = ms_u u1 9 (2 * cs.length) (t.2 7 0) := ⟨_, rfl⟩
        rw [← hu2]
        have a2 : ∀ j, u2.1 j = t.1 j := fun j => by rw [hu2]; exact a1 j
        have b2 : ∀ q, q ≠ 8 → q ≠ 9 → u2.2 q = t.2 q := fun q h1 h2 => by rw [hu2]; exact (if_neg h2).trans (b1 q h1)
        have b28 : u2.2 8 = u1.2 8 := by rw [hu2]; exact ms_u_oth (by decide)
        have b29 : u2.2 9 = upd (t.2 9) (2 * cs.length) (t.2 7 0) := by rw [hu2, ms_u_self, b1 9 (by decide)]
        have r1 : ms_ai u2 7 1 = some (t.2 7 1) := by
          rw [show (1 : Int32) = nI 1 from rfl, ms_ai_n (j := 7) (k := 1) (by decide) rfl (by decide), b2 7 (by decide) (by decide)]
        rw [r1, Option.bind_some, a2, h26, w2, nI_1, ms_si_n (j := 9) (by decide) rfl (show 2 * cs.length + 1 < ms_len 9 from by show _ < 62; omega), Option.bind_some]
        obtain ⟨u3, hu3⟩ : ∃ u3, u3 = ms_u u2 9 (2 * cs.length + 1) (t.2 7 1) := ⟨_, rfl⟩
        rw [← hu3]
        have a3 : ∀ j, u3.1 j = t.1 j := fun j => by rw [hu3]; exact a2 j
        have b3 : ∀ q, q ≠ 8 → q ≠ 9 → u3.2 q = t.2 q := fun q h1 h2 => by rw [hu3]; exact (if_neg h2).trans (b2 q h1 h2)
        have b38 : u3.2 8 = u1.2 8 := by rw [hu3]; exact (ms_u_oth (by decide)).trans b28
        have b39 : u3.2 9 = upd (upd (t.2 9) (2 * cs.length) (t.2 7 0)) (2 * cs.length + 1) (t.2 7 1) := by rw [hu3, ms_u_self, b29]
        have pf : ms_pf u3 26 (u3.1 26 + 1) = some (ms_p u3 26 (nI (cs.length + 1))) := by
          unfold ms_pf
          rw [a3, h26, nI_1]
        rw [pf, Option.bind_some, gx_b2_id, pb_ret]
        obtain ⟨u4, hu4⟩ : ∃ u4, u4 = ms_p u3 26 (nI (cs.length + 1)) := ⟨_, rfl⟩
        rw [← hu4]
        have a4 : ∀ j, j ≠ 26 → u4.1 j = t.1 j := fun j hj => by rw [hu4, ms_p1n hj, a3]
        have b4 : ∀ q, u4.2 q = u3.2 q := fun q => by rw [hu4]; rfl
        have a46 : u4.1 26 = nI (cs.length + 1) := by rw [hu4]; rfl
        have T4 : MT u4 ib p2 := by
          obtain ⟨t1, t2, t3, t4, t5, t6⟩ := T2
          exact ⟨⟨(a4 13 (by decide)).trans t1.1, fun k c hk => by rw [b4, b3 6 (by decide) (by decide)]; exact t1.2 k c hk⟩, (a4 16 (by decide)).trans t2, (a4 18 (by decide)).trans t3, (a4 19 (by decide)).trans t4, (a4 21 (by decide)).trans t5, fun h => (a4 20 (by decide)).trans (t6 h)⟩
        have F4 : mf2 s u4 := Fr.two.tr ⟨⟨fun j _ h => a4 j h, fun h => ⟨(a4 16 (by decide)).symm.trans h, a4 17 (by decide)⟩⟩, fun q _ h8 h9 => by rw [b4, b3 q h8 h9]⟩
        have C4 : mcs u4 (cs ++ [c]) := by
          refine ⟨by rw [a46, List.length_append, List.length_singleton], by rw [List.length_append, List.length_singleton]; omega, fun k y hk => ?_⟩
          rw [b4, b4, b38, b39, b18]
          rcases snoc_get hk with ⟨hk1, hk2⟩ | ⟨rfl, rfl⟩
          · obtain ⟨d1, d2, d3⟩ := C.2.2 k y hk2
            rw [pk_un (by omega), pk_un (by omega), pk_un (by omega), pk_un (by omega), pk_un (by omega), h8, h9]
            exact ⟨d1, d2, d3⟩
          · rw [pk_us, pk_us, pk_un (by omega), pk_us]
            exact ⟨by rw [k3], k1, k2⟩
        obtain ⟨b', t5, e5, F5, M5⟩ := m_semi (D := D) (b := b) (o := o) (W := []) T4 hb l2
        refine ⟨b', t5, e5, F4.tr (F5.up (by simp)).two, ?_⟩
        cases em2 : pSemi ib p2 with
        | inl er =>
          rw [em2] at M5
          exact M5
        | inr u =>
          rw [em2] at M5
          obtain ⟨m1, m2, m3⟩ := M5
          exact ⟨m1, m3, C4.of (F5.1.1 26 (Or.inr (by decide))) (F5.2 8 (by simp)) (F5.2 9 (by simp))⟩
    · have : cs.length = 30 := by omega
      have hO : pOne ib F cs p = .inl (5, tS ib p) := by
        unfold pOne pMany
        rw [if_pos c1, if_neg c2]
      rw [hO, if_pos (show nI cs.length = (30 : Int32) by rw [this]; rfl), gx_b2_id]
      obtain ⟨t, e, f1, f2⟩ := fl 5 (by decide)
      exact ⟨false, t, e, f1, rfl, f2⟩
  · have n0 : scN (tW ib p) = 0 := by
      by_cases h : scN (tW ib p) = 0
      · exact h
      · exact absurd (s1.2 h) c1
    have hO : pOne ib F cs p = .inl (1, tS ib p) := by
      unfold pOne
      rw [if_neg c1]
    rw [hO, n0, if_pos (show nI 0 = 0 from rfl), gx_b2_id]
    obtain ⟨t, e, f1, f2⟩ := fl 1 (by decide)
    exact ⟨false, t, e, f1, rfl, f2⟩
theorem m_sloop (KS : KM D b o) (hb : ib_ok ib) : ∀ (M m p : Nat) (s : MS) (cs : List CMD) (f N : Nat), m ≤ M → ib.length < p + m → p ≤ ib.length → MT s ib p → mnL (s.2 0) 427 1 F.en → mnL (s.2 0) 483 2 F.vn → mcs s cs → m < f → m < N → ∃ t, mf2 s t ∧ (match pScr ib F N cs p with
    | .inl e => f_X9_runScript_b11 D b o (f + 1) s true = f_X9_runScript_b30 D b o t false ∧ t.1 16 = nI e.1 ∧ t.1 17 = nI e.2
    | .inr v => f_X9_runScript_b11 D b o (f + 1) s true = f_X9_runScript_b30 D b o t true ∧ MT t ib v.2 ∧ mcs t v.1) := by
  intro M
  induction M with
  | zero =>
    intro m p s cs f N hM hm hp
    omega
  | succ M ih =>
    intro m p s cs f N hM hm hp T NE NV C hF hN
    obtain ⟨f, rfl⟩ : ∃ k, f = k + 1 := ⟨f - 1, by omega⟩
    obtain ⟨N, rfl⟩ : ∃ k, N = k + 1 := ⟨N - 1, by omega⟩
    by_cases k3 : tK ib p = 3
    · have e : pScr ib F (N + 1) cs p = .inr (cs, p) := if_pos k3
      rw [e]
      refine ⟨s, mf2.rf, ?_, T, C⟩
      simp only [f_X9_runScript_b11, if_true, T.k, if_pos ((mkd_2 hp).2.2.2 k3)]
    · have e : pScr ib F (N + 1) cs p = pb (pOne ib F cs p) fun cs' p' => pScr ib F N cs' p' := if_neg k3
      rw [e]
      obtain ⟨b', t, e1, Fr, M1⟩ := m_one (F := F) KS T hb hp NE NV C
      have st : f_X9_runScript_b11 D b o (f + 1 + 1) s true = f_X9_runScript_b11 D b o (f + 1) t b' := by
        have s0 : f_X9_runScript_b11 D b o (f + 1 + 1) s true = if (s.1 21) = 0 then f_X9_runScript_b30 D b o s true else gx_b2 (f_X9_readScriptStatement D b o s) fun b17 h18 => (f_X9_runScript_b11 D b o (f + 1)) h18 b17 := by
          rw [f_X9_runScript_b11, if_pos rfl]
        rw [s0, T.k, if_neg (fun h => k3 ((mkd_2 hp).2.2.1 h)), e1, pl_b2_s]
      rw [st]
      have g4 := gO_one4 (F := F) (cs := cs) hp
      cases em : pOne ib F cs p with
      | inl er =>
        rw [em] at M1
        obtain ⟨rfl, m1⟩ := M1
        refine ⟨t, Fr, ?_, m1⟩
        rw [f_X9_runScript_b11, if_neg Bool.false_ne_true]
      | inr v =>
        obtain ⟨cs', p'⟩ := v
        rw [em] at M1
        obtain ⟨rfl, m1, m2⟩ := M1
        have gr := g4.r em
        have e0 : t.2 0 = s.2 0 := Fr.2 0 (by decide) (by decide) (by decide)
        obtain ⟨t2, F2, M2⟩ := ih (m - 4) p' t cs' f N (by omega) (by omega) gr.2 m1 (by rw [e0]; exact NE) (by rw [e0]; exact NV) m2 (by omega) (by omega)
        exact ⟨t2, Fr.tr F2, M2⟩
end MRS
