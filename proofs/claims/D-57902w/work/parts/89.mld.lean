/-! the model's loadMachine -/
set_option maxRecDepth 100000
set_option linter.unusedSimpArgs false
section MLD
variable {D : gx_D} {b : HX} {o p : Nat} {s : MS} {ib : List Nat} {S : SP}
theorem m_stmt (KS : KM D b o) (T : MT s ib p) (hb : ib_ok ib) (hp : p ≤ ib.length) (H : mSP (s.2 0) S) (K : sp_nc S) : MR ib [0, 7] s (f_X9_readSetupStatement D b o s) (pStmt ib S p) fun S' t => mSP (t.2 0) S' := by
  have w : ∀ i cs, kcs[i]? = some cs → cs ≠ [] → f_X9_isWord D b o s (some (D.2.2.1 i)) = some (decide (tW ib p = cs)) := fun i cs hi hc => m_isWord T hb hp (KS s i cs hi) hc
  unfold f_X9_readSetupStatement pStmt pStm
  rw [w 31 (kw 9) rfl (by decide), w 32 (kw 10) rfl (by decide), w 33 (kw 11) rfl (by decide), w 34 (kw 12) rfl (by decide), w 47 (kw 13) rfl (by decide), w 48 (kw 14) rfl (by decide)]
  simp only [Option.bind_some, decide_eq_true_eq, gx_b2_id]
  by_cases c9 : tW ib p = kw 9
  · rw [if_pos c9, if_pos c9, pMany_pb]
    simp only [pb_assoc, pb_ret]
    exact m_readS T hb hp H K
  rw [if_neg c9, if_neg c9]
  by_cases c10 : tW ib p = kw 10
  · rw [if_pos c10, if_pos c10, pMany_pb]
    simp only [pb_assoc, pb_ret]
    exact m_readE T hb hp H K
  rw [if_neg c10, if_neg c10]
  by_cases c11 : tW ib p = kw 11
  · rw [if_pos c11, if_pos c11, pMany_pb]
    simp only [pb_assoc, pb_ret]
    exact m_readV T hb hp H K
  rw [if_neg c11, if_neg c11]
  by_cases c12 : tW ib p = kw 12
  · rw [if_pos c12, if_pos c12, pMany_pb]
    simp only [pb_assoc, pb_ret]
    exact m_readT KS T hb hp H K
  rw [if_neg c12, if_neg c12]
  by_cases c13 : tW ib p = kw 13
  · rw [if_pos c13, if_pos c13, pMany_pb]
    simp only [pb_assoc, pb_ret]
    have := m_readI KS T hb hp H K false
    simp only [if_neg Bool.false_ne_true] at this
    exact this
  rw [if_neg c13, if_neg c13]
  by_cases c14 : tW ib p = kw 14
  · rw [if_pos c14, if_pos c14, pMany_pb]
    simp only [pb_assoc, pb_ret]
    have := m_readI KS T hb hp H K true
    simp only [if_true] at this
    exact this
  rw [if_neg c14, if_neg c14, pb_err]
  exact T.fail 1
theorem m_loop (KS : KM D b o) (hb : ib_ok ib) : ∀ (M m p : Nat) (s : MS) (S : SP) (F N : Nat), m ≤ M → ib.length < p + m → p ≤ ib.length → MT s ib p → mSP (s.2 0) S → sp_nc S → m < F → m < N → ∃ t, mfq [0, 7] s t ∧ (match pLoop ib N S p with
    | .inl e => f_X9_readText_b4 D b o F s = some (false, t) ∧ t.1 16 = nI e.1 ∧ t.1 17 = nI e.2
    | .inr v => f_X9_readText_b4 D b o F s = f_X9_readText_b20 D b o t ∧ MT t ib v.2 ∧ mSP (t.2 0) v.1 ∧ sp_nc v.1 ∧ v.2 ≤ ib.length) := by
  intro M
  induction M with
  | zero =>
    intro m p s S F N hM hm hp
    omega
  | succ M ih =>
    intro m p s S F N hM hm hp T H K hF hN
    obtain ⟨F, rfl⟩ : ∃ f, F = f + 1 := ⟨F - 1, by omega⟩
    obtain ⟨N, rfl⟩ : ∃ f, N = f + 1 := ⟨N - 1, by omega⟩
    by_cases k3 : tK ib p = 3
    · have e : pLoop ib (N + 1) S p = .inr (S, p) := if_pos k3
      rw [e]
      refine ⟨s, mfq.rf, ?_, T, H, K, hp⟩
      simp only [f_X9_readText_b4, T.k, if_pos ((mkd_2 hp).2.2.2 k3)]
    · have e : pLoop ib (N + 1) S p = pb (pStmt ib S p) fun S' p' => pLoop ib N S' p' := if_neg k3
      rw [e]
      obtain ⟨b', t, e1, Fr, M1⟩ := m_stmt KS T hb hp H K
      have st : f_X9_readText_b4 D b o (F + 1) s = if b' = true then f_X9_readText_b4 D b o F t else some (false, t) := by
        simp only [f_X9_readText_b4, T.k, if_neg (fun h => k3 ((mkd_2 hp).2.2.1 h)), e1, pl_b2_s]
      rw [st]
      have g4 := gO_stmt4 (S := S) hp
      cases em : pStmt ib S p with
      | inl er =>
        rw [em] at M1
        obtain ⟨rfl, m1, m2⟩ := M1
        rw [if_neg Bool.false_ne_true]
        exact ⟨t, Fr, rfl, m1, m2⟩
      | inr v =>
        obtain ⟨S', p'⟩ := v
        rw [em] at M1
        obtain ⟨rfl, m1, m2⟩ := M1
        rw [if_pos rfl]
        have gr := g4.r em
        obtain ⟨t2, F2, M2⟩ := ih (m - 4) p' t S' F N (by omega) (by omega) gr.2 m2 m1 (pStmt_nc hp K em) (by omega) (by omega)
        exact ⟨t2, Fr.tr F2, M2⟩
theorem m_start {w : Nat → Int32} (hw : s.2 0 = w) {q : CF} (H : ∀ v, v < 3 → w (9 + v) = nI (cf_val q v)) (h0 : q.1 = 0) : f_X9_start D b o s = some (nI (cf_m q)) := by
  subst hw
  unfold f_X9_start
  rw [ms_w (x := 9) (k := 9) rfl (by decide), Option.bind_some, ms_w (x := 10) (k := 10) rfl (by decide), Option.bind_some, ms_w (x := 11) (k := 11) rfl (by decide), Option.bind_some]
  have a0 := H 0 (by decide)
  have a1 := H 1 (by decide)
  have a2 := H 2 (by decide)
  rw [show s.2 0 9 = _ from a0, show s.2 0 10 = _ from a1, show s.2 0 11 = _ from a2, show (10 : Int32) = nI 10 from rfl, show (100 : Int32) = nI 100 from rfl, pk_mul, pk_mul, nI_add, nI_add]
  refine congrArg some (congrArg nI ?_)
  unfold cf_m
  rw [h0]
  show q.2.1 + 10 * q.2.2.1 + 100 * q.2.2.2 = 1000 * 0 + q.2.1 + 10 * q.2.2.1 + 100 * q.2.2.2
  omega
theorem m_endT (T : MT s ib p) (H : mSP (s.2 0) S) (K : sp_nc S) : ∃ t, mfq [0, 7] s t ∧ (match pEnd ib S p with
    | .inl e => f_X9_readText_b20 D b o s = some (false, t) ∧ t.1 16 = nI e.1 ∧ t.1 17 = nI e.2
    | .inr _ => f_X9_readText_b20 D b o s = some (true, t) ∧ t = s) := by
  obtain ⟨⟨⟨l1, l2, l3, l4, l5⟩, ⟨n1, n2, n3⟩, ts, ⟨i1, i2, i3⟩, is⟩, _⟩ := id K
  have z : ∀ n : Nat, n < 100 → ((nI n = 0) ↔ n = 0) := fun n hn => ⟨fun e => by
    by_cases c : n = 0
    · exact c
    · exact absurd e (nI_ne (b := 0) (by omega) (by decide) c), fun e => by rw [e]; rfl⟩
  obtain ⟨bf, tf, ef, Ff, Mf⟩ := MT.fail (α := Nat) (D := D) (b := b) (o := o) (W := [0, 7]) (Q := fun _ _ => True) T 6
  have e47 : f_X9_readText_b47 D b o s = some (bf, tf) := by
    unfold f_X9_readText_b47
    rw [gx_b2_id]
    exact ef
  obtain ⟨rfl, f1, f2⟩ := Mf
  unfold f_X9_readText_b20 pEnd
  rw [ms_w (x := 0) (k := 0) rfl (by decide), Option.bind_some, H.1.1]
  by_cases c1 : S.1.sn.length = 0
  · rw [if_pos ((z _ (by omega)).2 c1), if_pos (Or.inl c1)]
    exact ⟨tf, Ff, e47, f1, f2⟩
  rw [if_neg (fun h => c1 ((z _ (by omega)).1 h)), ms_w (x := 1) (k := 1) rfl (by decide), Option.bind_some, H.1.2.1]
  by_cases c2 : S.1.en.length = 0
  · rw [if_pos ((z _ (by omega)).2 c2), if_pos (Or.inr (Or.inl c2))]
    exact ⟨tf, Ff, e47, f1, f2⟩
  rw [if_neg (fun h => c2 ((z _ (by omega)).1 h)), ms_w (x := 2) (k := 2) rfl (by decide), Option.bind_some, H.1.2.2.1]
  by_cases c3 : S.1.vn.length = 0
  · rw [if_pos ((z _ (by omega)).2 c3), if_pos (Or.inr (Or.inr c3))]
    exact ⟨tf, Ff, e47, f1, f2⟩
  rw [if_neg (fun h => c3 ((z _ (by omega)).1 h)), if_neg (by simp only [not_or]; exact ⟨c1, c2, c3⟩), m_start rfl H.1.2.2.2.2.2.2.2 i2, Option.bind_some, m_broken H.2.1 l5 is i1, Option.bind_some]
  cases eb : brk S.2 S.1.ini with
  | none =>
    rw [if_pos oI_nn]
    exact ⟨s, mfq.rf, rfl, rfl⟩
  | some k =>
    have hk := brk_lt eb
    obtain ⟨b7, t7, e7, F7, M7⟩ := MT.fail (α := Nat) (D := D) (b := b) (o := o) (W := [0, 7]) (Q := fun _ _ => True) T 7
    obtain ⟨rfl, g1, g2⟩ := M7
    have e7 : f_X9_failsAt D b o s 7 = some (false, t7) := e7
    rw [if_neg (oI_sne (show k < 2 ^ 31 by omega)), e7, pl_b2_s, if_neg Bool.false_ne_true]
    exact ⟨t7, F7, rfl, g1, g2⟩
theorem m_begins : ∃ w, f_X9_begins D b o s = some (mw s w) ∧ ∀ k, k < 504 → w k = 0 := by
  obtain ⟨z, ⟨hz2, w, hz1, g⟩, ez⟩ := gx_lq (F := fun f (z : MS × Int32) => f_X9_begins_b2 D b o f z.1 z.2) (I := fun i z => z.2 = nI i ∧ ∃ w, z.1 = mw s w ∧ ∀ k, k < i → w k = 0) 504 (by
    intro f i z hi hI
    obtain ⟨z, q⟩ := z
    obtain ⟨rfl, w, rfl, g⟩ : q = nI i ∧ ∃ w, z = mw s w ∧ _ := hI
    refine ⟨(mw s (upd w i 0), nI (i + 1)), ⟨rfl, _, rfl, fun k hk => ?_⟩, ?_⟩
    · by_cases c : k = i
      · rw [c, pk_us]
      · rw [pk_un c]; exact g k (by omega)
    · show f_X9_begins_b2 D b o (f + 1) (mw s w) (nI i) = _
      simp only [f_X9_begins_b2, if_neg (show ¬ (504 : Int32) ≤ nI i from nI_ge hi (by decide)), mw_y (x := nI i) (k := i) rfl hi, Option.bind_some, gx_c1]) 504 0 gx_fuel (s, 0) (by omega) (by rw [pl_fl]; omega) ⟨rfl, s.2 0, mw_s, fun k hk => by omega⟩
  obtain ⟨z, q⟩ := z
  have hz2 : q = nI 504 := hz2
  have hz1 : z = mw s w := hz1
  subst hz2 hz1
  obtain ⟨f, hf⟩ : ∃ f, gx_fuel - 504 = f + 1 := ⟨gx_fuel - 505, by rw [pl_fl]⟩
  rw [hf] at ez
  refine ⟨w, ?_, g⟩
  unfold f_X9_begins
  have ez : f_X9_begins_b2 D b o gx_fuel s 0 = f_X9_begins_b2 D b o (f + 1) (mw s w) (nI 504) := ez
  rw [ez]
  simp only [f_X9_begins_b2, if_pos (show (504 : Int32) ≤ nI 504 by decide)]
theorem mSP0 {w : Nat → Int32} (h : ∀ k, k < 504 → w k = 0) : mSP w S0 := by
  have nn : ∀ c, m_nm w c [] := fun c k x hk => by simp at hk
  refine ⟨⟨h 0 (by decide), h 1 (by decide), h 2 (by decide), ⟨h 3 (by decide), fun k t hk => by have hk : ([] : List TR)[k]? = some t := hk; simp at hk⟩, nn _, nn _, nn _, fun v hv => ?_⟩, ⟨h 4 (by decide), fun k i hk => by have hk : ([] : List IV)[k]? = some i := hk; simp at hk⟩, fun k hk => h k (by omega)⟩
  rw [h _ (by omega)]
  match v, hv with
  | 0, _ => rfl
  | 1, _ => rfl
  | 2, _ => rfl
  | n + 3, hv => omega
theorem sp_nc0 : sp_nc S0 := ⟨sp_ok0, fun x hx => (by cases hx), fun x hx => (by cases hx), fun x hx => by cases hx⟩
/-- the text begins -/
theorem m_startsText (I : m_in s ib) (hb : ib_ok ib) : ∃ t, f_X9_startsText D b o s = some t ∧ MT t ib 0 ∧ t.1 17 = -1 ∧ (∀ j, (j < 16 ∨ 22 < j) → j ≠ 26 → t.1 j = s.1 j) ∧ t.1 26 = 0 ∧ ∀ q, t.2 q = s.2 q := by
  unfold f_X9_startsText ms_pf
  rw [Option.bind_some, Option.bind_some, Option.bind_some, Option.bind_some]
  obtain ⟨t, e, T, q, q17, q7, q22⟩ := m_advance (D := D) (b := b) (o := o) (p := 0) (s := ms_p (ms_p (ms_p (ms_p s 16 0) 17 (-1)) 26 0) 18 0) (ib := ib) I hb (Nat.zero_le _) rfl rfl
  refine ⟨t, by rw [e, Option.bind_some], T, q17, fun j hj h26 => ?_, ?_, fun k => ?_⟩
  · rw [q.1 j hj]
    show (if j = 18 then _ else if j = 26 then _ else if j = 17 then _ else if j = 16 then _ else s.1 j) = _
    rw [if_neg (by omega), if_neg h26, if_neg (by omega), if_neg (by omega)]
  · rw [q.1 26 (Or.inr (by decide))]
    rfl
  · by_cases c : k = 7
    · rw [c, q7]; rfl
    · rw [q.2 k c]; rfl
theorem m_readText (KS : KM D b o) (T : MT s ib 0) (hb : ib_ok ib) : ∃ t, mfq [0, 7] s t ∧ (match pSetup ib with
    | .inl e => f_X9_readText D b o s = some (false, t) ∧ t.1 16 = nI e.1 ∧ t.1 17 = nI e.2
    | .inr S => f_X9_readText D b o s = some (true, t) ∧ t.1 16 = 0 ∧ t.1 17 = s.1 17 ∧ mSP (t.2 0) S ∧ sp_nc S) := by
  obtain ⟨w, ew, hw⟩ := m_begins (D := D) (b := b) (o := o) (s := s)
  have hl := hb.1
  obtain ⟨t, F, M⟩ := m_loop KS hb 701 701 0 (mw s w) S0 gx_fuel 1000 (Nat.le_refl _) (by omega) (Nat.zero_le _) (T.w w) (by rw [mw_2]; exact mSP0 hw) sp_nc0 (by rw [pl_fl]; decide) (by decide)
  have F0 : mfq [0, 7] s t := ((mw_F (s := s) (w := w)).up (by simp)).tr F
  have rt : f_X9_readText D b o s = f_X9_readText_b4 D b o gx_fuel (mw s w) := by
    unfold f_X9_readText
    rw [ew, Option.bind_some]
  have ps : pSetup ib = match pLoop ib 1000 S0 0 with
      | .inl e => .inl e
      | .inr v => pEnd ib v.1 v.2 := by
    unfold pSetup
    cases pLoop ib 1000 S0 0 with
    | inl e => rfl
    | inr v => rfl
  rw [ps, rt]
  cases em : pLoop ib 1000 S0 0 with
  | inl e =>
    rw [em] at M
    exact ⟨t, F0, M⟩
  | inr v =>
    rw [em] at M
    obtain ⟨m1, m2, m3, m4, m5⟩ := M
    obtain ⟨t2, F2, M2⟩ := m_endT (D := D) (b := b) (o := o) m2 m3 m4
    rw [m1]
    refine ⟨t2, F0.tr F2, ?_⟩
    simp only
    cases ee : pEnd ib v.1 v.2 with
    | inl e => rw [ee] at M2; exact M2
    | inr S' =>
      rw [ee] at M2
      obtain ⟨m6, rfl⟩ := M2
      have eS : S' = v.1 := by
        unfold pEnd at ee
        split at ee
        · cases ee
        · split at ee
          · cases ee
          · cases ee; rfl
      subst eS
      exact ⟨m6, m2.2.1, (F0.1.2 m2.2.1).2, m3, m4⟩
/-- a machine starts -/
theorem m_starts (H : mSP (s.2 0) S) (K : sp_nc S) (hF : df_ok S.1) : ∃ w, f_X9_starts D b o s = some (mw s w) ∧ m_df w S.1 ∧ m_rn w (rnNew S) := by
  obtain ⟨q1, q2, q3⟩ := H
  have ini := q1.2.2.2.2.2.2.2
  have i0 := K.1.2.2.2.1.2.1
  -- the loop
  obtain ⟨z, ⟨hz2, w, hz1, g1, g2⟩, ez⟩ := gx_lq (F := fun f (z : MS × Int32) => f_X9_goesToStart_b9 D b o f z.1 z.2) (I := fun i z => z.2 = nI i ∧ ∃ w, z.1 = mw s w ∧ (∀ k, k < 6 ∨ 9 ≤ k → w k = upd (s.2 0) 5 0 k) ∧ ∀ v, v < i → w (6 + v) = nI (cf_val S.1.ini v)) 3 (by
    intro f i z hi hI
    obtain ⟨z, q⟩ := z
    obtain ⟨rfl, w, rfl, g1, g2⟩ : q = nI i ∧ ∃ w, z = mw s w ∧ _ := hI
    have r9 : w (9 + i) = nI (cf_val S.1.ini i) := by rw [g1 _ (by omega), pk_un (by omega)]; exact ini i hi
    refine ⟨(mw s (upd w (6 + i) (nI (cf_val S.1.ini i))), nI (i + 1)), ⟨rfl, _, rfl, fun k hk => by rw [pk_un (by omega)]; exact g1 k hk, fun v hv => ?_⟩, ?_⟩
    · by_cases c : v = i
      · rw [c, pk_us]
      · rw [pk_un (by omega)]; exact g2 v (by omega)
    · show f_X9_goesToStart_b9 D b o (f + 1) (mw s w) (nI i) = _
      simp only [f_X9_goesToStart_b9, if_neg (show ¬ (3 : Int32) ≤ nI i from nI_ge hi (by decide)), show (9 : Int32) + nI i = nI (9 + i) from nI_add 9 i, show (6 : Int32) + nI i = nI (6 + i) from nI_add 6 i, mw_r (x := nI (9 + i)) (k := 9 + i) rfl (by omega), r9, mw_y (x := nI (6 + i)) (k := 6 + i) rfl (by omega), Option.bind_some, gx_c1]) 3 0 gx_fuel (mw s (upd (s.2 0) 5 0), 0) (by omega) (by rw [pl_fl]; omega) ⟨rfl, _, rfl, fun k hk => rfl, fun v hv => by omega⟩
  obtain ⟨z, q⟩ := z
  have hz2 : q = nI 3 := hz2
  have hz1 : z = mw s w := hz1
  subst hz2 hz1
  obtain ⟨f, hf⟩ : ∃ f, gx_fuel - 3 = f + 1 := ⟨gx_fuel - 4, by rw [pl_fl]⟩
  rw [hf] at ez
  have ez : f_X9_goesToStart_b9 D b o gx_fuel (mw s (upd (s.2 0) 5 0)) 0 = f_X9_goesToStart_b9 D b o (f + 1) (mw s w) (nI 3) := ez
  refine ⟨upd (upd w 18 0) 59 1, ?_, ?_, ?_⟩
  · unfold f_X9_starts f_X9_goesToStart
    rw [mw_x (x := 5) (k := 5) rfl (by decide), Option.bind_some, ez]
    simp only [f_X9_goesToStart_b9, if_pos (show (3 : Int32) ≤ nI 3 by decide), f_X9_goesToStart_b38]
    rw [mw_y (x := 18) (k := 18) rfl (by decide), Option.bind_some, Option.bind_some, mw_y (x := 59) (k := 59) rfl (by decide), Option.bind_some]
  · refine m_df_ext q1 hF (fun i hi h => ?_)
    rw [pk_un (by omega), pk_un (by omega), g1 i (by omega), pk_un (by omega)]
  · have un : ∀ i, i ≠ 18 → i ≠ 59 → i < 6 ∨ 9 ≤ i → i ≠ 5 → upd (upd w 18 0) 59 1 i = s.2 0 i := fun i h1 h2 h3 h4 => by rw [pk_un h2, pk_un h1, g1 i h3, pk_un h4]
    refine ⟨m_ivs_ext q2 K.1.1.2.2.2.2 (fun i hi => un i (by omega) (by omega) (by omega) (by omega)), ?_, fun v hv => ?_, ?_, fun k h1 h2 => ?_, ?_, ?_, fun k hk => absurd hk (Nat.not_lt_zero k), fun k hk => ?_, fun k hk => ?_⟩
    · show upd (upd w 18 0) 59 1 5 = nI S.1.ini.1
      rw [pk_un (by decide), pk_un (by decide), g1 5 (by omega), pk_us, i0]
      rfl
    · rw [pk_un (by omega), pk_un (by omega)]
      exact g2 v hv
    · rw [un 12 (by omega) (by omega) (by omega) (by omega)]
      exact q3 12 (by omega)
    · rw [un _ (by omega) (by omega) (by omega) (by omega)]
      exact q3 _ (by omega)
    · rw [un 17 (by omega) (by omega) (by omega) (by omega), q3 17 (by omega)]
      show (0 : Int32) = 0 + 0 + 0 + 0
      decide
    · rw [pk_un (by decide), pk_us]
      rfl
    · show upd (upd w 18 0) 59 1 (59 + k) = if k = S.1.ini.1 then 1 else 0
      rw [i0]
      by_cases c : k = 0
      · subst c
        rw [if_pos rfl]
        exact pk_us ..
      · rw [if_neg c, un _ (by omega) (by omega) (by omega) (by omega)]
        exact q3 _ (by omega)
    · show upd (upd w 18 0) 59 1 (69 + k) = 0
      rw [un _ (by omega) (by omega) (by omega) (by omega)]
      exact q3 _ (by omega)
end MLD
/-- everything else stays -/
theorem mI.oth {s t : MS} {F : DF} {R : RN} {sv : Option RN} {hs : List RN} {ib ob : List Nat} {ec eo : Int32} (H : mI s (F, R, sv, hs, ib, ec, eo, ob)) (f : ∀ j, j = 4 ∨ j = 5 ∨ j = 30 → t.1 j = s.1 j) (g : ∀ q, q = 2 ∨ q = 3 ∨ q = 12 → t.2 q = s.2 q) : m_hs t F hs ∧ m_sv t F sv ∧ m_out t ob := by
  obtain ⟨q1, q2, q3, q4, q5, q6, q7, q8⟩ := H
  refine ⟨?_, ?_, ?_⟩
  · unfold m_hs
    rw [f 4 (by simp), g 3 (by simp)]
    exact q3
  · have q4 : m_sv s F sv := q4
    revert q4
    cases sv with
    | none => intro q; show t.1 5 = 0; rw [f 5 (by simp)]; exact q
    | some R => intro q; show t.1 5 = 1 ∧ m_df (t.2 2) F ∧ m_rn (t.2 2) R; rw [f 5 (by simp), g 2 (by simp)]; exact q
  · unfold m_out
    rw [f 30 (by simp), g 12 (by simp)]
    exact q8
theorem m_endsText {D : gx_D} {b : HX} {o : Nat} {s : MS} : ∃ t, f_X9_endsText D b o s = some t ∧ (∀ j, j ≠ 13 → j ≠ 14 → j ≠ 15 → t.1 j = s.1 j) ∧ t.1 13 = 0 ∧ t.1 14 = s.1 16 ∧ t.1 15 = s.1 17 ∧ ∀ q, t.2 q = s.2 q := by
  refine ⟨_, rfl, fun j h1 h2 h3 => ?_, rfl, rfl, rfl, fun _ => rfl⟩
  show (if j = 15 then _ else if j = 14 then _ else if j = 13 then _ else s.1 j) = s.1 j
  rw [if_neg h3, if_neg h2, if_neg h1]
theorem mc_loadMachine {D : gx_D} {b : HX} {o : Nat} {s : MS} {A : AT} (KS : KM D b o) (H : mI s A) (hA : a_ok A) (hb : ib_ok A.2.2.2.2.1) : ∃ r t A', f_X9_loadMachine D b o s = some (r, t) ∧ mI t A' ∧ (match pSetup A.2.2.2.2.1 with
    | .inl e => r = -1 ∧ A' = (A.1, A.2.1, A.2.2.1, A.2.2.2.1, [], nI e.1, nI e.2, A.2.2.2.2.2.2.2)
    | .inr S => r = nI S.1.sn.length ∧ A' = (S.1, rnNew S, none, [], [], 0, -1, A.2.2.2.2.2.2.2)) := by
  obtain ⟨F, R, sv, hs, ib, ec, eo, ob⟩ := A
  have hb : ib_ok ib := hb
  obtain ⟨q1, q2, q3, q4, q5, q6, q7, q8⟩ := id H
  have q5 : m_in s ib := q5
  obtain ⟨g, cg, hg⟩ := m_copies (D := D) (b := b) (o := o) (s := ms_p s 6 0) (i := 0) (j := 1) (a := 0) (c := 0) (x := 0) (y := 0) rfl rfl (by decide) (by decide) rfl rfl (by decide) (by decide) (by decide)
  obtain ⟨s3, hs3⟩ : ∃ s3 : MS, s3 = ((ms_p s 6 0).1, fun q => if q = 1 then g else (ms_p s 6 0).2 q) := ⟨_, rfl⟩
  rw [← hs3] at cg
  have a3 : ∀ q, q ≠ 1 → s3.2 q = s.2 q := fun q hq => by rw [hs3]; exact if_neg hq
  have a31 : s3.2 1 = g := by
    rw [hs3]
    show (if (1 : Nat) = 1 then g else (ms_p s 6 0).2 1) = g
    rw [if_pos rfl]
  have f3 : ∀ j, j ≠ 6 → s3.1 j = s.1 j := fun j hj => by rw [hs3]; exact ms_p1n hj
  have I3 : m_in s3 ib := ⟨(f3 13 (by decide)).trans q5.1, fun k c hk => by rw [a3 6 (by decide)]; exact q5.2 k c hk⟩
  obtain ⟨s5, e5, T5, o5, f5, _, a5⟩ := m_startsText (D := D) (b := b) (o := o) I3 hb
  obtain ⟨s8, F8, M8⟩ := m_readText KS T5 hb
  obtain ⟨s10, e10, f10, z13, z14, z15, a10⟩ := m_endsText (D := D) (b := b) (o := o) (s := s8)
  -- frames so far
  have fr : ∀ j, (j < 16 ∨ 22 < j) → j ≠ 26 → j ≠ 6 → j ≠ 13 → j ≠ 14 → j ≠ 15 → s10.1 j = s.1 j := fun j h1 h2 h3 h4 h5 h6 => by rw [f10 j h4 h5 h6, F8.1.1 j h1, f5 j h1 h2, f3 j h3]
  have ar : ∀ q, q ≠ 0 → q ≠ 1 → q ≠ 7 → s10.2 q = s.2 q := fun q h0 h1 h7 => by rw [a10, F8.2 q (by simp [h0, h7]), a5, a3 q h1]
  have ar1 : s10.2 1 = g := by rw [a10, F8.2 1 (by decide), a5, a31]
  have st : f_X9_loadMachine D b o s = gx_b2 (f_X9_readText D b o s5) fun b7 h8 => (f_X9_endsText D b o h8).bind fun h10 => if b7 = true then (f_X9_starts D b o h10).bind fun h13 => (ms_pf h13 4 (0 : Int32)).bind fun h14 => (ms_pf h14 5 (0 : Int32)).bind fun h15 => (ms_ai h15 0 (0 : Int32)).bind fun x16 => some (x16, h15) else (f_X9_copies D b o h10 1 (0 : Int32) 0 (0 : Int32)).bind fun h21 => some ((-1 : Int32), h21) := by
    unfold f_X9_loadMachine
    show ((some (ms_p s 6 0)).bind fun h1 => _) = _
    rw [Option.bind_some, cg, Option.bind_some, e5, Option.bind_some]
  rw [st]
  show ∃ r t A', _ ∧ mI t A' ∧ (match pSetup ib with
    | .inl e => r = -1 ∧ A' = (F, R, sv, hs, [], nI e.1, nI e.2, ob)
    | .inr S => r = nI S.1.sn.length ∧ A' = (S.1, rnNew S, none, [], [], 0, -1, ob))
  have nin : ∀ t : MS, t.1 13 = 0 → m_in t [] := fun t h => ⟨h, fun k c hk => by simp at hk⟩
  cases es : pSetup ib with
  | inl e =>
    rw [es] at M8
    obtain ⟨m1, m2, m3⟩ := M8
    rw [m1, pl_b2_s, e10, Option.bind_some, if_neg Bool.false_ne_true]
    obtain ⟨g', cg', hg'⟩ := m_copies (D := D) (b := b) (o := o) (s := s10) (i := 1) (j := 0) (a := 0) (c := 0) (x := 0) (y := 0) rfl rfl (by decide) (by decide) rfl rfl (by decide) (by decide) (by decide)
    rw [cg', Option.bind_some]
    obtain ⟨t, ht⟩ : ∃ t : MS, t = (s10.1, fun q => if q = 0 then g' else s10.2 q) := ⟨_, rfl⟩
    rw [← ht]
    have ta : ∀ q, q ≠ 0 → t.2 q = s10.2 q := fun q hq => by rw [ht]; exact if_neg hq
    have t0 : t.2 0 = g' := by
      rw [ht]
      show (if (0 : Nat) = 0 then g' else s10.2 0) = g'
      rw [if_pos rfl]
    have tf : ∀ j, t.1 j = s10.1 j := fun j => by rw [ht]
    have w0 : ∀ k, k < 504 → g' k = s.2 0 k := fun k hk => by
      rw [hg' k, if_pos (by omega), ar1, hg _, if_pos (by omega)]
      show s.2 0 (0 + (0 + (k - 0) - 0)) = s.2 0 k
      rw [show 0 + (0 + (k - 0) - 0) = k by omega]
    obtain ⟨o1, o2, o3⟩ := H.oth (t := t) (fun j hj => by rw [tf]; exact fr j (by omega) (by omega) (by omega) (by omega) (by omega) (by omega)) (fun q hq => by rw [ta q (by omega)]; exact ar q (by omega) (by omega) (by omega))
    refine ⟨-1, t, (F, R, sv, hs, [], nI e.1, nI e.2, ob), rfl, ⟨?_, ?_, o1, o2, nin t (by rw [tf]; exact z13), ?_, ?_, o3⟩, rfl, rfl⟩
    · rw [t0]
      exact m_df_ext q1 hA.1 (fun i hi _ => w0 i hi)
    · rw [t0]
      exact m_rn_ext q2 hA.2.1 (fun i hi => w0 i hi)
    · rw [tf, z14]; exact m2
    · rw [tf, z15]; exact m3
  | inr S =>
    rw [es] at M8
    obtain ⟨m1, m2, m3, m4, m5⟩ := M8
    obtain ⟨p, k1, k2, k3⟩ := pSetup_ok es
    have hF := sp_df m5.1 k2
    rw [m1, pl_b2_s, e10, Option.bind_some, if_pos rfl]
    obtain ⟨w, ew, w1, w2⟩ := m_starts (D := D) (b := b) (o := o) (s := s10) (S := S) (by rw [a10]; exact m4) m5 hF
    rw [ew, Option.bind_some]
    show ∃ r t A', ((some (ms_p (mw s10 w) 4 0)).bind fun h14 => (some (ms_p h14 5 0)).bind fun h15 => (ms_ai h15 0 (0 : Int32)).bind fun x16 => some (x16, h15)) = some (r, t) ∧ _
    rw [Option.bind_some, Option.bind_some, ms_w (x := 0) (k := 0) rfl (by decide), Option.bind_some]
    obtain ⟨t, ht⟩ : ∃ t : MS, t = ms_p (ms_p (mw s10 w) 4 0) 5 0 := ⟨_, rfl⟩
    rw [← ht]
    have ta : ∀ q, q ≠ 0 → t.2 q = s10.2 q := fun q hq => by rw [ht]; exact mw_2' hq
    have t0 : t.2 0 = w := by
      rw [ht]
      show (mw s10 w).2 0 = w
      exact mw_2
    have tf : ∀ j, j ≠ 4 → j ≠ 5 → t.1 j = s10.1 j := fun j h4 h5 => by rw [ht, ms_p1n h5, ms_p1n h4]; rfl
    have t4 : t.1 4 = 0 := by rw [ht]; rfl
    have t5 : t.1 5 = 0 := by rw [ht]; rfl
    have w00 : t.2 0 0 = nI S.1.sn.length := by rw [t0]; exact w1.1
    refine ⟨nI S.1.sn.length, t, (S.1, rnNew S, none, [], [], 0, -1, ob), by rw [w00], ⟨?_, ?_, ⟨t4, fun j R hj => by simp at hj⟩, t5, nin t (by rw [tf 13 (by decide) (by decide)]; exact z13), ?_, ?_, ?_⟩, rfl, rfl⟩
    · rw [t0]; exact w1
    · rw [t0]; exact w2
    · rw [tf 14 (by decide) (by decide), z14]; exact m2
    · rw [tf 15 (by decide) (by decide), z15, m3, o5]
    · have q8 : m_out s ob := q8
      show m_out t ob
      unfold m_out
      rw [tf 30 (by decide) (by decide), fr 30 (by omega) (by decide) (by decide) (by decide) (by decide) (by decide), ta 12 (by decide), ar 12 (by decide) (by decide) (by decide)]
      exact q8
