/-! the component's parser goes on to the next token -/
set_option maxRecDepth 100000
set_option linter.unusedSimpArgs false
theorem kx.sbx {h h1 h2 : HX} {k : Nat} (x : kx h h1 [] k) (lo : ∀ z, z < h.1 → h2.2.2 z = h1.2.2 z) (e1 : h2.1 = h1.1) (e2 : h2.2.1 = h1.2.1) (w : hx_wf h2) : kx h h2 [] k := ⟨by rw [e1]; exact x.1, w, fun z hz n => (lo z hz).trans (x.2.2.1 z hz n), by rw [e1]; exact x.2.2.2.1, by rw [e2]; exact x.2.2.2.2.1, by rw [e2]; exact x.2.2.2.2.2⟩
theorem chr_q {c : Nat} (h : c < 65536) : (Int32.toUInt32 (nI c) % 65536).toInt32 = nI c := by
  rw [pk_char, pk_tn (by omega), Nat.mod_eq_of_lt h]
theorem c_text {D : gx_D} {g h : HX} {x inp n a ci st e : Nat} {ib : List Nat} {rest : List Value} {f0 f1 f2 : Int32} {wd tk : Option Nat} (E : EV D g x inp ib) (B : HB g n h) (P : pcl h a ci x rest f0 f1 f2 wd tk) (he : e ≤ ib.length) (hs : st ≤ e) (h8 : e - st ≤ 8) (ch : ∀ c, c ∈ cut ib st e → c < 128) : ∃ h1, f_X10_text D h a (nI st) (nI e) = some (some (h1.1 - 2), h1) ∧ kx h h1 [] 4 ∧ h.1 + 2 ≤ h1.1 - 2 ∧ 2 ≤ h1.1 ∧ wst h1 (h1.1 - 2) (cut ib st e) ∧ hx_str (hxN h.1 h1) (h1.1 - 2) (cut ib st e) := by
  have hl := E.ok.1
  have w := B.1
  have n0 := ap_new (n := h.1) (h := h) (B := []) (s := 0) (m := 4) (ci := 1) (fs := gx_df1)
  rw [ap_0 w] at n0
  have i4 : f_J8_init D (hx_ap h.1 h ([] ++ [.inr (1, gx_df1)]) (0 + 4)) (h.1 + ([] : List gx_E).length) = some (hx_ap h.1 h [.inr (1, [.ref (h.1 + 1), .int 0, .int 0, .int 0]), .inl (1, 16, .inl fun _ => 0)] 20) := by
    simp [f_J8_init, f_J7_init, gx_df1, ap_new, ap_pv, ap_pv0, ap_gv, ap_gv0, ap_is, ap_is0, ap_len, ap_len0, hx_gi_r, hx_gr_r, hx_pr, hx_pi, gx_b2, gx_bx, Nat.add_assoc, va_rf_s, va_rf_n, hx_okr_n, ap_okr, ap_newa (x := 16) (k := 16) rfl (by decide)]
  obtain ⟨h4, hh4⟩ : ∃ h4, h4 = hx_ap h.1 h [.inr (1, [.ref (h.1 + 1), .int 0, .int 0, .int 0]), .inl (1, 16, .inl fun _ => 0)] 20 := ⟨_, rfl⟩
  have x4 : kx h h4 [] 2 := by rw [hh4]; exact kx.ap (B := [.inr (1, [.ref (h.1 + 1), .int 0, .int 0, .int 0]), .inl (1, 16, .inl fun _ => 0)]) (show 20 ≤ 12 * 2 by decide)
  have s4 : hx_sb8 h4 h.1 (h.1 + 1) 16 [] := by
    rw [hh4]
    refine ⟨0, fun _ => 0, ap_at0, ap_at, by decide, by decide, fun k c hk => by simp at hk, fun k _ => b128f (c := 0) (by decide)⟩
  have z4 : h4.1 = h.1 + 2 ∧ h4.2.1 = h.2.1 + 20 := by rw [hh4]; exact ⟨rfl, rfl⟩
  have B4 := B.kx x4 (by simp)
  -- the loop
  obtain ⟨r, er, q1, q2, q3, q4, q5⟩ := gx_lp (F := fun f (s : HX × Int32) => f_X10_text_b11 D f s.1 a (nI e) (some h.1) s.2) (I := fun i (s : HX × Int32) => s.2 = nI (st + i) ∧ hx_sb8 s.1 h.1 (h.1 + 1) 16 (cut ib st (st + i)) ∧ kx h s.1 [] 2 ∧ s.1.1 = h.1 + 2 ∧ s.1.2.1 = h.2.1 + 20) (Q := fun r => r.1 = some (r.2.1 - 2) ∧ kx h r.2 [] 4 ∧ r.2.1 = h.1 + 4 ∧ wst r.2 (r.2.1 - 2) (cut ib st e) ∧ hx_str (hxN h.1 r.2) (r.2.1 - 2) (cut ib st e)) (e - st) (by
    intro f i s hi hI
    obtain ⟨y, k⟩ := s
    obtain ⟨rfl, S, X, e1, e2⟩ : k = nI (st + i) ∧ _ := hI
    have S : hx_sb8 y h.1 (h.1 + 1) 16 (cut ib st (st + i)) := S
    have X : kx h y [] 2 := X
    have e1 : y.1 = h.1 + 2 := e1
    have e2 : y.2.1 = h.2.1 + 20 := e2
    have lt : st + i < ib.length := by omega
    have ec : ib[st + i]? = some ib[st + i] := List.getElem?_eq_getElem lt
    have c128 : ib[st + i] < 128 := ch _ (by
      refine List.mem_of_getElem? (i := i) ?_
      rw [cut_at (by omega), ec])
    have cl : (cut ib st (st + i)).length = i := by rw [cut_len (by omega)]; omega
    obtain ⟨y1, ov1, cap1, t1, t2, t3, t4⟩ := sb_chr (D := D) X.2.1 S c128 (by omega)
    obtain ⟨t5, t6, t7, t8⟩ := t4 (by omega)
    subst t7 t8
    refine Or.inl ⟨(y1, nI (st + (i + 1))), ⟨rfl, ?_, ?_, ?_, ?_⟩, ?_⟩
    · rw [show st + (i + 1) = st + i + 1 by omega, cut_s ec (by omega)]
      exact t2
    · exact X.sbx (fun z hz => t3.2.2.2.1 z (by omega) (by omega) (by omega)) t5 t6 t3.2.1
    · show y1.1 = _; omega
    · show y1.2.1 = _; omega
    · have By := B.kx X (by simp)
      have at' := c_at E By (P.kx w X (by simp)) (show st + i < 2 ^ 31 by omega)
      have ai : atI ib (st + i) = nI ib[st + i] := by unfold atI; rw [ec]
      simp only [f_X10_text_b11, if_neg (nI_ge (show st + i < e by omega) (show e < 2 ^ 31 by omega)), at', ai, Option.bind_some, chr_q (show ib[st + i] < 65536 by omega), t1, pl_b2_s, gx_c1, Nat.add_assoc]) (by
    intro f s hI
    obtain ⟨y, k⟩ := s
    obtain ⟨rfl, S, X, e1, e2⟩ : k = nI (st + (e - st)) ∧ _ := hI
    have S : hx_sb8 y h.1 (h.1 + 1) 16 (cut ib st (st + (e - st))) := S
    have X : kx h y [] 2 := X
    have e1 : y.1 = h.1 + 2 := e1
    have e2 : y.2.1 = h.2.1 + 20 := e2
    rw [show st + (e - st) = e by omega] at S
    have cl : (cut ib st e).length = e - st := cut_len he
    obtain ⟨fs, t1, t2⟩ := c_toString (D := D) X.2.1 S (by omega)
    refine ⟨(some y.1, hx_ap y.1 y [.inr (2, [.ref (y.1 + 1), .int 0, .int 0, .int 0]), .inl (1, (cut ib st e).length, .inl fs)] (4 + (cut ib st e).length)), ?_, ?_, ?_, ?_, ?_, ?_⟩
    · simp only [f_X10_text_b11, show st + (e - st) = e by omega, if_pos (nI_le (Nat.le_refl e) (show e < 2 ^ 31 by omega)), f_X10_text_b35, Option.bind_some, t1, pl_b2_s]
    · show some y.1 = some (y.1 + 2 - 2)
      rfl
    · exact (X.tr (kx.ap (B := [.inr (2, [.ref (y.1 + 1), .int 0, .int 0, .int 0]), .inl (1, (cut ib st e).length, .inl fs)]) (show 4 + (cut ib st e).length ≤ 12 * 2 by omega))).up (by simp) (by simp)
    · show y.1 + 2 = _
      omega
    · show wst _ y.1 _
      exact ⟨true, y.1 + 1, fs, 0, 0, ap_at0, ⟨true, ap_at (j := 1)⟩, by omega, t2, fun e => absurd rfl e, fun e => absurd rfl e, fun _ _ => rfl⟩
    · show hx_str _ y.1 _
      exact ⟨y.1 + 1, _, _, fs, ⟨true, (hxN_of (by omega)).trans ap_at0⟩, ⟨true, (hxN_of (by omega)).trans (ap_at (j := 1))⟩, by omega, t2⟩) (e - st) 0 gx_fuel (h4, nI st) (by omega) (by rw [pl_fl]; omega) ⟨rfl, by rw [show st + 0 = st from rfl, cut_0]; exact s4, x4, z4.1, z4.2⟩
  obtain ⟨r1, r2⟩ := r
  have q1 : r1 = some (r2.1 - 2) := q1
  have q3 : r2.1 = h.1 + 4 := q3
  refine ⟨r2, ?_, q2, by omega, by omega, q4, q5⟩
  unfold f_X10_text
  rw [P.g.1, Option.bind_some, n0, pl_b2_s, i4, Option.bind_some, ← hh4]
  show f_X10_text_b11 D gx_fuel h4 a (nI e) (some (h.1 + 0)) (nI st) = _
  rw [Nat.add_zero]
  have er : f_X10_text_b11 D gx_fuel h4 a (nI e) (some h.1) (nI st) = some (r1, r2) := er
  rw [er, q1]
/-- a number -/
theorem pi_step : ∀ m, m < 100 → ∀ d, d < 10 → (-214748364 : Int32) ≤ -(nI m) ∧ (-2147483647 : Int32) + nI d ≤ -(nI m) * 10 ∧ -(nI m) * 10 - nI d = -(nI (10 * m + d)) := by decide +kernel
theorem c_parseInt {D : gx_D} {g h : HX} {x inp n w : Nat} {ib ds : List Nat} (E : EV D g x inp ib) (B : HB g n h) (H : hx_str h w ds) (h0 : 0 < ds.length) (h3 : ds.length ≤ 3) (hd : ∀ c, c ∈ ds → isD c = true) : f_J16_parseInt D h (some w) = some (nI (numV ds)) := by
  have len := str_len (D := D) H
  have dg : ∀ k, (hk : k < ds.length) → 48 ≤ ds[k] ∧ ds[k] ≤ 57 := fun k hk => by
    have := hd _ (List.getElem_mem hk)
    unfold isD at this
    rw [Bool.and_eq_true, decide_eq_true_eq, decide_eq_true_eq] at this
    exact this
  obtain ⟨m, fd, d1, d2, d3, d4⟩ := E.2.2.2.2.2.1
  have d1 := d1.sub B.2.1
  have dig : ∀ k, (hk : k < ds.length) → f_J19_digit D h (nI ds[k]) 10 = some (nI (ds[k] - 48)) := fun k hk => by
    obtain ⟨a1, a2⟩ := dg k hk
    have e8 : (Int32.toUInt32 (nI ds[k]) >>> (Int32.toUInt32 (8 : Int32) &&& Int32.toUInt32 31)).toInt32 = 0 := by
      have : ∀ c, c < 58 → (Int32.toUInt32 (nI c) >>> (Int32.toUInt32 (8 : Int32) &&& Int32.toUInt32 31)).toInt32 = 0 := by decide +kernel
      exact this _ (by omega)
    have v := d4 (ds[k] - 48) (by omega)
    rw [show 48 + (ds[k] - 48) = ds[k] by omega] at v
    unfold f_J19_digit f_J19_digit_2 f_J20_of f_J21_digit
    rw [if_pos e8, Option.bind_some, Option.bind_some, if_pos rfl, d1.ai (by omega) (by omega), Option.bind_some, v, if_neg (nI_pos (by omega)), if_neg (show ¬ (10 : Int32) ≤ nI (ds[k] - 48) from nI_ge (show ds[k] - 48 < 10 by omega) (by decide)), if_neg (by decide), if_neg (by decide)]
    rfl
  obtain ⟨a1, a2⟩ := dg 0 h0
  unfold f_J16_parseInt f_J16_parseInt_2
  have c0 := str_chr (D := D) H h0
  rw [show nI 0 = 0 from rfl] at c0
  show (f_J16_parseInt_2 D h (some w) 10).bind _ = _
  unfold f_J16_parseInt_2
  simp only [gx_on, if_pos (show (2 : Int32) ≤ 10 by decide), if_pos (show (10 : Int32) ≤ 36 by decide), len, Option.bind_some, if_neg (nI_nle h0 (show ds.length < 2 ^ 31 by omega)), c0, if_pos (show (48 : Int32) ≤ nI ds[0] from (nI_leI (a := 48) (b := ds[0]) (by decide) (by omega)).2 a1)]
  unfold f_J16_parseInt_2_b166
  rw [if_neg (by decide), show (-2147483647 : Int32) / 10 = -214748364 by decide]
  obtain ⟨r, e1, e2⟩ := gx_lp (F := fun f (s : Int32 × Int32) => f_J16_parseInt_2_b175 D f h (some w) 10 false s.1 (nI ds.length) (-2147483647) (-214748364) s.2) (I := fun i s => s.1 = nI i ∧ s.2 = -(nI (numV (ds.take i)))) (Q := fun r => r = nI (numV ds)) ds.length (by
    intro fu i s hi hI
    obtain ⟨p, q⟩ := s
    obtain ⟨rfl, rfl⟩ : p = nI i ∧ q = -(nI (numV (ds.take i))) := hI
    obtain ⟨b1, b2⟩ := dg i hi
    have nl := numV_lt (ds.take i) 0 (fun c hc => hd c (List.mem_of_mem_take hc))
    rw [List.length_take, show min i ds.length = i by omega] at nl
    have n1 : numV (ds.take i) < 100 := by
      have : numV (ds.take i) < (0 + 1) * 10 ^ i := nl
      have h2 : 10 ^ i ≤ 10 ^ 2 := Nat.pow_le_pow_right (by decide) (by omega)
      omega
    obtain ⟨u1, u2, u3⟩ := pi_step _ n1 (ds[i] - 48) (by omega)
    refine Or.inl ⟨(nI (i + 1), -(nI (numV (ds.take (i + 1))))), ⟨rfl, rfl⟩, ?_⟩
    simp only [f_J16_parseInt_2_b175, if_neg (nI_ge hi (show ds.length < 2 ^ 31 by omega)), Option.bind_some, str_chr H hi, dig i hi, if_neg (nI_pos (show ds[i] - 48 < 2 ^ 31 by omega)), if_pos u1, if_pos u2, u3, gx_c1]
    rw [List.take_add_one, List.getElem?_eq_getElem hi]
    show _ = f_J16_parseInt_2_b175 D fu h (some w) 10 false (nI (i + 1)) (nI ds.length) (-2147483647) (-214748364) (-(nI (numV (ds.take i ++ [ds[i]]))))
    rw [numV_app]) (by
    intro fu s hI
    obtain ⟨p, q⟩ := s
    obtain ⟨rfl, rfl⟩ : p = nI ds.length ∧ q = -(nI (numV (ds.take ds.length))) := hI
    rw [List.take_length]
    refine ⟨nI (numV ds), ?_, rfl⟩
    simp only [f_J16_parseInt_2_b175, if_pos (nI_le (Nat.le_refl ds.length) (show ds.length < 2 ^ 31 by omega)), f_J16_parseInt_2_b245, if_neg Bool.false_ne_true, Int32.neg_neg]) ds.length 0 gx_fuel (0, 0) (by omega) (by rw [pl_fl]; omega) ⟨rfl, by show (0 : Int32) = -nI (numV []); decide⟩
  have e1 : f_J16_parseInt_2_b175 D gx_fuel h (some w) 10 false 0 (nI ds.length) (-2147483647) (-214748364) 0 = some r := e1
  rw [e1, e2]
  rfl
theorem HB.kp {g h h1 : HX} {n a : Nat} (H : HB g n h) (ha : n ≤ a) (hl : a < h.1) (k : hx_kp h h1 [a]) : HB g n h1 := H.kx (kx.kp H.1 (by simp [hl]) k) (by simp [ha])
/-- the parser's token: the one that begins at p -/
def PT (D : gx_D) (n : Nat) (h : HX) (a ci x : Nat) (rest : List Value) (ib : List Nat) (p : Nat) : Prop := ∃ vl w, pcl h a ci x rest (nI (adv ib p).1) (nI (adv ib p).2.1) vl (some w) (some (D.2.2.1 (120 + (adv ib p).2.2.2.1))) ∧ ((adv ib p).2.2.2.1 = 1 → vl = nI (adv ib p).2.2.1) ∧ wst h w (adv ib p).2.2.2.2 ∧ ((adv ib p).2.2.2.1 = 0 → n ≤ w ∧ hx_str (hxN n h) w (adv ib p).2.2.2.2) ∧ ((adv ib p).2.2.2.1 ≠ 0 → w = D.2.2.1 8)
theorem w97 {D : gx_D} {h : HX} {c : Nat} (hc : c < 256) : f_X1_isWithin D h (Int32.toInt64 (nI c)) 97 122 = some (isL c) := by
  have := f_within (D := D) (h := h) (nI c) (nI 97) (nI 122)
  rw [decide_eq_decide.2 (nI_leI (a := 97) (b := c) (by omega) (by omega)), decide_eq_decide.2 (nI_leI (a := c) (b := 122) (by omega) (by omega))] at this
  exact this
theorem w48 {D : gx_D} {h : HX} {c : Nat} (hc : c < 256) : f_X1_isWithin D h (Int32.toInt64 (nI c)) 48 57 = some (isD c) := by
  have := f_within (D := D) (h := h) (nI c) (nI 48) (nI 57)
  rw [decide_eq_decide.2 (nI_leI (a := 48) (b := c) (by omega) (by omega)), decide_eq_decide.2 (nI_leI (a := c) (b := 57) (by omega) (by omega))] at this
  exact this
theorem hx_str.N {h : HX} {n m a : Nat} {cs : List Nat} (H : hx_str (hxN m h) a cs) (hn : n ≤ m) : hx_str (hxN n h) a cs := H.sub fun z c e => by
  obtain ⟨e1, e2⟩ := hxN_ge e
  rw [hxN_of (by omega), e2]
theorem wst.pc {h h1 : HX} {a ci x w : Nat} {rest : List Value} {f0 f1 f2 : Int32} {wd tk : Option Nat} {cs : List Nat} (P : pcl h a ci x rest f0 f1 f2 wd tk) (wf : hx_wf h) (k : hx_kp h h1 [a]) (H : wst h w cs) : wst h1 w cs := by
  refine H.kx wf (kx.kp wf (by simp [wf.lt P.2]) k) (fun hw => ?_) (fun z hz c hc => ?_)
  · simp only [List.mem_cons, List.not_mem_nil, or_false] at hw
    subst hw
    obtain ⟨fl, v, f, hb, hc, e1, _⟩ := H
    rw [P.2] at e1
    rcases P.1 with e | e <;> subst e <;> cases e1
  · simp only [List.mem_cons, List.not_mem_nil, or_false] at hz
    subst hz
    rw [P.2] at hc
    cases hc
    exact ⟨_, _, rfl⟩
theorem hxN_kp {h h1 : HX} {n a ci x w : Nat} {rest : List Value} {f0 f1 f2 : Int32} {wd tk : Option Nat} {cs : List Nat} (P : pcl h a ci x rest f0 f1 f2 wd tk) (k : hx_kp h h1 [a]) (H : hx_str (hxN n h) w cs) : hx_str (hxN n h1) w cs := by
  obtain ⟨v, b, c, f, ⟨fl, h1'⟩, ⟨fl2, h2⟩, h3⟩ := H
  obtain ⟨c1, c2⟩ := hxN_ge h1'
  obtain ⟨c3, c4⟩ := hxN_ge h2
  refine ⟨v, b, c, f, ⟨fl, ?_⟩, ⟨fl2, ?_⟩, h3⟩
  · rw [hxN_of c1, k.2.2 w (fun hw => ?_), c2]
    simp only [List.mem_cons, List.not_mem_nil, or_false] at hw
    subst hw
    rw [P.2] at c2
    rcases P.1 with e | e <;> subst e <;> cases c2
  · rw [hxN_of c3, k.2.2 v (fun hw => ?_), c4]
    simp only [List.mem_cons, List.not_mem_nil, or_false] at hw
    subst hw
    rw [P.2] at c4
    cases c4
theorem c_advance {D : gx_D} {g h : HX} {x inp n a ci p : Nat} {ib : List Nat} {rest : List Value} {f0 f2 : Int32} {wd tk : Option Nat} (E : EV D g x inp ib) (B : HB g n h) (ha : n ≤ a) (P : pcl h a ci x rest f0 (nI p) f2 wd tk) (hp : p ≤ ib.length) : ∃ h1, f_X10_advance D h a = some h1 ∧ kx h h1 [a] 4 ∧ PT D n h1 a ci x rest ib p := by
  have hl := E.ok.1
  have hal : a < h.1 := B.1.lt P.2
  have r1 := rl_ge (P := isS) (ib := ib) (p := p)
  have r2 := rl_le (P := isS) hp
  unfold f_X10_advance
  rw [P.g.1, Option.bind_some]
  obtain ⟨f, s1, ⟨P1, K1⟩, e1⟩ := wl_loop (F := fun f s => f_X10_advance_b0 D f s a) (I := fun i z => pcl z a ci x rest f0 (nI i) f2 wd tk ∧ hx_kp h z [a]) (ib := ib) (P := isS) (p := p) hl hp (fun f i z c hi hi2 hc hP hz => by
    obtain ⟨Pz, Kz⟩ := hz
    have Bz := B.kp ha hal Kz
    obtain ⟨h6, e6, P6, K6⟩ := Pz.s1 (nI (i + 1))
    refine ⟨h6, ⟨P6, Kz.tr K6⟩, ?_⟩
    have eb : f_X10_at D z a (nI i) = some (nI c) := by
      rw [c_at E Bz Pz (show i < 2 ^ 31 by omega)]
      unfold atI
      rw [hc]
    have nx : f_X10_advance_b26 D (f_X10_advance_b0 D f) z a = f_X10_advance_b0 D f h6 a := by
      unfold f_X10_advance_b26
      rw [Pz.g.2.2.1, Option.bind_some, gx_c1, e6, Option.bind_some]
    show f_X10_advance_b0 D (f + 1) z a = _
    simp only [f_X10_advance_b0, Pz.g.2.2.1, eb, Option.bind_some, nx]
    unfold isS at hP
    rw [Bool.or_eq_true, decide_eq_true_eq, decide_eq_true_eq] at hP
    rcases hP with e | e
    · rw [e]
      exact if_pos rfl
    · rw [e]
      rw [if_neg (by decide)]
      exact if_pos rfl) h ⟨P, hx_kp.rf⟩
  rw [e1]
  obtain ⟨st, hst⟩ : ∃ st, st = rl isS ib p := ⟨_, rfl⟩
  rw [← hst] at P1 r1 r2
  have B1 := B.kp ha hal K1
  have eb : f_X10_at D s1 a (nI st) = some (atI ib st) := c_at E B1 P1 (by omega)
  have n32 : ¬ atI ib st = 32 := fun h => by
    have := rl_out (P := isS) (hst ▸ (atI_eq E.ok st 32 (by decide)).1 h)
    exact absurd this (by decide)
  have n10 : ¬ atI ib st = 10 := fun h => by
    have := rl_out (P := isS) (hst ▸ (atI_eq E.ok st 10 (by decide)).1 h)
    exact absurd this (by decide)
  simp only [f_X10_advance_b0, P1.g.2.2.1, eb, Option.bind_some, if_neg n32, if_neg n10]
  unfold f_X10_advance_b39
  obtain ⟨h14, e14, P14, K14⟩ := P1.s0 (nI st)
  obtain ⟨h15, e15, P15, K15⟩ := P14.s3 (some (D.2.2.1 8))
  have K := (K1.tr K14).tr K15
  have B15 := B.kp ha hal K
  have w8 := E.w8 B15
  have eb15 : f_X10_at D h15 a (nI st) = some (atI ib st) := c_at E B15 P15 (by omega)
  simp only [P1.g.2.2.1, Option.bind_some, e14, e15, P15.g.2.1, eb15]
  have lt15 : a < h15.1 := by rw [K.1]; exact hal
  have X0 : ∀ {h' : HX}, hx_kp h h' [a] → kx h h' [a] 4 := fun k => (kx.kp B.1 (by simp [hal]) k).up (fun z hz => Or.inl hz) (by decide)
  cases ec : ib[st]? with
  | none =>
    have en : atI ib st = -1 := (atI_end E.ok st).2 ec
    rw [if_pos en]
    obtain ⟨h20, e20, P20, K20⟩ := P15.s4 (some (D.2.2.1 123))
    have ha' : adv ib p = (st, st, 0, 3, []) := by
      unfold adv
      rw [← hst, ec]
    refine ⟨h20, by rw [e20, Option.bind_some], X0 (K.tr K20), f2, D.2.2.1 8, ?_, ?_, ?_, ?_, ?_⟩
    · rw [ha']; exact P20
    · rw [ha']; simp
    · rw [ha']; exact w8.pc P15 B15.1 K20
    · rw [ha']; simp
    · intro _; rfl
  | some c =>
    have c256 := E.ok.2 st c ec
    have en : ¬ atI ib st = -1 := fun h => by rw [(atI_end E.ok st).1 h] at ec; cases ec
    have ea : atI ib st = nI c := by unfold atI; rw [ec]
    have lt := (List.getElem?_eq_some_iff.1 ec).1
    rw [if_neg en, ea, w97 c256, Option.bind_some]
    by_cases c1 : isL c = true
    · rw [if_pos c1]
      have er := c_eor (lo := 97) (hi := 122) E B15 P15 r2 (by decide) (by decide)
      have er : f_X10_endOfRun D h15 a (nI st) 97 122 = some (nI (rl isL ib st)) := er
      have r3 := rl_ge (P := isL) (ib := ib) (p := st)
      have r4 := rl_le (P := isL) r2
      obtain ⟨e, he⟩ : ∃ e, e = rl isL ib st := ⟨_, rfl⟩
      rw [← he] at er r3 r4
      obtain ⟨h28, e28, P28, K28⟩ := P15.s1 (nI e)
      simp only [er, Option.bind_some, e28, P28.g.2.1, P28.g.2.2.1, pk_sub r3]
      by_cases c2 : e - st ≤ 8
      · have ha' : adv ib p = (st, e, 0, 0, cut ib st e) := by
          unfold adv
          rw [← hst, ec]
          simp only
          rw [if_pos c1, ← he, if_pos c2]
        rw [if_neg (show ¬ (8 : Int32) < nI (e - st) from nI_nlt (a := 8) (b := e - st) c2 (by decide))]
        obtain ⟨h33, e33, P33, K33⟩ := P28.s4 (some (D.2.2.1 120))
        have K33' := (K.tr K28).tr K33
        have B33 := B.kp ha hal K33'
        have hL : ∀ c, c ∈ cut ib st e → c < 128 := fun y hy => by
          have := adv_ok hp
          rw [ha'] at this
          have := (this.2.2.2.2.2.2.1 rfl).2.2 y hy
          unfold isL at this
          rw [Bool.and_eq_true, decide_eq_true_eq, decide_eq_true_eq] at this
          omega
        obtain ⟨h40, t1, t2, t3, t4, t5, t6⟩ := c_text E B33 P33 r4 r3 c2 hL
        have P40 := P33.kx B33.1 t2 (by simp)
        have B40 := B33.kx t2 (by simp)
        obtain ⟨h42, e42, P42, K42⟩ := P40.s3 (some (h40.1 - 2))
        have lt40 : a < h40.1 := B40.1.lt P40.2
        refine ⟨h42, ?_, ?_, f2, h40.1 - 2, ?_, ?_, ?_, ?_, ?_⟩
        · unfold f_X10_advance_b131 f_X10_advance_b162
          simp only [Option.bind_some, e33, P33.g.2.2.2.2.2.1, if_true, P33.g.2.1, P33.g.2.2.1, t1, pl_b2_s, e42]
        · exact ((kx.kp B.1 (by simp [hal]) K33').tr (t2.up (L' := [a]) (by simp) (Nat.le_refl _))).tr (kx.kp B40.1 (by simp [lt40]) K42)
        · rw [ha']; exact P42
        · rw [ha']; simp
        · rw [ha']; exact t5.pc P40 B40.1 K42
        · rw [ha']
          intro _
          have := B33.2.2.1
          exact ⟨by omega, hxN_kp P40 K42 (t6.N (by omega))⟩
        · rw [ha']; simp
      · have ha' : adv ib p = (st, e, 0, 4, []) := by
          unfold adv
          rw [← hst, ec]
          simp only
          rw [if_pos c1, ← he, if_neg c2]
        rw [if_pos (show (8 : Int32) < nI (e - st) from nI_lt (a := 8) (b := e - st) (by omega) (by omega))]
        obtain ⟨h33, e33, P33, K33⟩ := P28.s4 (some (D.2.2.1 124))
        have K33' := (K.tr K28).tr K33
        have B33 := B.kp ha hal K33'
        obtain ⟨h42, e42, P42, K42⟩ := P33.s3 (some (D.2.2.1 8))
        refine ⟨h42, ?_, X0 (K33'.tr K42), f2, D.2.2.1 8, ?_, ?_, ?_, ?_, ?_⟩
        · unfold f_X10_advance_b131 f_X10_advance_b162
          simp only [Option.bind_some, e33, P33.g.2.2.2.2.2.1, if_neg (fun h => absurd ((E.t (i := 4) (j := 0) (by decide) (by decide)).1 h) (by decide)), e42]
        · rw [ha']; exact P42
        · rw [ha']; simp
        · rw [ha']; exact (E.w8 B33).pc P33 B33.1 K42
        · rw [ha']; simp
        · intro _; rfl
    · rw [if_neg c1, w48 c256, Option.bind_some]
      by_cases c3 : isD c = true
      · rw [if_pos c3]
        have er := c_eor (lo := 48) (hi := 57) E B15 P15 r2 (by decide) (by decide)
        have er : f_X10_endOfRun D h15 a (nI st) 48 57 = some (nI (rl isD ib st)) := er
        have r3 := rl_ge (P := isD) (ib := ib) (p := st)
        have r4 := rl_le (P := isD) r2
        have r5 := rl_gt ec c3
        obtain ⟨e, he⟩ : ∃ e, e = rl isD ib st := ⟨_, rfl⟩
        rw [← he] at er r3 r4 r5
        obtain ⟨h28, e28, P28, K28⟩ := P15.s1 (nI e)
        simp only [er, Option.bind_some, e28, P28.g.2.1, P28.g.2.2.1, pk_sub r3]
        by_cases c2 : e - st ≤ 3
        · have ha' : adv ib p = (st, e, numV (cut ib st e), 1, []) := by
            unfold adv
            rw [← hst, ec]
            simp only
            rw [if_neg c1, if_pos c3, ← he, if_pos c2]
          rw [if_neg (show ¬ (3 : Int32) < nI (e - st) from nI_nlt (a := 3) (b := e - st) c2 (by decide))]
          obtain ⟨h33, e33, P33, K33⟩ := P28.s4 (some (D.2.2.1 121))
          have K33' := (K.tr K28).tr K33
          have B33 := B.kp ha hal K33'
          have hD : ∀ c, c ∈ cut ib st e → isD c = true := fun y hy => by
            have := adv_ok hp
            rw [ha'] at this
            exact (this.2.2.2.2.2.2.2.2 rfl).2.2 y hy
          have hL : ∀ c, c ∈ cut ib st e → c < 128 := fun y hy => by
            have := hD y hy
            unfold isD at this
            rw [Bool.and_eq_true, decide_eq_true_eq, decide_eq_true_eq] at this
            omega
          obtain ⟨h40, t1, t2, t3, t4, t5, t6⟩ := c_text E B33 P33 r4 r3 (by omega) hL
          have P40 := P33.kx B33.1 t2 (by simp)
          have B40 := B33.kx t2 (by simp)
          have lt40 : a < h40.1 := B40.1.lt P40.2
          have cl : (cut ib st e).length = e - st := cut_len r4
          have pi := c_parseInt E B40 t5.str (by omega) (by omega) hD
          obtain ⟨h42, e42, P42, K42⟩ := P40.s2 (nI (numV (cut ib st e)))
          refine ⟨h42, ?_, ?_, nI (numV (cut ib st e)), D.2.2.1 8, ?_, ?_, ?_, ?_, ?_⟩
          · unfold f_X10_advance_b221 f_X10_advance_b254
            simp only [Option.bind_some, e33, P33.g.2.2.2.2.2.1, if_true, P33.g.2.1, P33.g.2.2.1, t1, pl_b2_s, pi, e42]
          · exact ((kx.kp B.1 (by simp [hal]) K33').tr (t2.up (L' := [a]) (by simp) (Nat.le_refl _))).tr (kx.kp B40.1 (by simp [lt40]) K42)
          · rw [ha']; exact P42
          · rw [ha']; intro _; rfl
          · rw [ha']; exact (E.w8 B40).pc P40 B40.1 K42
          · rw [ha']; simp
          · intro _; rfl
        · have ha' : adv ib p = (st, e, 0, 4, []) := by
            unfold adv
            rw [← hst, ec]
            simp only
            rw [if_neg c1, if_pos c3, ← he, if_neg c2]
          rw [if_pos (show (3 : Int32) < nI (e - st) from nI_lt (a := 3) (b := e - st) (by omega) (by omega))]
          obtain ⟨h33, e33, P33, K33⟩ := P28.s4 (some (D.2.2.1 124))
          have K33' := (K.tr K28).tr K33
          have B33 := B.kp ha hal K33'
          obtain ⟨h42, e42, P42, K42⟩ := P33.s2 0
          refine ⟨h42, ?_, X0 (K33'.tr K42), 0, D.2.2.1 8, ?_, ?_, ?_, ?_, ?_⟩
          · unfold f_X10_advance_b221 f_X10_advance_b254
            simp only [Option.bind_some, e33, P33.g.2.2.2.2.2.1, if_neg (fun h => absurd ((E.t (i := 4) (j := 1) (by decide) (by decide)).1 h) (by decide)), e42]
          · rw [ha']; exact P42
          · rw [ha']; simp
          · rw [ha']; exact (E.w8 B33).pc P33 B33.1 K42
          · rw [ha']; simp
          · intro _; rfl
      · rw [if_neg c3]
        have last : ∀ (kd : Nat), adv ib p = (st, st + 1, 0, kd, []) → kd ≠ 1 → kd ≠ 0 → ∃ h1, f_X10_advance_b276 D h15 a (some (D.2.2.1 (120 + kd))) (some a) = some h1 ∧ kx h h1 [a] 4 ∧ PT D n h1 a ci x rest ib p := fun kd ha' k1 k0 => by
          obtain ⟨h33, e33, P33, K33⟩ := P15.s4 (some (D.2.2.1 (120 + kd)))
          obtain ⟨h42, e42, P42, K42⟩ := P33.s1 (nI (st + 1))
          have B33 := B.kp ha hal (K.tr K33)
          refine ⟨h42, ?_, X0 ((K.tr K33).tr K42), f2, D.2.2.1 8, ?_, ?_, ?_, ?_, ?_⟩
          · unfold f_X10_advance_b276
            simp only [Option.bind_some, e33, P33.g.2.2.1, gx_c1, e42]
          · rw [ha']; exact P42
          · rw [ha']; exact fun h => absurd h k1
          · rw [ha']; exact (E.w8 B33).pc P33 B33.1 K42
          · rw [ha']; exact fun h => absurd h k0
          · intro _; rfl
        by_cases c5 : c = 59
        · rw [if_pos (show nI c = 59 by rw [c5]; rfl)]
          refine last 2 ?_ (by decide) (by decide)
          unfold adv
          rw [← hst, ec]
          simp only
          rw [if_neg c1, if_neg c3, if_pos c5]
        · rw [if_neg (show ¬ nI c = 59 from nI_ne (b := 59) (by omega) (by decide) c5)]
          refine last 4 ?_ (by decide) (by decide)
          unfold adv
          rw [← hst, ec]
          simp only
          rw [if_neg c1, if_neg c3, if_neg c5]
