/-! the component's script parser: all of it -/
set_option maxRecDepth 100000
set_option linter.unusedSimpArgs false
theorem pb_err {α β : Type} (e : Nat × Nat) (g : α → Nat → PR β) : pb (.inl e) g = .inl e := rfl
section CSQ
variable {D : gx_D} {g h : HX} {n a x inp p ca : Nat} {ib : List Nat} {F : DF} {cs : List CMD}
theorem PT.n16 {h : HX} {ci : Nat} {rest : List Value} (T : PT D n h a ci x rest ib p) : ∀ fl ci' fs, h.2.2 a = some (fl, .inr (ci', fs)) → ci' ∉ [19, 20, 21, 22] := fun fl ci' fs e => by
  obtain ⟨pf, c1, _, _, c2⟩ := T.cell
  rw [c1] at e
  cases e
  rcases c2 with c | c <;> subst c <;> decide
theorem c_one (E : EV D g x inp ib) (EFx : EF D g x F) (H : PQ D g n h a x ca ib cs p) (k3 : tK ib p ≠ 3) (f : Nat) : ∃ h1, kn n h h1 30 ∧ (match pOne ib F cs p with
    | .inl e => ∃ q, f_X13_parse_b0 D (f + 1) h a = some (.inr (cPE, q), h1) ∧ exn h1 q e
    | .inr v => f_X13_parse_b0 D (f + 1) h a = f_X13_parse_b0 D f h1 a ∧ PQ D g n h1 a x ca ib v.1 v.2) := by
  obtain ⟨B, T, C, hp, ha, hca⟩ := H
  have o := T.outer rfl
  have al := T.lt B.1
  obtain ⟨cf, ca1, ca2, ca3⟩ := id C
  have cal := B.1.lt ca1
  have nac : a ≠ ca := fun e => by
    obtain ⟨pf, c1, _⟩ := T.cell
    rw [e, ca1] at c1
    cases c1
  obtain ⟨w, h4, L4, wd, hh, X4, hL4, T4, W4, nw⟩ := p_hash E B T hp
  have B4 := B.kx X4 (fun z hz => (hL4 z hz).1)
  have C4 := C.mov B.1 X4 (fun z hz => by
    obtain ⟨z1, fl, fs, z2⟩ := hL4 z hz
    refine ⟨fun e => (by rw [e, ca1] at z2; cases z2), fun fl' ci fs' e => ?_⟩
    rw [z2] at e
    cases e
    decide)
  have K4 := X4.n (n := n) (fun z hz => (hL4 z hz).1) B.2.2.1
  have o4 := T4.outer rfl
  have eq : ∀ i cs, kcs[i]? = some cs → f_J9_equals D h4 w (some (D.2.2.1 i)) = some (decide (tW ib p = cs)) := fun i cs hi => str_eq W4.str (E.k B4 hi)
  have ic : f_X13_isCommand D h a (some w) = some (isC (tW ib p), h4) := by
    unfold f_X13_isCommand
    rw [o.1, Option.bind_some, Option.bind_some, hh, pl_b2_s, eq 22 (kw 22) rfl, eq 21 (kw 21) rfl, eq 24 (kw 24) rfl, eq 23 (kw 23) rfl, ci_sel (fun i => f_X13_isCommand_b105 D h4 i) (tW ib p), ci_b105]
  have st : f_X13_parse_b0 D (f + 1) h a = gx_bx (f_X10_expect D h4 a (isC (tW ib p)) 1) (fun u16 h13 => (hx_gi h13 a [18] 7).bind fun x17 => if (30 : Int32) ≤ x17 then f_X13_parse_b37 D (f_X13_parse_b0 D f) h13 a (some w) false (some a) else f_X13_parse_b37 D (f_X13_parse_b0 D f) h13 a (some w) true (some a)) fun E14 q15 h13 => some (.inr (E14, q15), h13) := by
    simp only [f_X13_parse_b0, o.1, Option.bind_some, f_isOver E T hp, decide_eq_false k3, if_neg Bool.false_ne_true, wd, ic, pl_b2_s, o4.1]
  rw [st]
  by_cases c1' : isC (tW ib p) = false
  · have hO : pOne ib F cs p = .inl (1, tS ib p) := by
      unfold pOne
      rw [if_neg (by rw [c1']; exact Bool.false_ne_true)]
    rw [hO, c1']
    obtain ⟨h1, e1, X1, M1⟩ := f_expect_f T4 B4.1 1
    rw [show (1 : Int32) = nI 1 from rfl, e1, pl_bx_r]
    exact ⟨h1, (K4.tr (X1.n (by simp) B4.2.2.1)).up (by decide), _, rfl, M1⟩
  have c1 : isC (tW ib p) = true := by
    cases h : isC (tW ib p) with
    | true => rfl
    | false => exact absurd h c1'
  have k0 : tK ib p = 0 := tW_0 hp (fun e => by rw [e] at c1; exact absurd c1 (by decide))
  have nw := nw k0
  rw [c1, f_expect_t T4, pl_bx_l, o4.2.2.1, Option.bind_some]
  have sz : (if (30 : Int32) ≤ nI cs.length then f_X13_parse_b37 D (f_X13_parse_b0 D f) h4 a (some w) false (some a) else f_X13_parse_b37 D (f_X13_parse_b0 D f) h4 a (some w) true (some a)) = f_X13_parse_b37 D (f_X13_parse_b0 D f) h4 a (some w) (decide (cs.length < 30)) (some a) := by
    by_cases c : cs.length < 30
    · rw [decide_eq_true c, if_neg (show ¬ (30 : Int32) ≤ nI cs.length from nI_ge c (by decide))]
    · rw [decide_eq_false c, if_pos (show (30 : Int32) ≤ nI cs.length from (nI_leI (a := 30) (b := cs.length) (by decide) (by omega)).2 (by omega))]
  rw [sz]
  unfold f_X13_parse_b37
  rw [Option.bind_some, o4.1, Option.bind_some]
  by_cases c2 : ¬ cs.length < 30
  · have hO : pOne ib F cs p = .inl (5, tS ib p) := by
      unfold pOne pMany
      rw [if_pos c1, if_neg c2]
    rw [hO, decide_eq_false c2]
    obtain ⟨h1, e1, X1, M1⟩ := f_expect_f T4 B4.1 5
    rw [show (5 : Int32) = nI 5 from rfl, e1, pl_bx_r]
    exact ⟨h1, (K4.tr (X1.n (by simp) B4.2.2.1)).up (by decide), _, rfl, M1⟩
  have c2 : cs.length < 30 := Decidable.not_not.1 c2
  have hO : pOne ib F cs p = pb (pCmd ib F (tN ib p) (tW ib p)) fun c p2 => pb (pSemi ib p2) fun _ p3 => .inr (cs ++ [c], p3) := by
    unfold pOne pMany
    rw [if_pos c1, if_pos c2]
  rw [hO, decide_eq_true c2, f_expect_t T4, pl_bx_l, o4.1, Option.bind_some]
  obtain ⟨h28, e28, X28, T28⟩ := T4.next E B4 ha hp
  have l1 := (tS_le hp).2.2
  have B28 := B4.kx X28 (by simp [ha])
  have C28 := C4.mov B4.1 X28 (fun z hz => by
    simp only [List.mem_cons, List.not_mem_nil, or_false] at hz
    subst hz
    exact ⟨nac, T4.n16⟩)
  have K28 := K4.tr (X28.n (n := n) (by simp [ha]) B4.2.2.1)
  have o28 := T28.outer rfl
  have hwa : w ≠ a := fun e => by
    have := str_is W4.str
    rw [e] at this
    unfold hx_is at this
    obtain ⟨pf, c1, _⟩ := T4.cell
    rw [c1] at this
    exact absurd this (by simp)
  have W28 : wst h28 w (tW ib p) := W4.kx B4.1 X28 (by simp [hwa]) (fun z hz c hc => by
    simp only [List.mem_cons, List.not_mem_nil, or_false] at hz
    obtain ⟨pf, c1, _⟩ := T4.cell
    rw [hz, c1] at hc
    cases hc
    exact ⟨_, _, rfl⟩)
  rw [e28, Option.bind_some, o28.2.1, Option.bind_some, o28.2.2.1, Option.bind_some]
  obtain ⟨r, h33, e33, X33, M33⟩ := c_command E EFx B28 ha T28 l1 W28 nw
  have B33 := B28.kx X33 (by simp; omega)
  have K33 := K28.tr (X33.n (n := n) (by simp; omega) B28.2.2.1)
  rw [e33]
  cases em : pCmd ib F (tN ib p) (tW ib p) with
  | inl e =>
    rw [em] at M33
    obtain ⟨q, rfl, q2⟩ := M33
    rw [pl_bx_r, pb_err]
    exact ⟨h33, K33.up (by decide), q, rfl, q2⟩
  | inr v =>
    obtain ⟨v, p2⟩ := v
    rw [em] at M33
    obtain ⟨c, rfl, ⟨b, rfl, q1, q2⟩, T33⟩ := M33
    have l2 := ((gO_cmd l1).r em).2
    have C33 := C28.mov B28.1 X33 (fun z hz => by
      simp only [List.mem_cons, List.not_mem_nil, or_false] at hz
      rcases hz with c | c
      · rw [c]; exact ⟨nac, T28.n16⟩
      · rw [c]
        obtain ⟨fl, v, f, hb, hc, e1, _⟩ := W28
        obtain ⟨cf', d1, _⟩ := C28
        refine ⟨fun e => (by rw [e, d1] at e1; cases e1), fun fl' ci fs' e => ?_⟩
        rw [e1] at e
        cases e
        decide)
    rw [pl_bx_l, Option.bind_some]
    obtain ⟨cf', d1, d2, d3⟩ := id C33
    obtain ⟨fl, cib, fsb, eb, cb⟩ := q1.ci
    obtain ⟨h37, e37, c37⟩ : ∃ h37, hx_sr h33 ca 6 [19, 20, 21, 22] (nI cs.length) (some b) = some h37 ∧ hx_ch h33 h37 ca (.inl (6, 30, .inr (.inr (.inr (.inr (va_up cf' cs.length (some b))))))) := by
      refine ⟨_, ?_, hx_set_ch⟩
      unfold hx_sr
      rw [d1]
      simp only [nI_clamp (show cs.length < 2 ^ 31 by omega)]
      rw [if_pos ⟨trivial, nI_pos' (by omega), c2, hx_okr_o ⟨fl, eb⟩ cb⟩]
    have cal33 := B33.1.lt d1
    have X37 : kx h33 h37 [ca] 0 := kx.kp B33.1 (by simp [cal33]) (c37.kp (by simp))
    have nba : b ≠ ca := fun e => by rw [e, d1] at eb; cases eb
    have T37 := T33.mov B33.1 X37 (by simp [nac]) (fun z hz c e => by
      simp only [List.mem_cons, List.not_mem_nil, or_false] at hz
      rw [hz, d1] at e
      cases e
      exact Or.inl ⟨_, _, _, _, by decide, rfl⟩)
    have B37 := B33.kx X37 (by simp [hca])
    have C37 : CA h37 a ca (cs ++ [v]) := by
      refine ⟨_, c37.2.2.1, by rw [List.length_append, List.length_singleton]; omega, fun k y hk => ?_⟩
      by_cases c : k = cs.length
      · subst c
        rw [List.getElem?_append_right (Nat.le_refl _), Nat.sub_self] at hk
        cases hk
        exact ⟨b, va_up_self .., q1.mov (c37.2.2.2 b nba)⟩
      · have : k < cs.length := by
          have := (List.getElem?_eq_some_iff.1 hk).1
          rw [List.length_append, List.length_singleton] at this
          omega
        rw [List.getElem?_append_left this] at hk
        obtain ⟨b', b1, b2⟩ := d3 k y hk
        obtain ⟨fl', ci', fs', e1, _⟩ := b2.ci
        exact ⟨b', by rw [va_up_ne _ _ c]; exact b1, b2.mov (c37.2.2.2 b' (fun e => by rw [e, d1] at e1; cases e1))⟩
    have o37 := T37.outer rfl
    obtain ⟨pf, t1, t2, t3, _⟩ := id T37.cell
    have al37 := T37.lt B37.1
    have pl3 : pf.length = 9 := by
      have := congrArg List.length t2
      rw [List.length_drop] at this
      have : pf.length - 6 = 3 := this
      omega
    obtain ⟨h39, e39, c39⟩ := hx_pv_e (cis := [18]) (k := 7) (v := .int (nI (cs.length + 1))) t1 (by decide) (by omega)
    have X39 : kx h37 h39 [a] 0 := kx.kp B37.1 (by simp [al37]) (c39.kp (by simp))
    have T39 : PT D n h39 a 18 x (qR ca (cs ++ [v]).length x) ib p2 := T37.rst B37.1 X39 (fun st nx vl wd tk e => by
      rw [t1] at e
      have e := Option.some.inj e
      simp only [Prod.mk.injEq, Sum.inr.injEq, true_and] at e
      rw [c39.2.2.1, e, List.length_append, List.length_singleton]
      rfl)
    have B39 := B37.kx X39 (by simp [ha])
    have C39 := C37.mov B37.1 X39 (fun z hz => by
      simp only [List.mem_cons, List.not_mem_nil, or_false] at hz
      subst hz
      exact ⟨nac, T37.n16⟩)
    have K39 := (K33.tr (X37.n (n := n) (by simp [hca]) B33.2.2.1)).tr (X39.n (n := n) (by simp [ha]) B37.2.2.1)
    obtain ⟨r, h42, e42, X42, M42⟩ := c_semi E B39 ha T39 l2
    have B42 := B39.kx X42 (by simp [ha])
    have K42 := K39.tr (X42.n (n := n) (by simp [ha]) B39.2.2.1)
    have C42 := C39.mov B39.1 X42 (fun z hz => by
      simp only [List.mem_cons, List.not_mem_nil, or_false] at hz
      subst hz
      exact ⟨nac, T39.n16⟩)
    rw [e37, Option.bind_some, o37.2.2.1, Option.bind_some, gx_c1, hx_pi, e39, Option.bind_some, (T39.outer rfl).1, Option.bind_some, e42]
    rw [pb_ret]
    cases em2 : pSemi ib p2 with
    | inl e =>
      rw [em2] at M42
      obtain ⟨q, rfl, q2⟩ := M42
      rw [pl_bx_r, pb_err]
      exact ⟨h42, K42.up (by decide), q, rfl, q2⟩
    | inr u =>
      obtain ⟨u, p3⟩ := u
      rw [em2] at M42
      obtain ⟨c, rfl, _, T42⟩ := M42
      rw [pl_bx_l, pb_ret]
      exact ⟨h42, K42.up (by decide), rfl, B42, T42, C42, ((gO_semi l2).r em2).2, ha, hca⟩
theorem c_sloop (E : EV D g x inp ib) (EFx : EF D g x F) : ∀ (M m p : Nat) (h : HX) (cs : List CMD) (f N : Nat), m ≤ M → ib.length < p + m → PQ D g n h a x ca ib cs p → cmds_ok F cs → m < f → m < N → ∃ h1, kn n h h1 (8 * m + 30) ∧ (match pScr ib F N cs p with
    | .inl e => ∃ q, f_X13_parse_b0 D f h a = some (.inr (cPE, q), h1) ∧ exn h1 q e
    | .inr v => f_X13_parse_b0 D f h a = some (.inl (some a), h1) ∧ PQ D g n h1 a x ca ib v.1 v.2 ∧ cmds_ok F v.1) := by
  intro M
  induction M with
  | zero =>
    intro m p h cs f N hM hm H hS hF hN
    have := H.2.2.2.1
    omega
  | succ M ih =>
    intro m p h cs f N hM hm H hS hF hN
    obtain ⟨B, T, Z, hp, ha, hca⟩ := id H
    obtain ⟨f, rfl⟩ : ∃ k, f = k + 1 := ⟨f - 1, by omega⟩
    obtain ⟨N, rfl⟩ : ∃ k, N = k + 1 := ⟨N - 1, by omega⟩
    by_cases k3 : tK ib p = 3
    · refine ⟨h, (kx.rf (L := []) (k := 0) B.1).n (by simp) B.2.2.1 |>.up (by omega), ?_⟩
      have e : pScr ib F (N + 1) cs p = .inr (cs, p) := if_pos k3
      rw [e]
      refine ⟨?_, H, hS⟩
      simp only [f_X13_parse_b0, (T.outer rfl).1, Option.bind_some, f_isOver E T hp, decide_eq_true k3, if_true]
    · obtain ⟨h1, X1, C⟩ := c_one E EFx H k3 f
      have g4 := gO_one4 (F := F) (cs := cs) hp
      have e : pScr ib F (N + 1) cs p = pb (pOne ib F cs p) fun cs' p' => pScr ib F N cs' p' := if_neg k3
      rw [e]
      cases em : pOne ib F cs p with
      | inl er =>
        rw [em] at C
        exact ⟨h1, X1.up (by omega), C⟩
      | inr v =>
        obtain ⟨cs', p'⟩ := v
        rw [em] at C
        obtain ⟨c1, H1⟩ := C
        have gr := g4.r em
        obtain ⟨h2, X2, C2⟩ := ih (m - 4) p' h1 cs' f N (by omega) (by omega) H1 (pOne_i hS em) (by omega) (by omega)
        rw [c1]
        exact ⟨h2, (X1.tr X2).up (by omega), C2⟩
end CSQ
