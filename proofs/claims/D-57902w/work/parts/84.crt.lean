/-! the component's runScript, from its start to its end -/
set_option maxRecDepth 100000
set_option linter.unusedSimpArgs false
/-- ahead of a call, the error's fields apart -/
theorem cI.err {D : gx_D} {h i2 : HX} {Y : YT} {F : DF} {R : RN} {sv : Option RN} {hs : List RN} {ib ob : List Nat} {ec eo ec' eo' : Int32} {op d r : Nat} {p : Option Nat} {fnd dl : Int32} (H : cI D h Y (F, R, sv, hs, ib, ec, eo, ob)) (hx : h.2.2 Y.1 = some (true, .inr (9, x_fs op Y.2.1 d r Y.2.2.1 Y.2.2.2.2.1 Y.2.2.2.2.2.1 Y.2.2.2.2.2.2.1 Y.2.2.2.2.2.2.2.1 p (nI ib.length) ec eo fnd dl))) (K2 : hx_kp h i2 [Y.1]) (w2 : hx_wf i2) (hx2 : i2.2.2 Y.1 = some (true, .inr (9, x_fs op Y.2.1 d r Y.2.2.1 Y.2.2.2.2.1 Y.2.2.2.2.2.1 Y.2.2.2.2.2.2.1 Y.2.2.2.2.2.2.2.1 p (nI ib.length) ec' eo' fnd dl))) : cI D i2 Y (F, R, sv, hs, ib, ec', eo', ob) := by
  obtain ⟨ov, w, H, hA, ap1, ap2⟩ := H
  have sub : hx_sub (hzf h) (hzf i2) := fun z c e => by
    obtain ⟨k1, k2, k3⟩ := hzf_eq e
    obtain ⟨b, v⟩ := c
    simp only at k2
    subst k2
    refine hzf_of (by rw [K2.1]; exact k1) ?_
    rw [K2.2.2 z (fun m => ?_), k3]
    simp only [List.mem_cons, List.not_mem_nil, or_false] at m
    rw [m, hx] at k3
    cases k3
  obtain ⟨op', d', r', cap, t, p', fnd', dl', fib, as, gop, k1, k2, ⟨k3, k3'⟩, ⟨⟨ne, hd, g, k4, k4', k4''⟩, k5⟩, ⟨⟨f1, k6⟩, ⟨f2, k6'⟩, ⟨f3, k6''⟩⟩, ⟨ml, fo, k7, k7', k7''⟩, ⟨f4, k8⟩, k9, k10, k11, k12⟩ := H
  rw [hx] at k1
  have efs := Option.some.inj k1
  simp only [Prod.mk.injEq, Sum.inr.injEq, true_and, x_fs, List.cons.injEq, Value.ref.injEq, Value.int.injEq] at efs
  obtain ⟨e1, e2, e3, e4, _⟩ := efs
  have ep : p' = p := by
    cases p' <;> cases p <;> simp [va_rf] at e4
    · rfl
    · rw [e4]
  subst e1 e2 e3 ep
  have tr : ∀ z e, h.2.2 z = some (true, e) → (∀ fs, e ≠ .inr (9, fs)) → i2.2.2 z = some (true, e) := fun z e he n1 => by
    rw [K2.2.2 z (fun m => ?_), he]
    simp only [List.mem_cons, List.not_mem_nil, or_false] at m
    rw [m, hx] at he
    cases he
    exact n1 _ rfl
  exact ⟨ov, w2, ⟨op, d, r, cap, t, p', fnd, dl, fib, as, gop, hx2, ⟨k2.1.sub sub, k2.2⟩, ⟨tr _ _ k3 (fun _ hc => by cases hc), k3'⟩, ⟨⟨ne, hd, g, tr _ _ k4 (fun _ hc => by cases hc), tr _ _ k4' (fun _ hc => by cases hc), k4''⟩, k5.sub sub⟩, ⟨⟨f1, tr _ _ k6 (fun _ hc => by cases hc)⟩, ⟨f2, tr _ _ k6' (fun _ hc => by cases hc)⟩, ⟨f3, tr _ _ k6'' (fun _ hc => by cases hc)⟩⟩, ⟨ml, fo, tr _ _ k7 (fun _ hc => by cases hc), tr _ _ k7' (fun _ hc => by cases hc), k7''⟩, ⟨f4, tr _ _ k8 (fun _ hc => by cases hc)⟩, k9, k10.sub sub, k11.sub sub, k12.sub sub⟩, hA, ap1, ap2⟩
/-- behind a call, the input is dropped -/
theorem cE.il {D : gx_D} {h : HX} {Y : YT} {F : DF} {R : RN} {sv : Option RN} {hs : List RN} {ib ob : List Nat} {ec eo : Int32} (H : cE D h Y (F, R, sv, hs, ib, ec, eo, ob)) : ∃ h1, hx_pi h Y.1 [9] 2 0 = some h1 ∧ cE D h1 Y (F, R, sv, hs, [], ec, eo, ob) ∧ h1.1 = h.1 ∧ h1.2.1 = h.2.1 := by
  obtain ⟨ov, w, op, d, r, cap, t, p, fnd, dl, fib, as, gop, k1, k2, ⟨k3, k3'⟩, ⟨⟨ne, hd, g, k4, k4', k4''⟩, k5⟩, ⟨⟨f1, k6⟩, ⟨f2, k6'⟩, ⟨f3, k6''⟩⟩, ⟨ml, fo, k7, k7', k7''⟩, ⟨f4, k8⟩, k9, k10, k11, k12⟩ := H
  obtain ⟨h1, e1, c1⟩ := hx_pv_e (cis := [9]) (k := 2) (v := .int 0) k1 (by decide) (by simp [x_fs])
  have w1 : hx_wf h1 := wf_ch w (L := [Y.1]) (by simp [w.lt k1]) (c1.kp (by simp))
  have sub : hx_sub (hzw h (W_ Y ov)) (hzw h1 (W_ Y ov)) := fun z c e => by
    have e : (if z < h.1 ∧ z ∉ W_ Y ov then (h.2.2 z).map fun c => (false, c.2) else none) = some c := e
    by_cases cc : z < h.1 ∧ z ∉ W_ Y ov
    · rw [if_pos cc] at e
      show (if z < h1.1 ∧ z ∉ W_ Y ov then (h1.2.2 z).map fun c => (false, c.2) else none) = some c
      rw [if_pos ⟨by rw [c1.1]; exact cc.1, cc.2⟩, c1.2.2.2 z (fun e => cc.2 (by rw [e]; simp [W_]))]
      exact e
    · rw [if_neg cc] at e
      cases e
  have tr : ∀ z e, h.2.2 z = some (true, e) → (∀ fs, e ≠ .inr (9, fs)) → h1.2.2 z = some (true, e) := fun z e he n1 => by
    rw [c1.2.2.2 z (fun m => ?_), he]
    rw [m, k1] at he
    cases he
    exact n1 _ rfl
  exact ⟨h1, e1, ⟨ov, w1, op, d, r, cap, t, p, fnd, dl, fib, as, gop, c1.2.2.1, ⟨k2.1.sub sub, k2.2⟩, ⟨tr _ _ k3 (fun _ hc => by cases hc), fun k b hk => by simp at hk⟩, ⟨⟨ne, hd, g, tr _ _ k4 (fun _ hc => by cases hc), tr _ _ k4' (fun _ hc => by cases hc), k4''⟩, k5.sub sub⟩, ⟨⟨f1, tr _ _ k6 (fun _ hc => by cases hc)⟩, ⟨f2, tr _ _ k6' (fun _ hc => by cases hc)⟩, ⟨f3, tr _ _ k6'' (fun _ hc => by cases hc)⟩⟩, ⟨ml, fo, tr _ _ k7 (fun _ hc => by cases hc), tr _ _ k7' (fun _ hc => by cases hc), k7''⟩, ⟨f4, tr _ _ k8 (fun _ hc => by cases hc)⟩, k9, k10.sub sub, k11.sub sub, k12.sub sub⟩, c1.1, c1.2.1⟩
theorem c_qini {D : gx_D} {h : HX} {x inp : Nat} {ib : List Nat} (E : EV D h x inp ib) (w : hx_wf h) : ∃ h4 h6 ca, hx_new h 9 18 gx_df18 = some (h.1, h4) ∧ f_X13_init D h4 h.1 (some x) = some h6 ∧ kn h.1 h h6 10 ∧ PQ D h h.1 h6 h.1 x ca ib [] 0 := by
  obtain ⟨h4, e4, X4, o4, s4⟩ := x_new (m := 9) (ci := 18) (fs := gx_df18) w (by decide)
  have B0 : HB h h.1 h := ⟨w, hx_sub.rf, Nat.le_refl _, fun z c e => w.lt e⟩
  have B4 := B0.kx X4 (by simp)
  obtain ⟨i1, e1, c1⟩ := hx_pv_e (cis := [18]) (k := 8) (v := va_rf (some x)) o4 (by decide) (by decide)
  obtain ⟨i2, e2, c2⟩ := hx_pv_e (cis := [16, 18]) (k := 5) (v := va_rf (some x)) c1.2.2.1 (by decide) (by simp [gx_df18])
  obtain ⟨i3, e3, c3⟩ := hx_pv_e (cis := [16, 18]) (k := 3) (v := va_rf (some (D.2.2.1 8))) c2.2.2.1 (by decide) (by simp [gx_df18])
  have K3 : hx_kp h4 i3 [h.1] := ((c1.kp (by simp)).tr (c2.kp (by simp))).tr (c3.kp (by simp))
  have B3 := B4.kp (Nat.le_refl _) (by omega) K3
  have P3 : pcl i3 h.1 18 x [.null, .int 0, .ref x] 0 (nI 0) 0 (some (D.2.2.1 8)) none := ⟨Or.inr rfl, c3.2.2.1⟩
  obtain ⟨j4, e5, X5, T5⟩ := c_advance E B3 (Nat.le_refl _) P3 (Nat.zero_le _)
  have B5 := B3.kx X5 (by simp)
  have lt5 := T5.lt B5.1
  have n0 := ap_newa (n := j4.1) (h := j4) (B := []) (s := 0) (t := 6) (k := 30) (x := 30) (e := fun _ => .inr (.inr (.inr (.inr fun _ => none)))) rfl (by decide)
  rw [ap_0 B5.1] at n0
  obtain ⟨k7, hk7⟩ : ∃ k7, k7 = hx_ap j4.1 j4 ([] ++ [.inl (6, 30, .inr (.inr (.inr (.inr fun _ => none))))]) (0 + 30) := ⟨_, rfl⟩
  have X7 : kx j4 k7 [] 3 := by rw [hk7]; exact kx.ap2 (by decide) (show 1 ≤ 3 by decide)
  have s7 : k7.1 = j4.1 + 1 := by rw [hk7]; rfl
  obtain ⟨pf, o5, pd, px, pci⟩ := T5.cell
  have o7 := X7.at B5.1 (by simp) o5
  have pl3 : pf.length = 9 := by
    have := congrArg List.length pd
    rw [List.length_drop] at this
    have : pf.length - 6 = 3 := this
    omega
  obtain ⟨k8, e8, c8⟩ := hx_pv_e (cis := [18]) (k := 6) (v := va_rf (some j4.1)) o7 (by decide) (by omega)
  have X8 : kx k7 k8 [h.1] 0 := kx.kp X7.2.1 (by simp; omega) (c8.kp (by simp))
  have XX : kx j4 k8 [h.1] 3 := (X7.up (by simp) (Nat.le_refl _)).tr X8
  have T8 : PT D h.1 k8 h.1 18 x (qR j4.1 ([] : List CMD).length x) ib 0 := T5.rst B5.1 XX (fun st nx vl wd tk e => by
    rw [o5] at e
    have e := Option.some.inj e
    simp only [Prod.mk.injEq, Sum.inr.injEq, true_and] at e
    rw [c8.2.2.1, e]
    rfl)
  have X03 : kx h i3 [] 1 := ⟨by rw [K3.1]; exact X4.1, B3.1, fun z hz _ => (K3.2.2 z (by simp; omega)).trans (X4.2.2.1 z hz (by simp)), by rw [K3.1]; exact X4.2.2.2.1, by rw [K3.2.1]; exact X4.2.2.2.2.1, by rw [K3.2.1]; exact X4.2.2.2.2.2⟩
  have XA : kn h.1 h k8 (1 + (4 + 3)) := (X03.n (by simp) (Nat.le_refl _)).tr ((X5.n (by simp) B3.2.2.1).tr (XX.n (by simp) B5.2.2.1))
  have cac : k8.2.2 j4.1 = some (true, .inl (6, 30, .inr (.inr (.inr (.inr fun _ => none))))) := by
    rw [c8.2.2.2 _ (by omega), hk7, ap_at0]
    rfl
  refine ⟨h4, k8, j4.1, e4, ?_, XA.up (by decide), B5.kx XX (by simp), T8, ⟨_, cac, Nat.zero_le _, fun k c hk => by simp at hk⟩, Nat.zero_le _, Nat.le_refl _, by omega⟩
  unfold f_X13_init f_X10_init
  have g1 : hx_pr h4 h.1 [18] 8 (some x) = some i1 := e1
  have g2 : hx_pr i1 h.1 [16, 18] 5 (some x) = some i2 := e2
  have g3 : hx_pr i2 h.1 [16, 18] 3 (some (D.2.2.1 8)) = some i3 := e3
  have g8 : hx_pr k7 h.1 [18] 6 (some (j4.1 + ([] : List gx_E).length)) = some k8 := e8
  rw [g1, Option.bind_some, g2, Option.bind_some, g3, Option.bind_some, e5, Option.bind_some, Option.bind_some, n0, pl_b2_s, ← hk7, g8, Option.bind_some]
def pScript (ib : List Nat) (F : DF) : (Nat × Nat) ⊕ List CMD := match pScr ib F 1000 [] 0 with
  | .inl e => .inl e
  | .inr v => .inr v.1
theorem c_runScript {D : gx_D} {h : HX} {Y : YT} {A : AT} (H : cI D h Y A) (K : KC D h) : ∃ r h1 A', f_X1_runScript D h Y.1 = some (r, h1) ∧ cE D h1 Y A' ∧ bnd h h1 16300 195600 ∧ (match pScript A.2.2.2.2.1 A.1 with
    | .inl e => r = -1 ∧ A' = (A.1, A.2.1, A.2.2.1, A.2.2.2.1, [], nI e.1, nI e.2, A.2.2.2.2.2.2.2)
    | .inr cs => r = nI (runC A.1 cs A.2.1).1 ∧ cmds_ok A.1 cs ∧ A' = (A.1, (runC A.1 cs A.2.1).2, A.2.2.1, hsN A.2.2.2.1 A.2.1, [], 0, -1, A.2.2.2.2.2.2.2)) := by
  obtain ⟨F, R, sv, hs, ib, ec, eo, ob⟩ := A
  obtain ⟨i2, ov, cap, op, d0, r0, p, fnd, dl, as, e0, is9, K2, w2, E, hx2, HG, w, hx, hin, hsb, hdq, hG, ds, hA, ap1, ap2, s2⟩ := c_open H K
  simp only at E hx2 hx hin hsb hG
  obtain ⟨h4, h6, ca, e4, e6, X6, H6⟩ := c_qini E w2
  have hl : ib.length ≤ 700 := E.ok.1
  have EFx : EF D i2 Y.1 F := ⟨_, d0, ⟨true, hx2⟩, rfl, hG.2.1.sub s2⟩
  obtain ⟨h9, X9, C9⟩ := c_sloop E EFx 701 701 0 h6 [] gx_fuel 1000 (Nat.le_refl _) (by omega) H6 ⟨by decide, fun c hc => by simp at hc⟩ (by rw [pl_fl]; decide) (by decide)
  have e7 : f_X13_parse D h6 i2.1 = f_X13_parse_b0 D gx_fuel h6 i2.1 := by
    unfold f_X13_parse
    rw [(H6.2.1.outer rfl).1, Option.bind_some]
  have lt := w.lt hx
  have lt2 : Y.1 < i2.1 := by rw [K2.1]; exact lt
  have start : f_X1_runScript D h Y.1 = gx_bx (f_X13_parse_b0 D gx_fuel h6 i2.1) (fun r8 h9 => gx_b2 (f_X1_run D h9 Y.1 r8) fun x13 h14 => (hx_pi h14 Y.1 [9] 2 (0 : Int32)).bind fun h15 => some (x13, h15)) fun E10 q11 h9 => if E10 = "ContractMachine$ParseException" then gx_b2 (f_X1_fail D h9 Y.1 (some q11)) fun x37 h38 => (hx_pi h38 Y.1 [9] 2 (0 : Int32)).bind fun h39 => some (x37, h39) else none := by
    unfold f_X1_runScript
    rw [is9, Option.bind_some, e0, Option.bind_some, e4, pl_b2_s, e6, Option.bind_some, e7]
  have X69 := X6.tr X9
  have pe : pScript ib F = match pScr ib F 1000 [] 0 with
      | .inl e => .inl e
      | .inr v => .inr v.1 := rfl
  show ∃ r h1 A', f_X1_runScript D h Y.1 = some (r, h1) ∧ cE D h1 Y A' ∧ bnd h h1 16300 195600 ∧ (match pScript ib F with
    | .inl e => r = -1 ∧ A' = (F, R, sv, hs, [], nI e.1, nI e.2, ob)
    | .inr cs => r = nI (runC F cs R).1 ∧ cmds_ok F cs ∧ A' = (F, (runC F cs R).2, sv, hsN hs R, [], 0, -1, ob))
  rw [pe]
  cases em : pScr ib F 1000 [] 0 with
  | inl e =>
    rw [em] at C9
    obtain ⟨q, q1, M⟩ := C9
    obtain ⟨h1, f1, f2, f3, f4⟩ := c_fail HG w hx hin hsb hdq hG ⟨ds.1, ds.2.1, ds.2.2.1, ds.2.2.2.1, ds.2.2.2.2.1⟩ K2 hx2 X69 M
    refine ⟨-1, h1, _, ?_, f2, ?_, rfl, rfl⟩
    · rw [start, q1, pl_bx_r, if_pos (show cPE = "ContractMachine$ParseException" from rfl), f1]
    · obtain ⟨a1, a2, a3, a4, a5, a6⟩ := X69
      rw [K2.1] at a1 a4
      rw [K2.2.1] at a5 a6
      exact ⟨by omega, by omega, by omega, by omega⟩
  | inr v =>
    obtain ⟨cs, pe⟩ := v
    rw [em] at C9
    obtain ⟨q1, ⟨B9, T9, CA9, _, ha9, hca9⟩, q3⟩ := C9
    have I2 := H.err hx K2 w2 hx2
    have I9 := I2.ext X69.1 X69.2.1 X69.2.2.1
    obtain ⟨hb, mc, fe, f1, f2, f3, f4, f5, it, e1, C, G⟩ := I9.changed
    obtain ⟨pf, t1, t2, t3, _⟩ := T9.cell
    have pl3 : pf.length = 9 := by
      have := congrArg List.length t2
      rw [List.length_drop] at this
      have : pf.length - 6 = 3 := this
      omega
    have pfi : ∀ j, pf[6 + j]? = (qR ca cs.length Y.1)[j]? := fun j => by
      rw [← t2, List.getElem?_drop]
    have P : RP h9 hb Y.1 i2.1 ca cs := by
      refine ⟨⟨true, pf, t1, pfi 0, pfi 1, pfi 2⟩, CA9, fun z c hz hc => ?_⟩
      refine ⟨B9.1.lt hz, ?_⟩
      obtain ⟨ov0, op0, d1, r1, p1, fnd1, dl1, as1, G1, G2, G3, _, _, _, _, _, ⟨_, _, _, G4, G4', _⟩, _, G5⟩ := G
      obtain ⟨ov9, op9, d9, r9, p9, fnd9, dl9, as9, J1, J2, ⟨_, _, _, J3, J3', _⟩, _⟩ := I9.opn
      refine G5 z (fun e => ?_) (fun e => ?_) (fun e => ?_)
      · rw [e, J1] at hz
        cases hz
        rcases hc with ⟨_, _, _, h, m⟩ | ⟨_, _, _, h⟩
        · cases h; revert m; decide
        · cases h
      · rw [e, J3] at hz
        cases hz
        rcases hc with ⟨_, _, _, h, m⟩ | ⟨_, _, _, h⟩
        · cases h; revert m; decide
        · cases h
      · rw [e, J3'] at hz
        cases hz
        rcases hc with ⟨_, _, _, h, m⟩ | ⟨_, _, _, h⟩
        · cases h
        · cases h
    have Z0 : RZ D h9 hb 0 R (hx_ap h9.1 hb (rnB h9.1 mc R.iv.length fe f1 f2 f3 f4 f5 (nI (cf_c R.cf)) R.ac (nI R.tr.length) ++ [it]) 107) := ⟨mc, fe, f1, f2, f3, f4, f5, [it], 107, rfl, C, by simp, by omega⟩
    obtain ⟨z', r1, r2, r3⟩ := c_runl ap1 ap2 G hA.1 P q3.2 q3.1 cs 0 gx_fuel R _ rfl (Nat.zero_le _) hA.2.1 Z0 (by rw [pl_fl]; have : cs.length ≤ 30 := q3.1; omega)
    obtain ⟨mc', fe', g1, g2, g3, g4, g5, tl, s, hz, C', lt', ls'⟩ := r2
    have EE := G.run (mc := mc') (tl := tl) (s := s) C'
    rw [← hz] at EE
    obtain ⟨h15, e15, E15, n15, m15⟩ := EE.il
    have is9' : hx_is h9 Y.1 [9] = some () := (hx_ob.mk I9.opn.choose_spec.choose_spec.choose_spec.choose_spec.choose_spec.choose_spec.choose_spec.choose_spec.1).is (by decide)
    refine ⟨nI (runC F cs R).1, h15, _, ?_, E15, ?_, rfl, q3, rfl⟩
    · rw [start, q1, pl_bx_l]
      unfold f_X1_run
      rw [is9', Option.bind_some, e1, pl_b2_s, show (0 : Int32) = nI 0 from rfl, r1, pl_b2_s]
      rw [show nI 0 = 0 from rfl, e15, Option.bind_some, Nat.zero_add]
    · have b2 := G.bnd (B := rnB h9.1 mc' (runC F cs R).2.iv.length fe' g1 g2 g3 g4 g5 (nI (cf_c (runC F cs R).2.cf)) (runC F cs R).2.ac (nI (runC F cs R).2.tr.length) ++ tl) (s := s)
      rw [← hz] at b2
      obtain ⟨b3, b4, b5, b6⟩ := b2
      have bl : (rnB h9.1 mc' (runC F cs R).2.iv.length fe' g1 g2 g3 g4 g5 (nI (cf_c (runC F cs R).2.cf)) (runC F cs R).2.ac (nI (runC F cs R).2.tr.length) ++ tl).length = 8 + tl.length := by rw [List.length_append]; rfl
      obtain ⟨a1, a2, a3, a4, a5, a6⟩ := X69
      rw [K2.1] at a1 a4
      rw [K2.2.1] at a5 a6
      exact ⟨by omega, by omega, by omega, by omega⟩
