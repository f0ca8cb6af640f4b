/-! the component's setup parser: from its start to its end -/
set_option maxRecDepth 100000
set_option linter.unusedSimpArgs false
/-- a run is cleared -/
theorem c_zero {D : gx_D} {r k N e : Nat} {fs : List Value} {F : Nat → HX → Int32 → Option HX} {h : HX} {f : Nat → Int32} (hr : h.2.2 r = some (true, .inr (11, fs))) (he : h.2.2 e = some (true, .inl (0, N, .inl f))) (hN : N < 1000)
    (st : ∀ fu h i, i < N → (∃ b, h.2.2 r = some (b, .inr (11, fs))) → F (fu + 1) h (nI i) = (hx_si h e (nI i) 0).bind fun h1 => F fu h1 (nI (i + 1))) : ∃ fu h1 g, F gx_fuel h 0 = F (fu + 1) h1 (nI N) ∧ hx_kp h h1 [e] ∧ h1.2.2 e = some (true, .inl (0, N, .inl g)) ∧ ∀ j, j < N → g j = 0 := by
  have ner : e ≠ r := fun c => by rw [c, hr] at he; cases he
  obtain ⟨s, ⟨hk, e1, e2⟩, e3⟩ := gx_lq (F := fun f (s : HX × Int32) => F f s.1 s.2) (I := fun i s => s.2 = nI i ∧ hx_kp h s.1 [e] ∧ ∃ g, s.1.2.2 e = some (true, .inl (0, N, .inl g)) ∧ ∀ j, j < i → g j = 0) N (by
    intro fu i s hi hI
    obtain ⟨y, q⟩ := s
    obtain ⟨rfl, K, g, g1, g2⟩ : q = nI i ∧ _ := hI
    have K : hx_kp h y [e] := K
    have g1 : y.2.2 e = some (true, .inl (0, N, .inl g)) := g1
    obtain ⟨h1, t1, t2⟩ := hx_si_e (x := 0) g1 hi (by omega)
    refine ⟨(h1, nI (i + 1)), ⟨rfl, K.tr (t2.kp (by simp)), upd g i 0, t2.2.2.1, fun j hj => ?_⟩, ?_⟩
    · by_cases c : j = i
      · rw [c, pk_us]
      · rw [pk_un c]; exact g2 j (by omega)
    · show F (fu + 1) y (nI i) = F fu h1 (nI (i + 1))
      rw [st fu y i hi ⟨true, (K.2.2 r (by simp [Ne.symm ner])).trans hr⟩, t1, Option.bind_some]) N 0 gx_fuel (h, 0) (by omega) (by rw [pl_fl]; omega) ⟨rfl, hx_kp.rf, f, he, fun j hj => by omega⟩
  obtain ⟨y, q⟩ := s
  have hk : q = nI N := hk
  subst hk
  obtain ⟨g, g1, g2⟩ := e2
  refine ⟨gx_fuel - N - 1, y, g, ?_, e1, g1, g2⟩
  have e3 : F gx_fuel h 0 = F (gx_fuel - N) y (nI N) := e3
  rw [e3]
  congr 1
  rw [pl_fl]
  omega
theorem c_clr {D : gx_D} {h : HX} {r i a1 a2 a3 a4 a5 : Nat} {q : CF} {ac tl : Int32} {f1 f2 f3 : Nat → Int32} (hq : cf_ok q) (hr : h.2.2 r = some (true, .inr (11, [.ref i, .ref a1, .ref a2, .ref a3, .ref a4, .ref a5, .int (nI (cf_c q)), .int ac, .int tl]))) (h1 : h.2.2 a1 = some (true, .inl (0, 24, .inl f1))) (h2 : h.2.2 a2 = some (true, .inl (0, 10, .inl f2))) (h3 : h.2.2 a3 = some (true, .inl (0, 5, .inl f3))) (n12 : a1 ≠ a2) (n13 : a1 ≠ a3) (n23 : a2 ≠ a3) : ∃ h' g1 g2 g3, f_X4_clear D h r = some h' ∧ hx_kp h h' [r, a1, a2, a3] ∧ h'.2.2 r = some (true, .inr (11, [.ref i, .ref a1, .ref a2, .ref a3, .ref a4, .ref a5, .int (nI (cf_c q)), .int 0, .int 0])) ∧ h'.2.2 a1 = some (true, .inl (0, 24, .inl g1)) ∧ h'.2.2 a2 = some (true, .inl (0, 10, .inl g2)) ∧ h'.2.2 a3 = some (true, .inl (0, 5, .inl g3)) ∧ (∀ j, j < 24 → g1 j = 0) ∧ (∀ j, j < 10 → g2 j = if j = q.1 then 1 else 0) ∧ ∀ j, j < 5 → g3 j = 0 := by
  have r1 : r ≠ a1 := fun c => by rw [c, h1] at hr; cases hr
  have r2 : r ≠ a2 := fun c => by rw [c, h2] at hr; cases hr
  have r3 : r ≠ a3 := fun c => by rw [c, h3] at hr; cases hr
  unfold f_X4_clear
  rw [(hx_ob.mk hr).is (by decide), Option.bind_some]
  obtain ⟨u1, y1, g1, e1, k1, o1, z1⟩ := c_zero (F := fun f h i => f_X4_clear_b2 D f h r i) (D := D) (k := 0) hr h1 (by decide) (fun fu h i hi ho => by
    obtain ⟨b, ho⟩ := ho
    simp only [f_X4_clear_b2, if_neg (show ¬ (24 : Int32) ≤ nI i from nI_ge hi (by decide)), (hx_ob.mk ho).gr (show 11 ∈ [11] by decide) (k := 1) (r := some a1) rfl, Option.bind_some, gx_c1])
  rw [e1]
  have hr1 := (k1.2.2 r (by simp [r1])).trans hr
  have h21 := (k1.2.2 a2 (by simp [Ne.symm n12])).trans h2
  have h31 := (k1.2.2 a3 (by simp [Ne.symm n13])).trans h3
  simp only [f_X4_clear_b2, if_pos (show (24 : Int32) ≤ nI 24 by decide), f_X4_clear_b21]
  obtain ⟨u2, y2, g2, e2, k2, o2, z2⟩ := c_zero (F := fun f h i => f_X4_clear_b23 D f h r i) (D := D) (k := 0) hr1 h21 (by decide) (fun fu h i hi ho => by
    obtain ⟨b, ho⟩ := ho
    simp only [f_X4_clear_b23, if_neg (show ¬ (10 : Int32) ≤ nI i from nI_ge hi (by decide)), (hx_ob.mk ho).gr (show 11 ∈ [11] by decide) (k := 2) (r := some a2) rfl, Option.bind_some, gx_c1])
  rw [e2]
  have hr2 := (k2.2.2 r (by simp [r2])).trans hr1
  have h12 := (k2.2.2 a1 (by simp [n12])).trans o1
  have h32 := (k2.2.2 a3 (by simp [Ne.symm n23])).trans h31
  simp only [f_X4_clear_b23, if_pos (show (10 : Int32) ≤ nI 10 by decide), f_X4_clear_b42]
  obtain ⟨u3, y3, g3, e3, k3, o3, z3⟩ := c_zero (F := fun f h i => f_X4_clear_b44 D f h r i) (D := D) (k := 0) hr2 h32 (by decide) (fun fu h i hi ho => by
    obtain ⟨b, ho⟩ := ho
    simp only [f_X4_clear_b44, if_neg (show ¬ (5 : Int32) ≤ nI i from nI_ge hi (by decide)), (hx_ob.mk ho).gr (show 11 ∈ [11] by decide) (k := 3) (r := some a3) rfl, Option.bind_some, gx_c1])
  rw [e3]
  have hr3 := (k3.2.2 r (by simp [r3])).trans hr2
  have h13 := (k3.2.2 a1 (by simp [n13])).trans h12
  have h23 := (k3.2.2 a2 (by simp [n23])).trans o2
  simp only [f_X4_clear_b44, if_pos (show (5 : Int32) ≤ nI 5 by decide)]
  unfold f_X4_clear_b62
  obtain ⟨y4, e4, c4⟩ := hx_pv_e (cis := [11]) (k := 7) (v := .int 0) hr3 (by decide) (by simp)
  obtain ⟨y5, e5, c5⟩ := hx_pv_e (cis := [11]) (k := 8) (v := .int 0) c4.2.2.1 (by decide) (by simp)
  have o5 := hx_ob.mk c5.2.2.1
  have st : f_X4_state D y5 r = some (nI q.1) := by
    unfold f_X4_state
    rw [o5.is (by decide), Option.bind_some, o5.gi (by decide) (k := 6) (x := nI (cf_c q)) rfl, Option.bind_some, c_state hq]
  have h25 := (c5.2.2.2 a2 (Ne.symm r2)).trans ((c4.2.2.2 a2 (Ne.symm r2)).trans h23)
  have h15 := (c5.2.2.2 a1 (Ne.symm r1)).trans ((c4.2.2.2 a1 (Ne.symm r1)).trans h13)
  have h35 := (c5.2.2.2 a3 (Ne.symm r3)).trans ((c4.2.2.2 a3 (Ne.symm r3)).trans o3)
  obtain ⟨y6, e6, c6⟩ := hx_si_e (x := 1) h25 hq.1 (by decide)
  refine ⟨y6, g1, upd g2 q.1 1, g3, ?_, ?_, (c6.2.2.2 r r2).trans c5.2.2.1, (c6.2.2.2 a1 n12).trans h15, c6.2.2.1, (c6.2.2.2 a3 (Ne.symm n23)).trans h35, z1, fun j hj => ?_, z3⟩
  · simp only [hx_pi, e4, e5, Option.bind_some, o5.gr (show 11 ∈ [11] by decide) (k := 2) (r := some a2) rfl, st, e6]
  · have w : ∀ {h h' : HX} {L L' : List Nat}, hx_kp h h' L → (∀ z, z ∈ L → z ∈ L') → hx_kp h h' L' := fun k hL => ⟨k.1, k.2.1, fun z hz => k.2.2 z (fun m => hz (hL z m))⟩
    exact ((((w k1 (by simp)).tr (w k2 (by simp))).tr (w k3 (by simp))).tr (c4.kp (by simp))).tr ((c5.kp (by simp)).tr (c6.kp (by simp)))
  · by_cases c : j = q.1
    · rw [c, pk_us, if_pos rfl]
    · rw [pk_un c, if_neg c]
      exact z2 j hj
/-- only new cells -/
def kn (n : Nat) (h h1 : HX) (k : Nat) : Prop := h.1 ≤ h1.1 ∧ hx_wf h1 ∧ (∀ z, z < n → h1.2.2 z = h.2.2 z) ∧ h1.1 ≤ h.1 + k ∧ h.2.1 ≤ h1.2.1 ∧ h1.2.1 ≤ h.2.1 + 12 * k
theorem kx.n {h h1 : HX} {L : List Nat} {k n : Nat} (X : kx h h1 L k) (hL : ∀ z, z ∈ L → n ≤ z) (hn : n ≤ h.1) : kn n h h1 k := ⟨X.1, X.2.1, fun z hz => X.2.2.1 z (by omega) (fun m => by have := hL z m; omega), X.2.2.2⟩
theorem kn.tr {h h1 h2 : HX} {n k m : Nat} (a : kn n h h1 k) (b : kn n h1 h2 m) : kn n h h2 (k + m) := by
  obtain ⟨a1, a2, a3, a4, a5, a6⟩ := a
  obtain ⟨b1, b2, b3, b4, b5, b6⟩ := b
  exact ⟨by omega, b2, fun z hz => (b3 z hz).trans (a3 z hz), by omega, by omega, by omega⟩
theorem kn.up {h h1 : HX} {n k m : Nat} (a : kn n h h1 k) (hk : k ≤ m) : kn n h h1 m := by
  obtain ⟨a1, a2, a3, a4, a5, a6⟩ := a
  exact ⟨a1, a2, a3, by omega, a5, by omega⟩
section CLD
variable {D : gx_D} {g : HX} {n a x inp d : Nat} {ib : List Nat}
theorem c_loop (hap : gx_apt D) (hne : gx_apt2 D) (E : EV D g x inp ib) : ∀ (M m p : Nat) (h : HX) (S : SP) (F N : Nat), m ≤ M → ib.length < p + m → PS D g n [] h a x d ib S p → sp_ok S → m < F → m < N → ∃ h1, kn n h h1 (23 * m + 90) ∧ (match pLoop ib N S p with
    | .inl e => ∃ q, f_X11_parse_b0 D F h a = some (.inr (cPE, q), h1) ∧ exn h1 q e
    | .inr v => f_X11_parse_b0 D F h a = f_X11_parse_b18 D h1 a ∧ PS D g n [] h1 a x d ib v.1 v.2 ∧ sp_ok v.1) := by
  intro M
  induction M with
  | zero =>
    intro m p h S F N hM hm H hS hF hN
    have := H.2.2.2.1
    omega
  | succ M ih =>
    intro m p h S F N hM hm H hS hF hN
    obtain ⟨B, T, Z, hp, _⟩ := id H
    obtain ⟨F, rfl⟩ : ∃ f, F = f + 1 := ⟨F - 1, by omega⟩
    obtain ⟨N, rfl⟩ : ∃ f, N = f + 1 := ⟨N - 1, by omega⟩
    have lt := Z.lt
    by_cases k3 : tK ib p = 3
    · refine ⟨h, (kx.rf (L := []) (k := 0) B.1).n (by simp) B.2.2.1 |>.up (by omega), ?_⟩
      have e : pLoop ib (N + 1) S p = .inr (S, p) := if_pos k3
      rw [e]
      refine ⟨?_, H, hS⟩
      simp only [f_X11_parse_b0, T.made.1, Option.bind_some, f_isOver E T hp, decide_eq_true k3, if_true]
    · obtain ⟨w, L, wd, hL, r, h1, e1, X, C⟩ := c_statement hap hne E H hS k3
      have g4 := gO_stmt4 (S := S) hp
      have X1 := X.n hL B.2.2.1
      have e : pLoop ib (N + 1) S p = pb (pStmt ib S p) fun S' p' => pLoop ib N S' p' := if_neg k3
      have st : f_X11_parse_b0 D (F + 1) h a = gx_bx (some (r, h1)) (fun u58 h55 => (f_X11_parse_b0 D F) h55 a) fun E56 q57 h55 => some (.inr (E56, q57), h55) := by
        simp only [f_X11_parse_b0, T.made.1, Option.bind_some, f_isOver E T hp, decide_eq_false k3, if_neg Bool.false_ne_true, wd, e1]
      rw [e, st]
      cases em : pStmt ib S p with
      | inl er =>
        rw [em] at C
        obtain ⟨q, rfl, M2⟩ := C
        exact ⟨h1, X1.up (by omega), q, rfl, M2⟩
      | inr v =>
        obtain ⟨S', p'⟩ := v
        rw [em] at C
        obtain ⟨c, rfl, Z1, T1⟩ := C
        have gr := g4.r em
        have hS' := pStmt_i hS em
        have H1 : PS D g n [] h1 a x d ib S' p' := ⟨B.kx X hL, T1, Z1, gr.2, by simp⟩
        obtain ⟨h2, X2, C2⟩ := ih (m - 4) p' h1 S' F N (by omega) (by omega) H1 hS' (by omega) (by omega)
        exact ⟨h2, (X1.tr X2).up (by omega), C2⟩
def rnNew (S : SP) : RN := (S.2, S.1.ini, fun _ => 0, fun k => if k = S.1.ini.1 then 1 else 0, fun _ => 0, 0, [])
/-- behind the last statement -/
def pEnd (ib : List Nat) (S : SP) (p : Nat) : (Nat × Nat) ⊕ SP := if S.1.sn.length = 0 ∨ S.1.en.length = 0 ∨ S.1.vn.length = 0 then .inl (6, tS ib p) else if (brk S.2 S.1.ini).isSome = true then .inl (7, tS ib p) else .inr S
theorem f_empty {α : Type} {R : HX → Nat → α → Prop} {h : HX} {l cap : Nat} {xs : List α} (H : hx_lst R h l cap xs) (hc : cap < 1000) : f_J2_isEmpty D h l = some (decide (xs.length = 0)) := by
  have hl := H.cap
  obtain ⟨as, ⟨mc, e, f, h1, h2, h3⟩, l2, _⟩ := H
  unfold f_J2_isEmpty
  rw [h1.is (by decide), Option.bind_some, h1.gi (by decide) (k := 2) rfl, Option.bind_some, l2]
  by_cases c : xs.length = 0
  · rw [if_pos (by rw [c]; rfl), decide_eq_true c]
  · rw [if_neg (show ¬ nI xs.length = 0 from nI_ne (b := 0) (by omega) (by decide) c), decide_eq_false c]
theorem c_pend {h : HX} {p : Nat} {S : SP} (hap : gx_apt D) (E : EV D g x inp ib) (H : PS D g n [] h a x d ib S p) (hS : sp_ok S) : ∃ h1, kn n h h1 1 ∧ hx_is h1 a [16] = some () ∧ hx_gr h1 a [16] 6 = some (some d) ∧ (match pEnd ib S p with
    | .inl e => ∃ q, f_X11_parse_b18 D h a = some (.inr (cPE, q), h1) ∧ exn h1 q e
    | .inr v => f_X11_parse_b18 D h a = some (.inl (some (d + 9)), h1) ∧ hx_df D (hxN n h1) d v.1 ∧ hx_rn D (hxN n h1) (d + 9) (rnNew v)) := by
  obtain ⟨B, T, Z, hp, _⟩ := id H
  have lt := Z.lt
  have na := H.na
  have hini := hS.2.2.2.1.1
  have err : ∀ (c : Nat) (h1 : HX), kx h h1 [] 1 → kn n h h1 1 ∧ hx_is h1 a [16] = some () ∧ hx_gr h1 a [16] 6 = some (some d) := fun _ h1 X => by
    have T1 := T.mov B.1 X (by simp) (by simp)
    exact ⟨X.n (by simp) B.2.2.1, T1.made.1, T1.made.2.1⟩
  have ic : f_X3_isComplete D h d = some (decide ¬ (S.1.sn.length = 0 ∨ S.1.en.length = 0 ∨ S.1.vn.length = 0)) := by
    unfold f_X3_isComplete
    rw [Z.rd.1, Option.bind_some, Z.rd.2.1, Option.bind_some, Option.bind_some, f_empty Z.ls.1 (by decide), Option.bind_some]
    by_cases c1 : S.1.sn.length = 0
    · rw [if_pos (decide_eq_true c1), decide_eq_false (by simp [c1])]
    · rw [if_neg (by rw [decide_eq_false c1]; decide), Z.rd.2.2.1, Option.bind_some, Option.bind_some, f_empty Z.ls.2.1 (by decide), Option.bind_some]
      by_cases c2 : S.1.en.length = 0
      · rw [if_pos (decide_eq_true c2), decide_eq_false (by simp [c2])]
      · rw [if_neg (by rw [decide_eq_false c2]; decide), Z.rd.2.2.2.1, Option.bind_some, Option.bind_some, f_empty Z.ls.2.2.1 (by decide), Option.bind_some]
        by_cases c3 : S.1.vn.length = 0
        · rw [if_pos (decide_eq_true c3), decide_eq_false (by simp [c3])]
        · rw [if_neg (by rw [decide_eq_false c3]; decide), decide_eq_true (by simp only [not_or]; exact ⟨c1, c2, c3⟩)]
  unfold pEnd f_X11_parse_b18
  rw [T.made.2.1, Option.bind_some, Option.bind_some, ic, Option.bind_some, T.made.1, Option.bind_some]
  by_cases c0 : S.1.sn.length = 0 ∨ S.1.en.length = 0 ∨ S.1.vn.length = 0
  · obtain ⟨h1, e1, X, M⟩ := f_expect_f T B.1 6
    obtain ⟨k1, k2, k3⟩ := err 6 h1 X
    refine ⟨h1, k1, k2, k3, ?_⟩
    rw [if_pos c0]
    refine ⟨_, ?_, M⟩
    rw [decide_eq_false (not_not_intro c0), show (6 : Int32) = nI 6 from rfl, e1, pl_bx_r]
  rw [if_neg c0, decide_eq_true c0, f_expect_t T, pl_bx_l, T.made.2.2, Option.bind_some, T.made.2.1, Option.bind_some, Option.bind_some, Z.rd.2.2.2.2.2.1, Option.bind_some, Option.bind_some]
  obtain ⟨s1, s2, ⟨s3, hbs⟩, s4, s5, s6, s7, s8, s9, s10, ⟨f1, s11⟩, ⟨f2, s12⟩, ⟨f3, s13⟩, ⟨f4, s14⟩, ⟨f5, s15⟩⟩ := id Z
  rw [f_broken hap (hx_ob.mk s9) (li := d + 10) rfl Z.ls.2.2.2.2 hini, Option.bind_some]
  have bl := hS.1.2.2.2.2
  cases eb : brk S.2 S.1.ini with
  | some k =>
    have hk := brk_lt eb
    rw [if_neg (oI_sne (show k < 2 ^ 31 by omega))]
    obtain ⟨h1, e1, X, M⟩ := f_expect_f T B.1 7
    obtain ⟨k1, k2, k3⟩ := err 7 h1 X
    refine ⟨h1, k1, k2, k3, _, ?_, M⟩
    unfold f_X11_parse_b55
    rw [Option.bind_some, T.made.1, Option.bind_some, show (7 : Int32) = nI 7 from rfl, e1, pl_bx_r]
  | none =>
    rw [if_pos oI_nn]
    obtain ⟨h35, e35, c35⟩ := hx_pv_e (cis := [11]) (k := 6) (v := .int (nI (cf_c S.1.ini))) s9 (by decide) (by simp)
    have r35 : h35.2.2 (d + 9) = some (true, .inr (11, [.ref (d + 10), .ref (d + 12), .ref (d + 13), .ref (d + 14), .ref (d + 15), .ref (d + 16), .int (nI (cf_c S.1.ini)), .int 0, .int 0])) := c35.2.2.1
    obtain ⟨h39, g1, g2, g3, e39, k39, o1, o2, o3, o4, z1, z2, z3⟩ := c_clr (D := D) hini r35 ((c35.2.2.2 _ (by omega)).trans s11) ((c35.2.2.2 _ (by omega)).trans s12) ((c35.2.2.2 _ (by omega)).trans s13) (by omega) (by omega) (by omega)
    have K : hx_kp h h39 [d + 9, d + 12, d + 13, d + 14] := (c35.kp (by simp)).tr k39
    have X : kx h h39 [d + 9, d + 12, d + 13, d + 14] 0 := kx.kp B.1 (by simp; omega) K
    have T35 := T.ls Z B.1 (kx.kp (L := [d + 9]) B.1 (by simp; omega) (c35.kp (by simp))) (by simp)
    have T39 := T.ls Z B.1 X (by simp)
    have v39 : hx_sub (hxW n ([] ++ SW a d) h) (hxW n ([] ++ SW a d) h39) := X.W B.1 (fun z hz => Or.inl (by
      simp only [List.mem_cons, List.not_mem_nil, or_false] at hz
      rw [List.nil_append, SW_m]
      omega))
    have vN : hx_sub (hxW n ([] ++ SW a d) h) (hxN n h39) := v39.tr (fun z c e => by
      obtain ⟨e1, e2, e3⟩ := hxW_at e
      rw [hxN_of e1, e3])
    have sw : hx_sw (hxN n h39) (hxN n h39) := hx_sw.rf
    refine ⟨h39, (X.n (by simp; omega) B.2.2.1).up (by decide), T39.made.1, T39.made.2.1, ?_, ?_, ?_⟩
    · unfold f_X11_parse_b55
      rw [Option.bind_some, T.made.1, Option.bind_some, f_expect_t T, pl_bx_l, T.made.2.2, Option.bind_some, T.made.2.1, Option.bind_some, Option.bind_some, Z.rd.2.2.2.2.2.1, Option.bind_some, Option.bind_some, hx_pi, e35, Option.bind_some, T35.made.2.2, Option.bind_some, Option.bind_some, e39, Option.bind_some, T39.made.2.2, Option.bind_some]
    · have at' : ∀ z, z ∉ [d + 9, d + 12, d + 13, d + 14] → n ≤ z → (hxN n h39).2.2 z = h.2.2 z := fun z hz hn => (hxN_of hn).trans (K.2.2 z hz)
      have ls : ∀ {α : Type} {R : HX → Nat → α → Prop} {l cap : Nat} {xs : List α}, (∀ b x, R (hxW n ([] ++ SW a d) h) b x → R (hxN n h39) b x) → l + 1 ≤ 8 → 0 < l → cap < 1000 → wls R (hxW n ([] ++ SW a d) h) h (d + l) cap xs → hx_lst R (hxN n h39) (d + l) cap xs := fun {α R l cap xs} hR hl h0 hc W => by
        have W2 : wls R (hxN n h39) (hxN n h39) (d + l) cap xs := W.mov hR (at' _ (by simp; omega) (by omega)) (at' _ (by simp; omega) (by omega))
        exact W2.lst (by omega) (fun _ _ h => h) sw
      exact ⟨d + 1, d + 3, d + 5, d + 7, ⟨true, (at' _ (by simp) (by omega)).trans s4⟩, ls (fun _ _ => hx_str.sub vN) (by decide) (by decide) (by decide) s5, ls (fun _ _ => hx_str.sub vN) (by decide) (by decide) (by decide) s6, ls (fun _ _ => hx_str.sub vN) (by decide) (by decide) (by decide) s7, ls (fun _ _ => hx_tr.sub vN) (by decide) (by decide) (by decide) s8⟩
    · have at' : ∀ z, z ∉ [d + 9, d + 12, d + 13, d + 14] → n ≤ z → (hxN n h39).2.2 z = h.2.2 z := fun z hz hn => (hxN_of hn).trans (K.2.2 z hz)
      have W2 : wls (hx_iv D) (hxN n h39) (hxN n h39) (d + 10) 12 S.2 := s10.mov (fun _ _ => hx_iv.sub vN) (at' _ (by simp) (by omega)) (at' _ (by simp) (by omega))
      exact ⟨d + 10, d + 12, d + 13, d + 14, d + 15, d + 16, f4, f5, ⟨true, (hxN_of (by omega)).trans o1⟩, W2.lst (by decide) (fun _ _ h => h) sw, ⟨g1, ⟨true, (hxN_of (by omega)).trans o2⟩, fun k hk => z1 k hk⟩, ⟨g2, ⟨true, (hxN_of (by omega)).trans o3⟩, fun k hk => z2 k hk⟩, ⟨g3, ⟨true, (hxN_of (by omega)).trans o4⟩, fun k hk => z3 k hk⟩, ⟨true, (at' _ (by simp) (by omega)).trans s14⟩, ⟨true, (at' _ (by simp) (by omega)).trans s15⟩, fun k hk => absurd hk (Nat.not_lt_zero k)⟩
end CLD
