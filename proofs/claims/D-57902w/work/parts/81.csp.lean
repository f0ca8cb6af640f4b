/-! the component's script parser -/
set_option maxRecDepth 100000
set_option linter.unusedSimpArgs false
def cmdO (h : HX) (a b : Nat) (c : CMD) : Prop := match c.1 with
  | 1 => hx_ob h b 19 [.int (nI c.2.1), .ref a]
  | 2 => hx_ob h b 20 [.int (nI c.2.1), .int (nI c.2.2), .ref a]
  | 3 => hx_ob h b 21 [.ref a]
  | _ => hx_ob h b 22 [.ref a]
theorem cmdO.mov {h h1 : HX} {a b : Nat} {c : CMD} (H : cmdO h a b c) (k : h1.2.2 b = h.2.2 b) : cmdO h1 a b c := by
  have t : ∀ {ci fs}, hx_ob h b ci fs → hx_ob h1 b ci fs := fun ⟨f, e⟩ => ⟨f, k.trans e⟩
  unfold cmdO at H ⊢
  split at H <;> exact t H
theorem cmdO.ci {h : HX} {a b : Nat} {c : CMD} (H : cmdO h a b c) : ∃ fl ci fs, h.2.2 b = some (fl, .inr (ci, fs)) ∧ ci ∈ [19, 20, 21, 22] := by
  unfold cmdO at H
  split at H <;> (obtain ⟨f, e⟩ := H; exact ⟨_, _, _, e, by decide⟩)
def CA (h : HX) (a ca : Nat) (cs : List CMD) : Prop := ∃ f, h.2.2 ca = some (true, .inl (6, 30, .inr (.inr (.inr (.inr f))))) ∧ cs.length ≤ 30 ∧ ∀ (k : Nat) (c : CMD), cs[k]? = some c → ∃ b, f k = some b ∧ cmdO h a b c
theorem CA.mov {h h1 : HX} {a ca k : Nat} {L : List Nat} {cs : List CMD} (H : CA h a ca cs) (w : hx_wf h) (X : kx h h1 L k) (hL : ∀ z, z ∈ L → z ≠ ca ∧ ∀ fl ci fs, h.2.2 z = some (fl, .inr (ci, fs)) → ci ∉ [19, 20, 21, 22]) : CA h1 a ca cs := by
  obtain ⟨f, h1', h2, h3⟩ := H
  refine ⟨f, X.at w (fun m => (hL ca m).1 rfl) h1', h2, fun k c hc => ?_⟩
  obtain ⟨b, b1, b2⟩ := h3 k c hc
  obtain ⟨fl, ci, fs, e1, e2⟩ := b2.ci
  exact ⟨b, b1, b2.mov (X.2.2.1 b (w.lt e1) (fun m => (hL b m).2 _ _ _ e1 e2))⟩
def qR (ca m x : Nat) : List Value := [.ref ca, .int (nI m), .ref x]
def PQ (D : gx_D) (g : HX) (n : Nat) (h : HX) (a x ca : Nat) (ib : List Nat) (cs : List CMD) (p : Nat) : Prop := HB g n h ∧ PT D n h a 18 x (qR ca cs.length x) ib p ∧ CA h a ca cs ∧ p ≤ ib.length ∧ n ≤ a ∧ n ≤ ca
/-- the definition that a script is parsed for -/
def EF (D : gx_D) (g : HX) (x : Nat) (F : DF) : Prop := ∃ fs dd, hx_ob g x 9 fs ∧ fs[5]? = some (.ref dd) ∧ hx_df D g dd F
section CSP
variable {D : gx_D} {g h : HX} {n a x inp p ca ci : Nat} {rest : List Value} {ib : List Nat} {F : DF} {cs : List CMD}
/-- a string is hashed beside the parser -/
theorem PT.hs {h4 : HX} {w : Nat} {W : List Nat} (T : PT D n h a ci x rest ib p) (hw : wst h w W) (ne : ∀ z, z ≠ w → h4.2.2 z = h.2.2 z) (W4 : wst h4 w W) (lo : hlo h h4) : PT D n h4 a ci x rest ib p ∧ w ≠ a := by
  obtain ⟨vl, w', P, h2, h3, h4', h5⟩ := T
  have hwa : w ≠ a := fun e => by
    have := str_is hw.str
    rw [e] at this
    unfold hx_is at this
    rw [P.2] at this
    rcases P.1 with c | c <;> subst c <;> exact absurd this (by simp)
  have loN : hlo (hxN n h) (hxN n h4) := fun z b e he => by
    obtain ⟨c1, c2⟩ := hxN_ge he
    rcases lo z b e c2 with ⟨b', k⟩ | ⟨b', v, x, y, y', z1, z2, k1, k2⟩
    · exact Or.inl ⟨b', (hxN_of c1).trans k⟩
    · exact Or.inr ⟨b', v, x, y, y', z1, z2, k1, (hxN_of c1).trans k2⟩
  refine ⟨⟨vl, w', ⟨P.1, (ne a (fun e => hwa e.symm)).trans P.2⟩, h2, ?_, fun k => ⟨(h4' k).1, (h4' k).2.lo loN⟩, h5⟩, hwa⟩
  by_cases c : w' = w
  · subst c
    rw [str_uq h3.str hw.str]
    exact W4
  · obtain ⟨fl, v, f, hb, hc, e1, ⟨fl', e2⟩, e3⟩ := h3
    refine ⟨fl, v, f, hb, hc, (ne w' c).trans e1, ⟨fl', (ne v (fun e => ?_)).trans e2⟩, e3⟩
    obtain ⟨_, _, _, _, _, k, _⟩ := hw
    rw [e, k] at e2
    cases e2
theorem p_hash (E : EV D g x inp ib) (B : HB g n h) (T : PT D n h a ci x rest ib p) (hp : p ≤ ib.length) : ∃ w h4 L, f_X10_word D h a = some (some w) ∧ f_J9_hashCode D h w = some (hsh (tW ib p), h4) ∧ kx h h4 L 0 ∧ (∀ z, z ∈ L → n ≤ z ∧ ∃ fl fs, h.2.2 z = some (fl, .inr (2, fs))) ∧ PT D n h4 a ci x rest ib p ∧ wst h4 w (tW ib p) ∧ (tK ib p = 0 → n ≤ w) := by
  obtain ⟨vl, w, P, h2, h3, h4', h5⟩ := id T
  have wd : f_X10_word D h a = some (some w) := by
    unfold f_X10_word
    rw [P.g.1, Option.bind_some, P.g.2.2.2.2.1, Option.bind_some]
  by_cases k0 : tK ib p = 0
  · obtain ⟨nw, sw⟩ := h4' k0
    obtain ⟨h4, e, X, W4, lo, ne⟩ := str_hash (D := D) B.1 h3
    obtain ⟨T4, hwa⟩ := T.hs h3 ne W4 lo
    refine ⟨w, h4, [w], wd, e, X, fun z hz => ?_, T4, W4, fun _ => nw⟩
    simp only [List.mem_cons, List.not_mem_nil, or_false] at hz
    subst hz
    obtain ⟨fl, v, f, hb, hc, e1, _⟩ := h3
    exact ⟨nw, fl, _, e1⟩
  · have ew := h5 k0
    have tw : tW ib p = [] := (adv_ok hp).2.2.2.2.2.2.2.1 k0
    refine ⟨w, h, [], wd, ?_, kx.rf B.1, by simp, T, h3, fun c => absurd c k0⟩
    obtain ⟨v, fl, hv⟩ := E.2.2.2.2.1
    have o : hx_ob h w 2 [va_rf (some v), .int 0, .int 0, .int 1] := by
      rw [ew]
      exact ⟨fl, B.2.1 _ _ hv⟩
    unfold f_J9_hashCode
    rw [o.is (by decide), Option.bind_some, o.gi (by decide) (k := 2) (x := 0) rfl, Option.bind_some, if_pos rfl, o.gi (by decide) (k := 3) (x := 1) rfl, Option.bind_some, if_neg (by decide), tw]
    rfl
def ciI (w : List Nat) : Int32 := if w = kw 22 then 1 else if w = kw 21 then 0 else if w = kw 24 then 3 else if w = kw 23 then 2 else -1
theorem ci_sel {γ : Type} (B : Int32 → Option γ) (W : List Nat) : (if hsh W = 113762 then (some (decide (W = kw 22))).bind fun b => if b = true then B 1 else B (-1) else if hsh W = 3143222 then (some (decide (W = kw 21))).bind fun b => if b = true then B 0 else B (-1) else if hsh W = 94746189 then (some (decide (W = kw 24))).bind fun b => if b = true then B 3 else B (-1) else if hsh W = 108404047 then (some (decide (W = kw 23))).bind fun b => if b = true then B 2 else B (-1) else B (-1)) = B (ciI W) := by
  have h22 : hsh (kw 22) = 113762 := by decide
  have h21 : hsh (kw 21) = 3143222 := by decide
  have h24 : hsh (kw 24) = 94746189 := by decide
  have h23 : hsh (kw 23) = 108404047 := by decide
  by_cases c22 : W = kw 22
  · subst c22; rw [h22]; rfl
  by_cases c21 : W = kw 21
  · subst c21; rw [h21]; rfl
  by_cases c24 : W = kw 24
  · subst c24; rw [h24]; rfl
  by_cases c23 : W = kw 23
  · subst c23; rw [h23]; rfl
  unfold ciI
  simp only [if_neg c22, if_neg c21, if_neg c24, if_neg c23, decide_eq_false c22, decide_eq_false c21, decide_eq_false c24, decide_eq_false c23, Option.bind_some, if_neg Bool.false_ne_true, ite_self]
def cdI (w : List Nat) : Int32 := if w = kw 22 then 1 else if w = kw 21 then 0 else if w = kw 23 then 2 else -1
theorem cd_sel {γ : Type} (B : Int32 → Option γ) (W : List Nat) : (if hsh W = 113762 then (some (decide (W = kw 22))).bind fun b => if b = true then B 1 else B (-1) else if hsh W = 3143222 then (some (decide (W = kw 21))).bind fun b => if b = true then B 0 else B (-1) else if hsh W = 108404047 then (some (decide (W = kw 23))).bind fun b => if b = true then B 2 else B (-1) else B (-1)) = B (cdI W) := by
  have h22 : hsh (kw 22) = 113762 := by decide
  have h21 : hsh (kw 21) = 3143222 := by decide
  have h23 : hsh (kw 23) = 108404047 := by decide
  by_cases c22 : W = kw 22
  · subst c22; rw [h22]; rfl
  by_cases c21 : W = kw 21
  · subst c21; rw [h21]; rfl
  by_cases c23 : W = kw 23
  · subst c23; rw [h23]; rfl
  unfold cdI
  simp only [if_neg c22, if_neg c21, if_neg c23, decide_eq_false c22, decide_eq_false c21, decide_eq_false c23, Option.bind_some, if_neg Bool.false_ne_true, ite_self]
theorem ci_b105 {h : HX} {W : List Nat} : f_X13_isCommand_b105 D h (ciI W) = some (isC W, h) := by
  unfold f_X13_isCommand_b105 ciI isC
  by_cases c22 : W = kw 22
  · subst c22; rfl
  by_cases c21 : W = kw 21
  · subst c21; rfl
  by_cases c24 : W = kw 24
  · subst c24; rfl
  by_cases c23 : W = kw 23
  · subst c23; rfl
  · simp only [if_neg c22, if_neg c21, if_neg c24, if_neg c23, decide_eq_false c22, decide_eq_false c21, decide_eq_false c24, decide_eq_false c23]
    rfl
theorem PT.outer (T : PT D n h a 18 x rest ib p) {m : Nat} (hr : rest = qR ca m x) : hx_is h a [18] = some () ∧ hx_gr h a [18] 6 = some (some ca) ∧ hx_gi h a [18] 7 = some (nI m) ∧ hx_gr h a [18] 8 = some (some x) := by
  obtain ⟨vl, w, P, _⟩ := T
  subst hr
  have o := hx_ob.mk P.2
  exact ⟨o.is (by decide), o.gr (by decide) (k := 6) (r := some ca) rfl, o.gi (by decide) (k := 7) (x := nI m) rfl, o.gr (by decide) (k := 8) (r := some x) rfl⟩
/-- a fresh command -/
def cmQ (n0 a : Nat) (c : Option Nat) (v : CMD) (h1 : HX) : Prop := ∃ b, c = some b ∧ cmdO h1 a b v ∧ n0 ≤ b
theorem c_firing (E : EV D g x inp ib) (EFx : EF D g x F) (B : HB g n h) (ha : n ≤ a) {m : Nat} (T : PT D n h a 18 x (qR ca m x) ib p) (hp : p ≤ ib.length) : CR D n a 18 x (qR ca m x) ib h [a] 8 (f_X13_firing D h a) (pb (pKnown ib F.en p) fun e p1 => .inr (((1, e, 0) : CMD), p1)) (cmQ h.1 a) := by
  obtain ⟨fs, dd, x1, x2, ⟨d0, d1, d2, d3, k1, k2, k3, k4, k5⟩⟩ := EFx
  have x1 := x1.sub B.2.1
  have k1 := k1.sub B.2.1
  have k3 := k3.sub B.2.1 (fun _ _ => hx_str.sub B.2.1)
  have o := T.outer rfl
  have al := T.lt B.1
  unfold f_X13_firing
  rw [o.1, Option.bind_some, o.2.2.2, Option.bind_some, Option.bind_some, x1.gr (by decide) (k := 5) (r := some dd) x2, Option.bind_some, Option.bind_some, k1.gr (by decide) (k := 1) (r := some d1) rfl, Option.bind_some, Option.bind_some]
  refine (c_known E B ha T hp k3 (by decide)).bnd (k' := 2) fun c v p1 h9 em X q T1 => ?_
  obtain ⟨rfl, ql⟩ := q
  obtain ⟨h13, e13, X13, o13, s13⟩ := x_new (m := 2) (ci := 19) (fs := gx_df19) X.2.1 (by decide)
  obtain ⟨i1, e1, c1, o1⟩ := hx_pv_k (k := 1) (v := va_rf (some a)) o13 (by decide)
  obtain ⟨i2, e2, c2, o2⟩ := hx_pv_k (k := 0) (v := .int (nI v)) o1 (by simp [gx_df19])
  rw [e13, pl_b2_s]
  unfold f_X15_init f_X14_init
  rw [hx_pr, e1, Option.bind_some, hx_pi, e2, Option.bind_some, Option.bind_some, Option.bind_some]
  have X2 : kx h13 i2 [h9.1] 0 := kx.b X13.2.1 (by omega) (c1.tr c2)
  have T13 := T1.mov X.2.1 X13 (by simp) (by simp)
  have hne : a ≠ h9.1 := by have := X.1; omega
  have T2 := T13.mov X13.2.1 X2 (by simp [hne]) (fun z hz c e => by
    simp only [List.mem_cons, List.not_mem_nil, or_false] at hz
    rw [hz, o13] at e
    cases e
    exact Or.inr ⟨_, _, _, by decide, rfl⟩)
  refine CR.un (L := [a, h9.1]) (k := 1) ?_ (by simp) (by decide)
  refine CR.pre (k := 1) (k' := 0) (X13.up (by simp) (Nat.le_refl _)) (CR.pre (k := 0) (k' := 0) (X2.up (by simp) (Nat.le_refl _)) (CR.ret T2 X2.2.1 ⟨h9.1, rfl, ⟨_, o2⟩, X.1⟩))
theorem c_setting (E : EV D g x inp ib) (EFx : EF D g x F) (B : HB g n h) (ha : n ≤ a) {m : Nat} (T : PT D n h a 18 x (qR ca m x) ib p) (hp : p ≤ ib.length) : CR D n a 18 x (qR ca m x) ib h [a] 14 (f_X13_setting D h a) (pb (pKnown ib F.vn p) fun v p1 => pb (pNum ib p1) fun c p2 => .inr (((2, v, c) : CMD), p2)) (cmQ h.1 a) := by
  obtain ⟨fs, dd, x1, x2, ⟨d0, d1, d2, d3, k1, k2, k3, k4, k5⟩⟩ := EFx
  have x1 := x1.sub B.2.1
  have k1 := k1.sub B.2.1
  have k4 := k4.sub B.2.1 (fun _ _ => hx_str.sub B.2.1)
  have o := T.outer rfl
  have al := T.lt B.1
  unfold f_X13_setting
  rw [o.1, Option.bind_some, o.2.2.2, Option.bind_some, Option.bind_some, x1.gr (by decide) (k := 5) (r := some dd) x2, Option.bind_some, Option.bind_some, k1.gr (by decide) (k := 2) (r := some d2) rfl, Option.bind_some, Option.bind_some]
  refine (c_known E B ha T hp k4 (by decide)).bnd (k' := 8) fun c v p1 h9 em X q T1 => ?_
  obtain ⟨rfl, ql⟩ := q
  have l1 := ((gO_known hp).r em).2
  have B9 := B.kx X (by simp [ha])
  rw [(T1.outer rfl).1, Option.bind_some]
  refine (c_digit E B9 ha T1 l1).bnd (k' := 2) fun c3 y p2 h15 em2 X15 q2 T2 => ?_
  obtain ⟨rfl, q2b⟩ := q2
  obtain ⟨h19, e19, X19, o19, s19⟩ := x_new (m := 3) (ci := 20) (fs := gx_df20) X15.2.1 (by decide)
  obtain ⟨i1, e1, c1, o1⟩ := hx_pv_k (k := 2) (v := va_rf (some a)) o19 (by decide)
  obtain ⟨i2, e2, c2, o2⟩ := hx_pv_k (k := 0) (v := .int (nI v)) o1 (by simp [gx_df20])
  obtain ⟨i3, e3, c3, o3⟩ := hx_pv_k (k := 1) (v := .int (nI y)) o2 (by simp [gx_df20])
  rw [e19, pl_b2_s]
  unfold f_X16_init f_X14_init
  rw [hx_pr, e1, Option.bind_some, hx_pi, e2, Option.bind_some, hx_pi, e3, Option.bind_some, Option.bind_some, Option.bind_some]
  have X3 : kx h19 i3 [h15.1] 0 := kx.b X19.2.1 (by omega) ((c1.tr c2).tr c3)
  have T19 := T2.mov X15.2.1 X19 (by simp) (by simp)
  have hne : a ≠ h15.1 := by have := X.1; have := X15.1; omega
  have T3 := T19.mov X19.2.1 X3 (by simp [hne]) (fun z hz c e => by
    simp only [List.mem_cons, List.not_mem_nil, or_false] at hz
    rw [hz, o19] at e
    cases e
    exact Or.inr ⟨_, _, _, by decide, rfl⟩)
  refine CR.un (L := [a, h15.1]) (k := 1) ?_ (by simp) (by decide)
  refine CR.pre (k := 1) (k' := 0) (X19.up (by simp) (Nat.le_refl _)) (CR.pre (k := 0) (k' := 0) (X3.up (by simp) (Nat.le_refl _)) (CR.ret T3 X3.2.1 ⟨h15.1, rfl, ⟨_, o3⟩, by have := X.1; have := X15.1; omega⟩))
theorem c_simple (v : CMD) (ci2 : Nat) (h22 : (ci2 = 21 ∧ v = (3, 0, 0)) ∨ (ci2 = 22 ∧ v = (4, 0, 0))) (B : HB g n h) (ha : n ≤ a) {m : Nat} (T : PT D n h a 18 x (qR ca m x) ib p) : ∃ h4, (gx_b2 (hx_new h 1 ci2 [.null]) fun a1 h2 => (hx_pr h2 a1 [ci2] 0 (some a)).bind fun h1 => (some (some a1, h1) : Option (Option Nat × HX))) = some (some h.1, h4) ∧ kx h h4 [] 1 ∧ cmdO h4 a h.1 v ∧ PT D n h4 a 18 x (qR ca m x) ib p := by
  have al := T.lt B.1
  obtain ⟨h13, e13, X13, o13, s13⟩ := x_new (m := 1) (ci := ci2) (fs := [.null]) B.1 (by decide)
  obtain ⟨i1, e1, c1, o1⟩ := hx_pv_k (k := 0) (v := va_rf (some a)) o13 (by decide)
  have X2 : kx h13 i1 [h.1] 0 := kx.b X13.2.1 (by omega) c1
  have T13 := T.mov B.1 X13 (by simp) (by simp)
  have T2 := T13.mov X13.2.1 X2 (by simp; omega) (fun z hz c e => by
    simp only [List.mem_cons, List.not_mem_nil, or_false] at hz
    rw [hz, o13] at e
    cases e
    exact Or.inr ⟨_, _, _, by rcases h22 with c | c <;> rw [c.1] <;> decide, rfl⟩)
  refine ⟨i1, by rw [e13, pl_b2_s, hx_pr, e1, Option.bind_some], (((X13.up (L' := [h.1]) (by simp) (Nat.le_refl _)).tr X2).up (by simp) (Nat.le_refl _)), ?_, T2⟩
  rcases h22 with ⟨rfl, rfl⟩ | ⟨rfl, rfl⟩
  · exact ⟨_, o1⟩
  · exact ⟨_, o1⟩
theorem c_command (E : EV D g x inp ib) (EFx : EF D g x F) (B : HB g n h) (ha : n ≤ a) {m w : Nat} {W : List Nat} (T : PT D n h a 18 x (qR ca m x) ib p) (hp : p ≤ ib.length) (hw : wst h w W) (nw : n ≤ w) : CR D n a 18 x (qR ca m x) ib h [a, w] 14 (f_X13_command D h a (some w)) (pCmd ib F p W) (cmQ h.1 a) := by
  obtain ⟨h4, e, X, W4, lo, ne⟩ := str_hash (D := D) B.1 hw
  obtain ⟨T4, hwa⟩ := T.hs hw ne W4 lo
  have B4 := B.kx X (by simp [nw])
  have eq : ∀ i cs, kcs[i]? = some cs → f_J9_equals D h4 w (some (D.2.2.1 i)) = some (decide (W = cs)) := fun i cs hi => str_eq W4.str (E.k B4 hi)
  have l4 := X.1
  unfold f_X13_command
  rw [(T.outer rfl).1, Option.bind_some, Option.bind_some, e, pl_b2_s, eq 22 (kw 22) rfl, eq 21 (kw 21) rfl, eq 23 (kw 23) rfl, cd_sel (fun i => f_X13_command_b83 D h4 a i) W]
  refine (CR.pre (k := 0) (k' := 14) (X.up (L' := [a, w]) (by simp) (Nat.le_refl _)) ?_).up (fun z hz => hz) (by decide)
  unfold cdI pCmd f_X13_command_b83
  by_cases c21 : W = kw 21
  · have c22 : ¬ W = kw 22 := fun e => by rw [c21] at e; exact absurd e (by decide)
    rw [if_neg c22, if_pos c21, if_pos rfl, if_pos c21]
    have C := c_firing (m := m) E EFx B4 ha T4 hp
    have e0 : (pb (pKnown ib F.en p) fun e p1 => (.inr (((1, e, 0) : CMD), p1) : PR CMD)) = pb (pb (pKnown ib F.en p) fun e p1 => (.inr (((1, e, 0) : CMD), p1) : PR CMD)) fun v p' => .inr (v, p') := by
      cases pKnown ib F.en p <;> rfl
    rw [e0]
    refine ((C.up (L' := [a, w]) (by simp) (Nat.le_refl _)).bnd (k' := 0) fun c v p' h1 em X1 q T1 => CR.ret T1 X1.2.1 ?_).up (fun z hz => hz) (by decide)
    obtain ⟨b, b1, b2, b3⟩ := q
    exact ⟨b, b1, b2, by omega⟩
  by_cases c22 : W = kw 22
  · rw [if_pos c22, if_neg (by decide), if_pos rfl, if_neg c21, if_pos c22]
    have C := c_setting (m := m) E EFx B4 ha T4 hp
    have e0 : (pb (pKnown ib F.vn p) fun v p1 => pb (pNum ib p1) fun c p2 => (.inr (((2, v, c) : CMD), p2) : PR CMD)) = pb (pb (pKnown ib F.vn p) fun v p1 => pb (pNum ib p1) fun c p2 => (.inr (((2, v, c) : CMD), p2) : PR CMD)) fun v p' => .inr (v, p') := by
      simp only [pb_assoc, pb_ret]
    rw [e0]
    refine ((C.up (L' := [a, w]) (by simp) (Nat.le_refl _)).bnd (k' := 0) fun c v p' h1 em X1 q T1 => CR.ret T1 X1.2.1 ?_).up (fun z hz => hz) (by decide)
    obtain ⟨b, b1, b2, b3⟩ := q
    exact ⟨b, b1, b2, by omega⟩
  by_cases c23 : W = kw 23
  · rw [if_neg c22, if_neg c21, if_pos c23, if_neg (by decide), if_neg (by decide), if_pos rfl, if_neg c21, if_neg c22, if_pos c23]
    obtain ⟨h5, e5, X5, o5, T5⟩ := c_simple (3, 0, 0) 21 (Or.inl ⟨rfl, rfl⟩) B4 ha T4
    have er : f_X13_resetting D h4 a = some (some h4.1, h5) := by
      unfold f_X13_resetting f_X17_init f_X14_init
      rw [(T4.outer rfl).1, Option.bind_some, ← e5]
      simp only [Option.bind_some, gx_df21]
      congr 1
      funext a1 h2
      cases hx_pr h2 a1 [21] 0 (some a) <;> rfl
    rw [er, pl_b2_s]
    exact ⟨_, _, rfl, X5.up (by simp) (by decide), _, rfl, ⟨h4.1, rfl, o5, by omega⟩, T5⟩
  · rw [if_neg c22, if_neg c21, if_neg c23, if_neg (by decide), if_neg (by decide), if_neg (by decide), if_pos (by decide), if_neg c21, if_neg c22, if_neg c23]
    obtain ⟨h5, e5, X5, o5, T5⟩ := c_simple (4, 0, 0) 22 (Or.inr ⟨rfl, rfl⟩) B4 ha T4
    have er : f_X13_clearing D h4 a = some (some h4.1, h5) := by
      unfold f_X13_clearing f_X18_init f_X14_init
      rw [(T4.outer rfl).1, Option.bind_some, ← e5]
      simp only [Option.bind_some, gx_df22]
      congr 1
      funext a1 h2
      cases hx_pr h2 a1 [22] 0 (some a) <;> rfl
    rw [er, pl_b2_s]
    exact ⟨_, _, rfl, X5.up (by simp) (by decide), _, rfl, ⟨h4.1, rfl, o5, by omega⟩, T5⟩
end CSP
