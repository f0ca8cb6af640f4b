/-! the component's setup parser: variables, invariants, transitions, any statement -/
set_option maxRecDepth 100000
set_option linter.unusedSimpArgs false
theorem wtN_pos (v : Nat) : wtN v < 101 := by
  unfold wtN
  split <;> omega
theorem cf_set_new {q : CF} {j v : Nat} (hj : j < 3) (h : cf_val q j = 0) : nI (cf_c q) + nI v * nI (wtN j) = nI (cf_c (cf_set q j v)) := by
  rw [pk_mul, nI_add]
  congr 1
  unfold cf_c cf_set wtN
  unfold cf_val at h
  match j, hj with
  | 0, _ => simp only at h ⊢; rw [h]; omega
  | 1, _ => simp only at h ⊢; rw [h]; omega
  | 2, _ => simp only at h ⊢; rw [h]; omega
  | n + 3, h => omega
section CSN
variable {D : gx_D} {g h : HX} {n a x inp p d : Nat} {ib : List Nat} {S : SP}
theorem c_variable (E : EV D g x inp ib) (H : PS D g n [] h a x d ib S p) (hS : sp_ok S) : CR D n a 16 x (sR d x) ib h (SW a d) 18 (f_X11_variable D h a) (pMany ib (S.1.vn.length < 3) p fun p1 => pb (pNew ib S.1.vn p1) fun w p2 => pb (pNum ib p2) fun v p3 => .inr (((S.1.sn, S.1.en, S.1.vn ++ [w], S.1.ts, cf_set S.1.ini S.1.vn.length v), S.2), p3)) fun c v h1 => SL D n [] h1 a d v := by
  obtain ⟨B, T, Z, hp, _⟩ := id H
  have na := H.na
  have lt := Z.lt
  have aW : a ∈ SW a d := SW_m.2 (Or.inl rfl)
  unfold f_X11_variable pMany
  rw [T.made.1, Option.bind_some, T.made.2.1, Option.bind_some, Option.bind_some, Z.rd.2.2.2.1, Option.bind_some, Option.bind_some, Z.ls.2.2.1.len, Option.bind_some]
  rw [show (3 : Int32) = nI 3 from rfl, f_size Z.ls.2.2.1 (by decide) (by decide) (fun b => f_X11_variable_b22 D h a b (some a))]
  unfold f_X11_variable_b22
  rw [Option.bind_some, T.made.1, Option.bind_some]
  refine CR.exp T B.1 5 (fun c => ?_) (by decide)
  rw [T.made.1, Option.bind_some]
  refine (CR.adv E B na.1 T hp aW fun h17 X17 T17 => ?_).up (k := 4 + 12) (fun z hz => hz) (by decide)
  have l1 := (tS_le hp).2.2
  have H17 := H.mov X17 (by simp) T17 l1
  rw [T17.made.2.1, Option.bind_some, Option.bind_some, H17.2.2.1.rd.2.2.2.1, Option.bind_some]
  refine ((c_newName E H17.1 na.1 T17 rfl l1 H17.2.2.1.ls.2.2.1 (by decide)).bn (L' := SW a d) (k' := 6) (by simp [aW]) fun c1 w p2 h23 em X23 q T23 => ?_)
  obtain ⟨b, rfl, nb, ba, sb, _⟩ := q
  have l2 := ((gO_new l1).r em).2
  have H23 := H17.mov X23 (by simp) T23 l2
  rw [T23.made.2.1, Option.bind_some, T23.made.1, Option.bind_some]
  refine ((c_digit E H23.1 na.1 T23 l2).bn (L' := SW a d) (k' := 0) (by simp [aW]) fun c3 v p3 h30 em3 X3 q3 T3 => ?_)
  have l3 := ((gO_num l2).r em3).2
  have H30 := H23.mov X3 (by simp) T3 l3
  obtain ⟨rfl, v9⟩ := q3
  -- the string is still there
  have sb30 : hx_str (hxN n h30) b w := by
    obtain ⟨v', y, z, f, ⟨fl, h1'⟩, ⟨fl2, h2'⟩, h3⟩ := sb
    obtain ⟨c1, c2⟩ := hxN_ge h1'
    obtain ⟨c3, c4⟩ := hxN_ge h2'
    refine ⟨v', y, z, f, ⟨fl, (hxN_of c1).trans (X3.at H23.1.1 (by simp [ba]) c2)⟩, ⟨fl2, (hxN_of c3).trans (X3.at H23.1.1 (fun hv => ?_) c4)⟩, h3⟩
    simp only [List.mem_cons, List.not_mem_nil, or_false] at hv
    obtain ⟨pf, d1, _⟩ := T23.cell
    rw [hv, d1] at c4
    cases c4
  obtain ⟨s1, s2, s3, s4, s5, s6, s7, s8, s9, s10, s11⟩ := id H30.2.2.1
  have o4 := hx_ob.mk s4
  have ini : nI (cf_c S.1.ini) + nI v * cwt (nI S.1.vn.length) = nI (cf_c (cf_set S.1.ini S.1.vn.length v)) := by
    rw [cwt_nI c]
    exact cf_set_new c (hS.2.2.2.1.2.2 _ (Nat.le_refl _) c)
  obtain ⟨h8, e8, c8⟩ := hx_pv_e (cis := [10]) (k := 4) (v := .int (nI (cf_c (cf_set S.1.ini S.1.vn.length v)))) s4 (by decide) (by simp)
  have X8 : kx h30 h8 [d] 0 := kx.kp H30.1.1 (by simp; have := H30.2.2.1.lt; omega) (c8.kp (by simp))
  have v8 := X8.W (n := n) (W := [] ++ SW a d) H30.1.1 (fun z hz => Or.inl (by
    simp only [List.nil_append, List.mem_cons, List.not_mem_nil, or_false] at hz ⊢
    rw [SW_m]
    omega))
  have S8 : SL D n [] h8 a d ((S.1.sn, S.1.en, S.1.vn, S.1.ts, cf_set S.1.ini S.1.vn.length v), S.2) := H30.2.2.1.chg H30.1.1 X8 (by simp) c8.2.2.1 (s5.mov (fun _ _ => hx_str.sub v8) (c8.2.2.2 _ (by omega)) (c8.2.2.2 _ (by omega))) (s6.mov (fun _ _ => hx_str.sub v8) (c8.2.2.2 _ (by omega)) (c8.2.2.2 _ (by omega))) (s7.mov (fun _ _ => hx_str.sub v8) (c8.2.2.2 _ (by omega)) (c8.2.2.2 _ (by omega))) (s8.mov (fun _ _ => hx_tr.sub v8) (c8.2.2.2 _ (by omega)) (c8.2.2.2 _ (by omega))) (s10.mov (fun _ _ => hx_iv.sub v8) (c8.2.2.2 _ (by omega)) (c8.2.2.2 _ (by omega)))
  have T8 := T3.ls H30.2.2.1 H30.1.1 X8 (by simp)
  have H8 : PS D g n [] h8 a x d ib ((S.1.sn, S.1.en, S.1.vn, S.1.ts, cf_set S.1.ini S.1.vn.length v), S.2) p3 := ⟨H30.1.kx X8 (by simp; omega), T8, S8, l3, by simp⟩
  have sb8 : hx_str (hxN n h8) b w := by
    have := H30.2.2.1.sW T3 sb30
    have := this.sub v8
    exact this.sub (fun z c e => by
      obtain ⟨e1, e2, e3⟩ := hxW_at e
      rw [hxN_of e1, e3])
  obtain ⟨t1, t2, t3, t4, t5, t6, t7, t8, t9, t10, t11⟩ := id S8
  obtain ⟨h13, e13, k13, w13, X13, v13⟩ := c_addName (D := D) H8 (Or.inr (Or.inr rfl)) t7 c (by decide) sb8
  have adv : f_X3_addVariable D h30 d (some b) (nI v) = some h13 := by
    unfold f_X3_addVariable
    simp only [o4.is (show 10 ∈ [10] by decide), o4.gi (show 10 ∈ [10] by decide) (k := 4) rfl, o4.gr (show 10 ∈ [10] by decide) (k := 2) (r := some (d + 5)) rfl, Option.bind_some, H30.2.2.1.ls.2.2.1.len, f_wt, ini, hx_pi, e8, S8.rd.2.2.2.1, e13, pl_b2_s]
  rw [Option.bind_some, adv, Option.bind_some]
  have at' : ∀ z, z ≠ d + 5 → z ≠ d + 6 → h13.2.2 z = h8.2.2 z := fun z z1 z2 => k13.2.2 z (by simp [z1, z2])
  refine CR.pre (k := 0) (k' := 0) ((X8.up (L' := SW a d) (fun z hz => Or.inl (by
    simp only [List.mem_cons, List.not_mem_nil, or_false] at hz
    rw [SW_m]
    omega)) (Nat.le_refl _)).tr (X13.up (fun z hz => Or.inl (by
    simp only [List.mem_cons, List.not_mem_nil, or_false] at hz
    rw [SW_m]
    omega)) (Nat.le_refl _))) (CR.ret (T8.ls S8 H8.1.1 X13 (by simp; omega)) X13.2.1 ?_)
  exact S8.chg H8.1.1 X13 (by simp; omega) ((at' _ (by omega) (by omega)).trans t4) (t5.mov (fun _ _ => hx_str.sub v13) (at' _ (by omega) (by omega)) (at' _ (by omega) (by omega))) (t6.mov (fun _ _ => hx_str.sub v13) (at' _ (by omega) (by omega)) (at' _ (by omega) (by omega))) w13 (t8.mov (fun _ _ => hx_tr.sub v13) (at' _ (by omega) (by omega)) (at' _ (by omega) (by omega))) (t10.mov (fun _ _ => hx_iv.sub v13) (at' _ (by omega) (by omega)) (at' _ (by omega) (by omega)))
theorem f_ivI {b : Nat} {x1 : Int32} {x2 : Option Nat} (ho : h.2.2 b = some (true, .inr (15, gx_df15))) : ∃ h1, f_X8_init D h b x1 x2 = some h1 ∧ hx_kp h h1 [b] ∧ h1.2.2 b = some (true, .inr (15, [.int x1, va_rf x2])) := by
  obtain ⟨i1, e1, k1, o1⟩ := hx_pv_k (k := 0) (v := .int x1) ho (by decide)
  obtain ⟨i2, e2, k2, o2⟩ := hx_pv_k (k := 1) (v := va_rf x2) o1 (by simp [gx_df15])
  refine ⟨i2, ?_, k1.tr k2, o2⟩
  unfold f_X8_init hx_pi hx_pr
  rw [e1, Option.bind_some, e2, Option.bind_some]
theorem f_trI {b : Nat} {x1 x2 x3 : Int32} {x4 x5 : Option Nat} (ho : h.2.2 b = some (true, .inr (13, gx_df13))) : ∃ h1, f_X6_init D h b x1 x2 x3 x4 x5 = some h1 ∧ hx_kp h h1 [b] ∧ h1.2.2 b = some (true, .inr (13, [.int x1, .int x2, .int x3, va_rf x4, va_rf x5])) := by
  obtain ⟨i1, e1, k1, o1⟩ := hx_pv_k (k := 0) (v := .int x1) ho (by decide)
  obtain ⟨i2, e2, k2, o2⟩ := hx_pv_k (k := 1) (v := .int x2) o1 (by simp [gx_df13])
  obtain ⟨i3, e3, k3, o3⟩ := hx_pv_k (k := 2) (v := .int x3) o2 (by simp [gx_df13])
  obtain ⟨i4, e4, k4, o4⟩ := hx_pv_k (k := 3) (v := va_rf x4) o3 (by simp [gx_df13])
  obtain ⟨i5, e5, k5, o5⟩ := hx_pv_k (k := 4) (v := va_rf x5) o4 (by simp [gx_df13])
  refine ⟨i5, ?_, (((k1.tr k2).tr k3).tr k4).tr k5, o5⟩
  unfold f_X6_init hx_pi hx_pr
  rw [e1, Option.bind_some, e2, Option.bind_some, e3, Option.bind_some, e4, Option.bind_some, e5, Option.bind_some]
/-- an object more in a list of the parser's -/
theorem c_addObj {α : Type} {R : HX → Nat → α → Prop} {b cap l ci : Nat} {fs : List Value} {y : α} {xs : List α} (H : PS D g n [] h a x d ib S p) (hl : l = 7 ∨ l = 10) (Wl : wls R (hxW n ([] ++ SW a d) h) h (d + l) cap xs) (hlt : xs.length < cap) (hc : cap < 1000) (ho : hx_ob h b ci fs) (hci : ci ∈ [11, 13, 15, 2]) (hR : ∀ G G' b x, hx_sub G G' → R G b x → R G' b x) (hb : R (hxW n ([] ++ SW a d) h) b y) : ∃ h1, f_J2_add D h (d + l) (some b) = some (true, h1) ∧ hx_kp h h1 [d + l, d + l + 1] ∧ wls R (hxW n ([] ++ SW a d) h1) h1 (d + l) cap (xs ++ [y]) ∧ kx h h1 [d + l, d + l + 1] 0 ∧ hx_sub (hxW n ([] ++ SW a d) h) (hxW n ([] ++ SW a d) h1) := by
  have lt := H.2.2.1.lt
  obtain ⟨h1, e1, k1, w1⟩ := Wl.add (D := D) hlt (by omega) ho hci
  have X := kx.kp H.1.1 (by simp; omega) k1
  have s := X.W (n := n) (W := [] ++ SW a d) H.1.1 (fun z hz => Or.inl (by
    simp only [List.nil_append, List.mem_cons, List.not_mem_nil, or_false] at hz ⊢
    rw [SW_m]
    omega))
  exact ⟨h1, e1, k1, w1 _ (fun _ _ => hR _ _ _ _ s) (hR _ _ _ _ s hb), X, s⟩
/-- an invariant, behind what it is for -/
theorem c_inv50 (hap : gx_apt D) (E : EV D g x inp ib) (H : PS D g n [] h a x d ib S p) (hS : sp_ok S) (i : Option Nat) (hi : ∀ k, i = some k → k < 10) (hlt : S.2.length < 12) : CR D n a 16 x (sR d x) ib h (SW a d) 21 (f_X11_invariant_b50 D h a (oI i)) (pb (pThree ib opW S.1.vn p) fun c p2 => .inr (((S.1, S.2 ++ [(i, c)]) : SP), p2)) fun c v h1 => SL D n [] h1 a d v := by
  obtain ⟨B, T, Z, hp, _⟩ := id H
  have na := H.na
  have lt := Z.lt
  have aW : a ∈ SW a d := SW_m.2 (Or.inl rfl)
  unfold f_X11_invariant_b50
  rw [T.made.2.2, Option.bind_some, Option.bind_some, Z.rd.2.2.2.2.2.2.2, Option.bind_some]
  obtain ⟨h32, e32, X32, o32, s32, H32⟩ := H.new (m := 2) (ci := 15) (fs := gx_df15) (by decide)
  rw [e32, pl_b2_s]
  refine CR.un (L := h.1 :: SW a d) (k := 1 + (20 + 0)) ?_ (fun z hz => by rcases List.mem_cons.1 hz with e | e; exact Or.inr (by omega); exact Or.inl e) (by decide)
  refine CR.pre (X32.up (by simp) (Nat.le_refl _)) ?_
  refine (c_comparison hap E H32 hS.1.2.2.1).bn (L' := h.1 :: SW a d) (by simp [aW]) fun c3 v p3 h35 em3 X3 q3 T3 => ?_
  have l3 := ((gO_three hp).r em3).2
  have H35 := H32.mov X3 (by simp) T3 l3
  have nb : h.1 ≠ a := fun e => by omega
  have o35 := X3.at H32.1.1 (by simp [nb]) o32
  obtain ⟨h39, e39, k39, o39⟩ := f_ivI (D := D) (x1 := oI i) (x2 := c3) o35
  obtain ⟨HF, XF, OF⟩ := H35.fin2 (by simp) (by decide) o35 k39 o39
  rw [e39, Option.bind_some, Option.bind_some]
  obtain ⟨⟨b, rfl, cq, cok⟩, _, _⟩ := q3
  have vF := XF.W (n := n) (W := [h.1] ++ SW a d) H35.1.1 (by simp)
  have iv : hx_iv D (hxW n ([] ++ SW a d) (hx_fz1 h39 h.1)) h.1 (i, v) := ⟨⟨hi, cok⟩, b, OF, hx_ob.sub (vF.tr hxW_out) cq⟩
  obtain ⟨s1, s2, s3, s4, s5, s6, s7, s8, s9, s10, s11⟩ := id HF.2.2.1
  obtain ⟨h43, e43, k43, w43, X43, v43⟩ := c_addObj (D := D) HF (Or.inr rfl) s10 hlt (by decide) (OF.sub hxW_sub) (by decide) (fun _ _ _ _ => hx_iv.sub) iv
  rw [e43, pl_b2_s]
  have at' : ∀ z, z ≠ d + 10 → z ≠ d + 11 → h43.2.2 z = (hx_fz1 h39 h.1).2.2 z := fun z z1 z2 => k43.2.2 z (by simp [z1, z2])
  refine CR.pre (k := 0) (k' := 0) ((XF.up (L' := h.1 :: SW a d) (by simp) (Nat.le_refl _)).tr (X43.up (fun z hz => Or.inl (by
    simp only [List.mem_cons, List.not_mem_nil, or_false] at hz ⊢
    rw [SW_m]
    omega)) (Nat.le_refl _))) (CR.ret (HF.2.1.ls HF.2.2.1 HF.1.1 X43 (by simp; omega)) X43.2.1 ?_)
  exact HF.2.2.1.chg HF.1.1 X43 (by simp) ((at' _ (by omega) (by omega)).trans s4) (s5.mov (fun _ _ => hx_str.sub v43) (at' _ (by omega) (by omega)) (at' _ (by omega) (by omega))) (s6.mov (fun _ _ => hx_str.sub v43) (at' _ (by omega) (by omega)) (at' _ (by omega) (by omega))) (s7.mov (fun _ _ => hx_str.sub v43) (at' _ (by omega) (by omega)) (at' _ (by omega) (by omega))) (s8.mov (fun _ _ => hx_tr.sub v43) (at' _ (by omega) (by omega)) (at' _ (by omega) (by omega))) w43
theorem c_invariant (hap : gx_apt D) (E : EV D g x inp ib) (H : PS D g n [] h a x d ib S p) (hS : sp_ok S) (inside : Bool) : CR D n a 16 x (sR d x) ib h (SW a d) 32 (f_X11_invariant D h a inside) (pMany ib (S.2.length < 12) p fun p1 => if inside = true then pb (pKnown ib S.1.sn p1) fun s p2 => pb (pThree ib opW S.1.vn p2) fun c p3 => .inr (((S.1, S.2 ++ [(some s, c)]) : SP), p3) else pb (pThree ib opW S.1.vn p1) fun c p2 => .inr ((S.1, S.2 ++ [(none, c)]), p2)) fun c v h1 => SL D n [] h1 a d v := by
  obtain ⟨B, T, Z, hp, _⟩ := id H
  have na := H.na
  have lt := Z.lt
  have aW : a ∈ SW a d := SW_m.2 (Or.inl rfl)
  unfold f_X11_invariant pMany
  rw [T.made.1, Option.bind_some, T.made.2.2, Option.bind_some, Option.bind_some, Z.rd.2.2.2.2.2.2.2, Option.bind_some, Option.bind_some, Z.ls.2.2.2.2.len, Option.bind_some]
  rw [show (12 : Int32) = nI 12 from rfl, f_size Z.ls.2.2.2.2 (by decide) (by decide) (fun b => f_X11_invariant_b23 D h a inside b (some a))]
  unfold f_X11_invariant_b23
  rw [Option.bind_some, T.made.1, Option.bind_some]
  refine CR.exp T B.1 5 (fun c => ?_) (by decide)
  rw [T.made.1, Option.bind_some]
  refine (CR.adv E B na.1 T hp aW fun h17 X17 T17 => ?_).up (k := 4 + 28) (fun z hz => hz) (by decide)
  have l1 := (tS_le hp).2.2
  have H17 := H.mov X17 (by simp) T17 l1
  show CR D n a 16 x (sR d x) ib h17 (SW a d) 28 _ (if inside = true then pb (pKnown ib S.1.sn (tN ib p)) fun s p2 => pb (pThree ib opW S.1.vn p2) fun c p3 => .inr (((S.1, S.2 ++ [(some s, c)]) : SP), p3) else pb (pThree ib opW S.1.vn (tN ib p)) fun c p2 => .inr ((S.1, S.2 ++ [(none, c)]), p2)) _
  cases inside with
  | true =>
    rw [if_pos rfl, if_pos rfl, T17.made.2.1, Option.bind_some, Option.bind_some, H17.2.2.1.rd.2.1, Option.bind_some, T17.made.1, Option.bind_some]
    refine ((c_known E H17.1 na.1 T17 l1 H17.2.2.1.ls.1 (by decide)).bn (L' := SW a d) (k' := 21) (by simp [aW]) fun c1 s p2 h25 em X25 q T25 => ?_).up (fun z hz => hz) (by decide)
    have l2 := ((gO_known l1).r em).2
    have H25 := H17.mov X25 (by simp) T25 l2
    obtain ⟨rfl, ql⟩ := q
    have l10 := hS.1.1
    exact c_inv50 hap E H25 hS (some s) (fun k hk => by cases hk; omega) c
  | false =>
    rw [if_neg Bool.false_ne_true, if_neg Bool.false_ne_true]
    exact (c_inv50 hap E H17 hS none (fun k hk => by cases hk) c).up (fun z hz => hz) (by decide)
theorem c_transition (hap : gx_apt D) (hne : gx_apt2 D) (E : EV D g x inp ib) (H : PS D g n [] h a x d ib S p) (hS : sp_ok S) : CR D n a 16 x (sR d x) ib h (SW a d) 80 (f_X11_transition D h a) (pMany ib (S.1.ts.length < 24) p fun p1 => pb (pTrans ib S.1 p1) fun t p2 => .inr (((S.1.sn, S.1.en, S.1.vn, S.1.ts ++ [t], S.1.ini), S.2), p2)) fun c v h1 => SL D n [] h1 a d v := by
  obtain ⟨B, T, Z, hp, _⟩ := id H
  have na := H.na
  have lt := Z.lt
  have aW : a ∈ SW a d := SW_m.2 (Or.inl rfl)
  have vl := hS.1.2.2.1
  unfold f_X11_transition pMany
  rw [T.made.1, Option.bind_some, T.made.2.1, Option.bind_some, Option.bind_some, Z.rd.2.2.2.2.1, Option.bind_some, Option.bind_some, Z.ls.2.2.2.1.len, Option.bind_some]
  rw [show (24 : Int32) = nI 24 from rfl, f_size Z.ls.2.2.2.1 (by decide) (by decide) (fun b => f_X11_transition_b23 D h a b (some a))]
  unfold f_X11_transition_b23
  rw [Option.bind_some, T.made.1, Option.bind_some]
  refine CR.exp T B.1 5 (fun c => ?_) (by decide)
  rw [T.made.1, Option.bind_some]
  refine (CR.adv E B na.1 T hp aW fun h17 X17 T17 => ?_).up (k := 4 + 76) (fun z hz => hz) (by decide)
  have l1 := (tS_le hp).2.2
  have H17 := H.mov X17 (by simp) T17 l1
  rw [T17.made.2.1, Option.bind_some, Option.bind_some, H17.2.2.1.rd.2.1, Option.bind_some, T17.made.1, Option.bind_some]
  unfold pTrans
  simp only [pb_assoc, pb_ret]
  refine ((c_known E H17.1 na.1 T17 l1 H17.2.2.1.ls.1 (by decide)).bn (L' := SW a d) (k' := 70) (by simp [aW]) fun c1 s p2 h24 em1 X24 q1 T24 => ?_).up (fun z hz => hz) (by decide)
  have l2 := ((gO_known l1).r em1).2
  have H24 := H17.mov X24 (by simp) T24 l2
  rw [T24.made.2.1, Option.bind_some, Option.bind_some, H24.2.2.1.rd.2.2.1, Option.bind_some, T24.made.1, Option.bind_some]
  refine ((c_known E H24.1 na.1 T24 l2 H24.2.2.1.ls.2.1 (by decide)).bn (L' := SW a d) (k' := 64) (by simp [aW]) fun c2 ev p3 h33 em2 X33 q2 T33 => ?_).up (fun z hz => hz) (by decide)
  have l3 := ((gO_known l2).r em2).2
  have H33 := H24.mov X33 (by simp) T33 l3
  refine ((c_keyword E H33.1 na.1 T33 rfl l3 (E.k H33.1 (i := 15) (cs := kw 15) rfl)).bn (L' := SW a d) (k' := 60) (by simp [aW]) fun _ _ p4 h37 em3 X37 _ T37 => ?_).up (fun z hz => hz) (by decide)
  have l4 := ((gO_word l3).r em3).2
  have H37 := H33.mov X37 (by simp) T37 l4
  rw [T37.made.2.1, Option.bind_some, Option.bind_some, H37.2.2.1.rd.2.1, Option.bind_some, T37.made.1, Option.bind_some]
  refine ((c_known E H37.1 na.1 T37 l4 H37.2.2.1.ls.1 (by decide)).bn (L' := SW a d) (k' := 54) (by simp [aW]) fun c4 tg p5 h47 em4 X47 q4 T47 => ?_).up (fun z hz => hz) (by decide)
  have l5 := ((gO_known l4).r em4).2
  have H47 := H37.mov X47 (by simp) T47 l5
  refine ((c_guard hap E H47 vl).bn (L' := SW a d) (k' := 30) (by simp [aW]) fun c5 gu p6 h52 em5 X52 q5 T52 => ?_).up (fun z hz => hz) (by decide)
  have l6 := ((gO_if l5).r em5).2
  have H52 := H47.mov X52 (by simp) T52 l6
  rw [T52.made.2.1, Option.bind_some, Option.bind_some, H52.2.2.1.rd.2.2.2.2.1, Option.bind_some]
  obtain ⟨h59, e59, X59, o59, s59, H59⟩ := H52.new (m := 5) (ci := 13) (fs := gx_df13) (by decide)
  rw [e59, pl_b2_s]
  refine CR.un (L := h52.1 :: SW a d) (k := 1 + (24 + 0)) ?_ (fun z hz => by rcases List.mem_cons.1 hz with e | e; exact Or.inr (by omega); exact Or.inl e) (by decide)
  refine CR.pre (X59.up (by simp) (Nat.le_refl _)) ?_
  refine (c_action hap hne E H59 vl).bn (L' := h52.1 :: SW a d) (by simp [aW]) fun c6 ac p7 h62 em6 X62 q6 T62 => ?_
  have l7 := ((gO_if l6).r em6).2
  have H62 := H59.mov X62 (by simp) T62 l7
  have na52 := H52.na
  have nb : h52.1 ≠ a := fun e => by omega
  have o62 := X62.at H59.1.1 (by simp [nb]) o59
  obtain ⟨h66, e66, k66, o66⟩ := f_trI (D := D) (x1 := c1) (x2 := c2) (x3 := c4) (x4 := c5) (x5 := c6) o62
  obtain ⟨HF, XF, OF⟩ := H62.fin2 (by simp) (by decide) o62 k66 o66
  rw [e66, Option.bind_some, Option.bind_some]
  have vF := XF.W (n := n) (W := [h52.1] ++ SW a d) H62.1.1 (by simp)
  have v1 : hx_sub (hxW n ([] ++ SW a d) h52) (hxW n ([] ++ SW a d) (hx_fz1 h66 h52.1)) := (((hxW_in H52.1.1 (Nat.le_refl _)).tr (X59.W (W := [h52.1] ++ SW a d) H52.1.1 (by simp))).tr (X62.W (W := [h52.1] ++ SW a d) H59.1.1 (by simp [aW]))).tr (vF.tr hxW_out)
  have tq : hx_tr D (hxW n ([] ++ SW a d) (hx_fz1 h66 h52.1)) h52.1 (s, ev, tg, gu, ac) := by
    obtain ⟨rfl, q1b⟩ := q1
    obtain ⟨rfl, q2b⟩ := q2
    obtain ⟨rfl, q4b⟩ := q4
    have em : pTrans ib S.1 (tN ib p) = .inr ((s, ev, tg, gu, ac), p7) := by
      unfold pTrans
      rw [em1, pb_ret, em2, pb_ret, em3, pb_ret, em4, pb_ret, em5, pb_ret, em6, pb_ret]
    refine ⟨(pTrans_i hS em).1, c5, c6, OF, ?_, ?_⟩
    · have q5 := q5.1
      cases gu with
      | none => exact q5
      | some u =>
        obtain ⟨b, b1, b2, _⟩ := q5
        exact ⟨b, b1, hx_ob.sub v1 b2⟩
    · have q6 := q6.1
      cases ac with
      | none => exact q6
      | some u =>
        obtain ⟨b, b1, b2, _⟩ := q6
        exact ⟨b, b1, hx_ob.sub (vF.tr hxW_out) b2⟩
  obtain ⟨s1, s2, s3, s4, s5, s6, s7, s8, s9, s10, s11⟩ := id HF.2.2.1
  obtain ⟨h70, e70, k70, w70, X70, v70⟩ := c_addObj (D := D) HF (Or.inl rfl) s8 c (by decide) (OF.sub hxW_sub) (by decide) (fun _ _ _ _ => hx_tr.sub) tq
  rw [e70, pl_b2_s]
  have at' : ∀ z, z ≠ d + 7 → z ≠ d + 8 → h70.2.2 z = (hx_fz1 h66 h52.1).2.2 z := fun z z1 z2 => k70.2.2 z (by simp [z1, z2])
  refine CR.pre (k := 0) (k' := 0) ((XF.up (L' := h52.1 :: SW a d) (by simp) (Nat.le_refl _)).tr (X70.up (fun z hz => Or.inl (by
    simp only [List.mem_cons, List.not_mem_nil, or_false] at hz ⊢
    rw [SW_m]
    omega)) (Nat.le_refl _))) (CR.ret (HF.2.1.ls HF.2.2.1 HF.1.1 X70 (by simp; omega)) X70.2.1 ?_)
  exact HF.2.2.1.chg HF.1.1 X70 (by simp; omega) ((at' _ (by omega) (by omega)).trans s4) (s5.mov (fun _ _ => hx_str.sub v70) (at' _ (by omega) (by omega)) (at' _ (by omega) (by omega))) (s6.mov (fun _ _ => hx_str.sub v70) (at' _ (by omega) (by omega)) (at' _ (by omega) (by omega))) (s7.mov (fun _ _ => hx_str.sub v70) (at' _ (by omega) (by omega)) (at' _ (by omega) (by omega))) w70 (s10.mov (fun _ _ => hx_iv.sub v70) (at' _ (by omega) (by omega)) (at' _ (by omega) (by omega)))
end CSN
