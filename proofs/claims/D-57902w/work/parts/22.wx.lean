/-! walks of the component's methods (printed by gen/run.py) -/
set_option maxRecDepth 100000
def f_X6_init (D : gx_D) (h : HX) (a0 : Nat) (p1 : Int32) (p2 : Int32) (p3 : Int32) (p4 : Option Nat) (p5 : Option Nat) : Option HX :=
  (hx_pi h a0 [13] 0 p1).bind fun h1 =>
  (hx_pi h1 a0 [13] 1 p2).bind fun h2 =>
  (hx_pi h2 a0 [13] 2 p3).bind fun h3 =>
  (hx_pr h3 a0 [13] 3 p4).bind fun h4 =>
  (hx_pr h4 a0 [13] 4 p5).bind fun h5 =>
  some h5
theorem w_X6_init_b {l : Launch} (hlt : l.stackTraces = false) {p : Program} {e : Env} {R : Room} {s : State} {m : MethodId} {args : Array Value} {below : List Frame} {meth : Method} {c : Code} {D : gx_D} {h0 : HX} {hz : HX} (C : gx_Ctx p R s m args meth c "ContractMachine$Transition" cX6_init 6 none 1 24 D h0 hz) (hx : meth.name = "<init>") {a0 : Nat} {p1 : Int32} {p2 : Int32} {p3 : Int32} {p4 : Option Nat} {p5 : Option Nat} (hf : f_X6_init D h0 a0 p1 p2 p3 p4 p5 = some hz) : gx_G p l e R s m args below meth c D h0 hz 6 (gx_MQ below args s D h0 hz none) 0 [(0, (va_rf (some a0))), (1, (.int p1)), (2, (.int p2)), (3, (.int p3)), (4, (va_rf p4)), (5, (va_rf p5))] [] h0 := by
  unfold f_X6_init at hf
  refine gx_aload_n C dX6_init_0 0 rfl ?_
  refine gx_objInit (st := []) C q808 q188 q189 (by decide) (by decide) dX6_init_1 ?_
  refine gx_aload_n C dX6_init_4 0 rfl ?_
  refine gx_iload_n C dX6_init_5 1 rfl ?_
  replace hf := gx_bs hf
  obtain ⟨h1, g10, hf⟩ := hf
  refine gx_putvF C hx g10 gz_0 gz_1 rfl rfl q809 dX6_init_6 ?_
  refine gx_aload_n C dX6_init_9 0 rfl ?_
  refine gx_iload_n C dX6_init_10 2 rfl ?_
  replace hf := gx_bs hf
  obtain ⟨h2, g9, hf⟩ := hf
  refine gx_putvF C hx g9 gz_2 gz_1 rfl rfl q812 dX6_init_11 ?_
  refine gx_aload_n C dX6_init_14 0 rfl ?_
  refine gx_iload_n C dX6_init_15 3 rfl ?_
  replace hf := gx_bs hf
  obtain ⟨h3, g8, hf⟩ := hf
  refine gx_putvF C hx g8 gz_3 gz_1 rfl rfl q816 dX6_init_16 ?_
  refine gx_aload_n C dX6_init_19 0 rfl ?_
  refine gx_aload C dX6_init_20 4 rfl ?_
  replace hf := gx_bs hf
  obtain ⟨h4, g7, hf⟩ := hf
  refine gx_putvF C hx g7 gz_4 gz_5 (gx_narrow_r rfl _).1 (gx_narrow_r rfl _).2 q818 dX6_init_22 ?_
  refine gx_aload_n C dX6_init_25 0 rfl ?_
  refine gx_aload C dX6_init_26 5 rfl ?_
  replace hf := gx_bs hf
  obtain ⟨h5, g6, hf⟩ := hf
  refine gx_putvF C hx g6 gz_6 gz_7 (gx_narrow_r rfl _).1 (gx_narrow_r rfl _).2 q820 dX6_init_28 ?_
  obtain rfl := Option.some.inj hf
  exact gx_vret C dX6_init_31
theorem le_X6_init {D : gx_D} {hz : HX} {h : HX} {a0 : Nat} {p1 : Int32} {p2 : Int32} {p3 : Int32} {p4 : Option Nat} {p5 : Option Nat} (hf : f_X6_init D h a0 p1 p2 p3 p4 p5 = some hz) : gx_le h hz := by
  unfold f_X6_init at hf
  replace hf := gx_bs hf
  obtain ⟨h1, g10, hf⟩ := hf
  refine (hx_le_pv g10).tr ?_
  replace hf := gx_bs hf
  obtain ⟨h2, g9, hf⟩ := hf
  refine (hx_le_pv g9).tr ?_
  replace hf := gx_bs hf
  obtain ⟨h3, g8, hf⟩ := hf
  refine (hx_le_pv g8).tr ?_
  replace hf := gx_bs hf
  obtain ⟨h4, g7, hf⟩ := hf
  refine (hx_le_pv g7).tr ?_
  replace hf := gx_bs hf
  obtain ⟨h5, g6, hf⟩ := hf
  refine (hx_le_pv g6).tr ?_
  obtain rfl := Option.some.inj hf
  exact gx_le.rf
theorem w_X6_init {l : Launch} (hlt : l.stackTraces = false) {D : gx_D} {h : HX} {a0 : Nat} {p1 : Int32} {p2 : Int32} {p3 : Int32} {p4 : Option Nat} {p5 : Option Nat} {hz : HX} (hf : f_X6_init D h a0 p1 p2 p3 p4 p5 = some hz) : gx_Met l yX6_init cX6_init 6 none 1 24 D [(va_rf (some a0)), (.int p1), (.int p2), (.int p3), (va_rf p4), (va_rf p5)] h none hz :=
  gx_ofG gz_8 (by simp only [gx_lsr, gx_lsi, gx_lsj, gx_ls0]; decide) (le_X6_init hf) (fun p e R s m args below meth c C hx => by
    simp only [gx_lar, gx_lai, gx_laj, gx_la0, Nat.reduceAdd]
    exact w_X6_init_b hlt C hx hf)
def f_X1_define (D : gx_D) (h : HX) (a0 : Nat) (p1 : Int32) (p2 : Int32) (p3 : Int32) (p4 : Option Nat) (p5 : Option Nat) : Option HX :=
  (hx_is h a0 [9]).bind fun _ =>
  (hx_gr h a0 [9] 5).bind fun r1 =>
  r1.bind fun a2 =>
  (hx_gr h a2 [10] 3).bind fun r3 =>
  gx_b2 (hx_new h 5 13 gx_df13) fun a4 h5 =>
  (f_X6_init D h5 a4 p1 p2 p3 p4 p5).bind fun h7 =>
  r3.bind fun a8 =>
  gx_b2 (f_J2_add D ((hx_fz1 h7 a4)) a8 (some a4)) fun b10 h11 =>
  some h11
theorem is_X1_define {D : gx_D} {h : HX} {a0 : Nat} {p1 : Int32} {p2 : Int32} {p3 : Int32} {p4 : Option Nat} {p5 : Option Nat} {z} (hf : f_X1_define D h a0 p1 p2 p3 p4 p5 = some z) : gx_isC h a0 [9] := by
  unfold f_X1_define at hf
  obtain ⟨_, g, -⟩ := gx_bs hf
  exact hx_is_of g
theorem w_X1_define_b {l : Launch} (hlt : l.stackTraces = false) {p : Program} {e : Env} {R : Room} {s : State} {m : MethodId} {args : Array Value} {below : List Frame} {meth : Method} {c : Code} {D : gx_D} {h0 : HX} {hz : HX} (C : gx_Ctx p R s m args meth c "ContractMachine" cX1_define 7 none 3 68 D h0 hz) (hx : meth.name = "define") {a0 : Nat} {p1 : Int32} {p2 : Int32} {p3 : Int32} {p4 : Option Nat} {p5 : Option Nat} (hf : f_X1_define D h0 a0 p1 p2 p3 p4 p5 = some hz) : gx_G p l e R s m args below meth c D h0 hz 7 (gx_MQ below args s D h0 hz none) 0 [(0, (va_rf (some a0))), (1, (.int p1)), (2, (.int p2)), (3, (.int p3)), (4, (va_rf p4)), (5, (va_rf p5))] [] h0 := by
  unfold f_X1_define at hf
  replace hf := gx_bs hf
  obtain ⟨_, -, hf⟩ := hf
  refine gx_aload_n C dX1_define_0 0 rfl ?_
  replace hf := gx_bs hf
  obtain ⟨r1, g14, hf⟩ := hf
  refine gx_gr C g14 gz_20 q892 dX1_define_1 ?_
  replace hf := gx_bs hf
  obtain ⟨a2, rfl, hf⟩ := hf
  replace hf := gx_bs hf
  obtain ⟨r3, g13, hf⟩ := hf
  refine gx_grN C g13 gz_21 q572 dX1_define_4 ?_
  replace hf := gx_b2s hf
  obtain ⟨a4, h5, g12, hf⟩ := hf
  refine gx_newN C g12 gz_12 tyX6_ok gx_df13_ok q803 q804 q148 dX1_define_7 rfl ?_
  refine gx_dup C dX1_define_10 rfl ?_
  refine gx_iload_n C dX1_define_11 1 rfl ?_
  refine gx_iload_n C dX1_define_12 2 rfl ?_
  refine gx_iload_n C dX1_define_13 3 rfl ?_
  refine gx_aload C dX1_define_14 4 rfl ?_
  refine gx_aload C dX1_define_16 5 rfl ?_
  replace hf := gx_bs hf
  obtain ⟨h7, g6, hf⟩ := hf
  refine gx_callI (st := [(va_rf (some a4)), (va_rf r3)]) C (w_X6_init hlt g6) q805 q806 q148 q807 rfl gz_25 (by decide) rfl rfl (gx_catn (Nat.le_of_ble_eq_true rfl)) dX1_define_18 ?_
  refine gx_frz1 (a := a4) ?_
  replace hf := gx_bs hf
  obtain ⟨a8, rfl, hf⟩ := hf
  replace hf := gx_b2s hf
  obtain ⟨b10, h11, g9, hf⟩ := hf
  refine gx_callF (st := []) C (w_J2_add hlt g9) (is_J2_add g9) q670 (gx_cis1 gz_19 ⟨gz_24, q674⟩ gx_cis0) q676 q127 q678 gz_23 (by decide) rfl rfl (gx_catn (Nat.le_of_ble_eq_true rfl)) dX1_define_21 ?_
  refine gx_ist C dX1_define_26 (by decide) []  rfl gx_ok0 ?_
  obtain rfl := Option.some.inj hf
  exact gx_vret C dX1_define_28
theorem le_X1_define {D : gx_D} {hz : HX} {h : HX} {a0 : Nat} {p1 : Int32} {p2 : Int32} {p3 : Int32} {p4 : Option Nat} {p5 : Option Nat} (hf : f_X1_define D h a0 p1 p2 p3 p4 p5 = some hz) : gx_le h hz := by
  unfold f_X1_define at hf
  replace hf := gx_bs hf
  obtain ⟨_, -, hf⟩ := hf
  replace hf := gx_bs hf
  obtain ⟨r1, g14, hf⟩ := hf
  replace hf := gx_bs hf
  obtain ⟨a2, rfl, hf⟩ := hf
  replace hf := gx_bs hf
  obtain ⟨r3, g13, hf⟩ := hf
  replace hf := gx_b2s hf
  obtain ⟨a4, h5, g12, hf⟩ := hf
  refine (hx_le_new g12).tr ?_
  replace hf := gx_bs hf
  obtain ⟨h7, g6, hf⟩ := hf
  refine (le_X6_init g6).tr ?_
  refine (gx_le.frz1 (a := a4)).tr ?_
  replace hf := gx_bs hf
  obtain ⟨a8, rfl, hf⟩ := hf
  replace hf := gx_b2s hf
  obtain ⟨b10, h11, g9, hf⟩ := hf
  refine (le_J2_add g9).tr ?_
  obtain rfl := Option.some.inj hf
  exact gx_le.rf
theorem w_X1_define {l : Launch} (hlt : l.stackTraces = false) {D : gx_D} {h : HX} {a0 : Nat} {p1 : Int32} {p2 : Int32} {p3 : Int32} {p4 : Option Nat} {p5 : Option Nat} {hz : HX} (hf : f_X1_define D h a0 p1 p2 p3 p4 p5 = some hz) : gx_Met l yX1_define cX1_define 7 none 3 68 D [(va_rf (some a0)), (.int p1), (.int p2), (.int p3), (va_rf p4), (va_rf p5)] h none hz :=
  gx_ofG gz_26 (by simp only [gx_lsr, gx_lsi, gx_lsj, gx_ls0]; decide) (le_X1_define hf) (fun p e R s m args below meth c C hx => by
    simp only [gx_lar, gx_lai, gx_laj, gx_la0, Nat.reduceAdd]
    exact w_X1_define_b hlt C hx hf)
def f_X1_defineEvents_b8 (D : gx_D) : Nat → HX → Nat → Option Nat → Int32 → Int32 → Option HX
  | 0, _, _, _, _, _ => none
  | n + 1, h, v0, v2, v3, v4 =>
  if v3 ≤ v4 then
  some h
  else
  v2.bind fun a4 =>
  (hx_ar h a4 v4).bind fun r5 =>
  (hx_gr h v0 [9] 5).bind fun r6 =>
  r6.bind fun a7 =>
  (hx_gr h a7 [10] 1).bind fun r8 =>
  r8.bind fun a9 =>
  gx_b2 (f_J2_add D h a9 r5) fun b11 h12 =>
  (f_X1_defineEvents_b8 D n) h12 v0 (some a4) v3 ((v4 + (1 : Int32)))
theorem w_X1_defineEvents_b8 {l : Launch} (hlt : l.stackTraces = false) {p : Program} {e : Env} {R : Room} {s : State} {m : MethodId} {args : Array Value} {below : List Frame} {meth : Method} {c : Code} {D : gx_D} {h0 : HX} {hz : HX} (C : gx_Ctx p R s m args meth c "ContractMachine" cX1_defineEvents 7 none 3 68 D h0 hz) (hx : meth.name = "defineEvents")  : ∀ (n : Nat) ⦃h : HX⦄ ⦃v0 : Nat⦄ ⦃v2 : Option Nat⦄ ⦃v3 : Int32⦄ ⦃v4 : Int32⦄, f_X1_defineEvents_b8 D n h v0 v2 v3 v4 = some hz → gx_G p l e R s m args below meth c D h0 hz 7 (gx_MQ below args s D h0 hz none) 8 [(0, (va_rf (some v0))), (2, (va_rf v2)), (3, (.int v3)), (4, (.int v4))] [] h := by
  intro n
  induction n with
  | zero => intro h v0 v2 v3 v4 hf; unfold f_X1_defineEvents_b8 at hf; cases hf
  | succ n wk8 =>
    intro h v0 v2 v3 v4 hf
    unfold f_X1_defineEvents_b8 at hf
    refine gx_iload C dX1_defineEvents_8 3 rfl ?_
    refine gx_iload_n C dX1_defineEvents_10 2 rfl ?_
    replace hf := gx_ite hf
    rcases hf with ⟨c3, hf⟩ | ⟨c3, hf⟩
    · refine gx_icmp_ge_t (tgt := 42) C dX1_defineEvents_11 rfl c3 ?_
      obtain rfl := Option.some.inj hf
      exact gx_vret C dX1_defineEvents_42
    · refine gx_icmp_ge_f (tgt := 42) C dX1_defineEvents_11 rfl c3 ?_
      refine gx_aload_n C dX1_defineEvents_14 1 rfl ?_
      refine gx_iload C dX1_defineEvents_15 3 rfl ?_
      replace hf := gx_bs hf
      obtain ⟨a4, rfl, hf⟩ := hf
      replace hf := gx_bs hf
      obtain ⟨r5, g15, hf⟩ := hf
      refine gx_aald C g15 dX1_defineEvents_17 ?_
      refine gx_ast C dX1_defineEvents_18 (by decide) [0, 1, 2, 3]  rfl (gx_okn rfl rfl (gx_okn rfl rfl (gx_okn rfl rfl (gx_okr rfl gx_catv_i gx_ok0)))) ?_
      refine gx_aload_n C dX1_defineEvents_20 1 rfl ?_
      replace hf := gx_bs hf
      obtain ⟨r6, g14, hf⟩ := hf
      refine gx_gr C g14 gz_20 q892 dX1_defineEvents_21 ?_
      replace hf := gx_bs hf
      obtain ⟨a7, rfl, hf⟩ := hf
      replace hf := gx_bs hf
      obtain ⟨r8, g13, hf⟩ := hf
      refine gx_grN C g13 gz_27 q565 dX1_defineEvents_24 ?_
      refine gx_aload C dX1_defineEvents_27 0 rfl ?_
      replace hf := gx_bs hf
      obtain ⟨a9, rfl, hf⟩ := hf
      replace hf := gx_b2s hf
      obtain ⟨b11, h12, g10, hf⟩ := hf
      refine gx_callF (st := []) C (w_J2_add hlt g10) (is_J2_add g10) q670 (gx_cis1 gz_19 ⟨gz_24, q674⟩ gx_cis0) q676 q127 q678 gz_23 (by decide) rfl rfl (gx_catn (Nat.le_of_ble_eq_true rfl)) dX1_defineEvents_29 ?_
      refine gx_ist C dX1_defineEvents_34 (by decide) [1, 2, 3, 4]  rfl (gx_okn rfl rfl (gx_okn rfl rfl (gx_okn rfl rfl (gx_okn rfl rfl gx_ok0)))) ?_
      refine gx_inc (v := 1) C dX1_defineEvents_36 4 rfl rfl (by decide) [1, 2, 3] rfl (gx_okn rfl rfl (gx_okn rfl rfl (gx_okr rfl gx_catv_i gx_ok0))) ?_
      refine gx_goto (tgt := 8) C dX1_defineEvents_39 rfl ?_
      refine gx_sub [1, 2, 3, 0] rfl ?_
      exact wk8 hf
theorem le_X1_defineEvents_b8 {D : gx_D} {hz : HX} : ∀ (n : Nat) ⦃h : HX⦄ ⦃v0 : Nat⦄ ⦃v2 : Option Nat⦄ ⦃v3 : Int32⦄ ⦃v4 : Int32⦄, f_X1_defineEvents_b8 D n h v0 v2 v3 v4 = some hz → gx_le h hz := by
  intro n
  induction n with
  | zero => intro h v0 v2 v3 v4 hf; unfold f_X1_defineEvents_b8 at hf; cases hf
  | succ n lek8 =>
    intro h v0 v2 v3 v4 hf
    unfold f_X1_defineEvents_b8 at hf
    replace hf := gx_ite hf
    rcases hf with ⟨c3, hf⟩ | ⟨c3, hf⟩
    · obtain rfl := Option.some.inj hf
      exact gx_le.rf
    · replace hf := gx_bs hf
      obtain ⟨a4, rfl, hf⟩ := hf
      replace hf := gx_bs hf
      obtain ⟨r5, g15, hf⟩ := hf
      replace hf := gx_bs hf
      obtain ⟨r6, g14, hf⟩ := hf
      replace hf := gx_bs hf
      obtain ⟨a7, rfl, hf⟩ := hf
      replace hf := gx_bs hf
      obtain ⟨r8, g13, hf⟩ := hf
      replace hf := gx_bs hf
      obtain ⟨a9, rfl, hf⟩ := hf
      replace hf := gx_b2s hf
      obtain ⟨b11, h12, g10, hf⟩ := hf
      refine (le_J2_add g10).tr ?_
      exact lek8 hf
def f_X1_defineEvents (D : gx_D) (h : HX) (a0 : Nat) (p1 : Option Nat) : Option HX :=
  (hx_is h a0 [9]).bind fun _ =>
  p1.bind fun a1 =>
  (hx_len h a1).bind fun x2 =>
  f_X1_defineEvents_b8 D gx_fuel h a0 (some a1) x2 ((0 : Int32))
theorem is_X1_defineEvents {D : gx_D} {h : HX} {a0 : Nat} {p1 : Option Nat} {z} (hf : f_X1_defineEvents D h a0 p1 = some z) : gx_isC h a0 [9] := by
  unfold f_X1_defineEvents at hf
  obtain ⟨_, g, -⟩ := gx_bs hf
  exact hx_is_of g
theorem w_X1_defineEvents_b {l : Launch} (hlt : l.stackTraces = false) {p : Program} {e : Env} {R : Room} {s : State} {m : MethodId} {args : Array Value} {below : List Frame} {meth : Method} {c : Code} {D : gx_D} {h0 : HX} {hz : HX} (C : gx_Ctx p R s m args meth c "ContractMachine" cX1_defineEvents 7 none 3 68 D h0 hz) (hx : meth.name = "defineEvents") {a0 : Nat} {p1 : Option Nat} (hf : f_X1_defineEvents D h0 a0 p1 = some hz) : gx_G p l e R s m args below meth c D h0 hz 7 (gx_MQ below args s D h0 hz none) 0 [(0, (va_rf (some a0))), (1, (va_rf p1))] [] h0 := by
  unfold f_X1_defineEvents at hf
  replace hf := gx_bs hf
  obtain ⟨_, -, hf⟩ := hf
  refine gx_aload_n C dX1_defineEvents_0 1 rfl ?_
  refine gx_astn C dX1_defineEvents_1 2 rfl (by decide) [0]  rfl (gx_okn rfl rfl gx_ok0) ?_
  refine gx_aload_n C dX1_defineEvents_2 0 rfl ?_
  replace hf := gx_bs hf
  obtain ⟨a1, rfl, hf⟩ := hf
  replace hf := gx_bs hf
  obtain ⟨x2, g16, hf⟩ := hf
  refine gx_alen C g16 dX1_defineEvents_3 ?_
  refine gx_istn C dX1_defineEvents_4 3 rfl (by decide) [0, 1]  rfl (gx_okr rfl gx_catv_r (gx_okn rfl rfl gx_ok0)) ?_
  refine gx_iconst (v := 0) C dX1_defineEvents_5 rfl ?_
  refine gx_ist C dX1_defineEvents_6 (by decide) [0, 1, 2]  rfl (gx_okr rfl gx_catv_i (gx_okn rfl rfl (gx_okn rfl rfl gx_ok0))) ?_
  refine gx_sub [3, 2, 1, 0] rfl ?_
  exact w_X1_defineEvents_b8 hlt C hx gx_fuel hf
theorem le_X1_defineEvents {D : gx_D} {hz : HX} {h : HX} {a0 : Nat} {p1 : Option Nat} (hf : f_X1_defineEvents D h a0 p1 = some hz) : gx_le h hz := by
  unfold f_X1_defineEvents at hf
  replace hf := gx_bs hf
  obtain ⟨_, -, hf⟩ := hf
  replace hf := gx_bs hf
  obtain ⟨a1, rfl, hf⟩ := hf
  replace hf := gx_bs hf
  obtain ⟨x2, g16, hf⟩ := hf
  exact le_X1_defineEvents_b8 gx_fuel hf
theorem w_X1_defineEvents {l : Launch} (hlt : l.stackTraces = false) {D : gx_D} {h : HX} {a0 : Nat} {p1 : Option Nat} {hz : HX} (hf : f_X1_defineEvents D h a0 p1 = some hz) : gx_Met l yX1_defineEvents cX1_defineEvents 7 none 3 68 D [(va_rf (some a0)), (va_rf p1)] h none hz :=
  gx_ofG gz_26 (by simp only [gx_lsr, gx_lsi, gx_lsj, gx_ls0]; decide) (le_X1_defineEvents hf) (fun p e R s m args below meth c C hx => by
    simp only [gx_lar, gx_lai, gx_laj, gx_la0, Nat.reduceAdd]
    exact w_X1_defineEvents_b hlt C hx hf)
def f_X1_defineStates_b8 (D : gx_D) : Nat → HX → Nat → Option Nat → Int32 → Int32 → Option HX
  | 0, _, _, _, _, _ => none
  | n + 1, h, v0, v2, v3, v4 =>
  if v3 ≤ v4 then
  some h
  else
  v2.bind fun a4 =>
  (hx_ar h a4 v4).bind fun r5 =>
  (hx_gr h v0 [9] 5).bind fun r6 =>
  r6.bind fun a7 =>
  (hx_gr h a7 [10] 0).bind fun r8 =>
  r8.bind fun a9 =>
  gx_b2 (f_J2_add D h a9 r5) fun b11 h12 =>
  (f_X1_defineStates_b8 D n) h12 v0 (some a4) v3 ((v4 + (1 : Int32)))
theorem w_X1_defineStates_b8 {l : Launch} (hlt : l.stackTraces = false) {p : Program} {e : Env} {R : Room} {s : State} {m : MethodId} {args : Array Value} {below : List Frame} {meth : Method} {c : Code} {D : gx_D} {h0 : HX} {hz : HX} (C : gx_Ctx p R s m args meth c "ContractMachine" cX1_defineStates 7 none 3 68 D h0 hz) (hx : meth.name = "defineStates")  : ∀ (n : Nat) ⦃h : HX⦄ ⦃v0 : Nat⦄ ⦃v2 : Option Nat⦄ ⦃v3 : Int32⦄ ⦃v4 : Int32⦄, f_X1_defineStates_b8 D n h v0 v2 v3 v4 = some hz → gx_G p l e R s m args below meth c D h0 hz 7 (gx_MQ below args s D h0 hz none) 8 [(0, (va_rf (some v0))), (2, (va_rf v2)), (3, (.int v3)), (4, (.int v4))] [] h := by
  intro n
  induction n with
  | zero => intro h v0 v2 v3 v4 hf; unfold f_X1_defineStates_b8 at hf; cases hf
  | succ n wk8 =>
    intro h v0 v2 v3 v4 hf
    unfold f_X1_defineStates_b8 at hf
    refine gx_iload C dX1_defineStates_8 3 rfl ?_
    refine gx_iload_n C dX1_defineStates_10 2 rfl ?_
    replace hf := gx_ite hf
    rcases hf with ⟨c3, hf⟩ | ⟨c3, hf⟩
    · refine gx_icmp_ge_t (tgt := 42) C dX1_defineStates_11 rfl c3 ?_
      obtain rfl := Option.some.inj hf
      exact gx_vret C dX1_defineStates_42
    · refine gx_icmp_ge_f (tgt := 42) C dX1_defineStates_11 rfl c3 ?_
      refine gx_aload_n C dX1_defineStates_14 1 rfl ?_
      refine gx_iload C dX1_defineStates_15 3 rfl ?_
      replace hf := gx_bs hf
      obtain ⟨a4, rfl, hf⟩ := hf
      replace hf := gx_bs hf
      obtain ⟨r5, g15, hf⟩ := hf
      refine gx_aald C g15 dX1_defineStates_17 ?_
      refine gx_ast C dX1_defineStates_18 (by decide) [0, 1, 2, 3]  rfl (gx_okn rfl rfl (gx_okn rfl rfl (gx_okn rfl rfl (gx_okr rfl gx_catv_i gx_ok0)))) ?_
      refine gx_aload_n C dX1_defineStates_20 1 rfl ?_
      replace hf := gx_bs hf
      obtain ⟨r6, g14, hf⟩ := hf
      refine gx_gr C g14 gz_20 q892 dX1_defineStates_21 ?_
      replace hf := gx_bs hf
      obtain ⟨a7, rfl, hf⟩ := hf
      replace hf := gx_bs hf
      obtain ⟨r8, g13, hf⟩ := hf
      refine gx_grN C g13 gz_28 q560 dX1_defineStates_24 ?_
      refine gx_aload C dX1_defineStates_27 0 rfl ?_
      replace hf := gx_bs hf
      obtain ⟨a9, rfl, hf⟩ := hf
      replace hf := gx_b2s hf
      obtain ⟨b11, h12, g10, hf⟩ := hf
      refine gx_callF (st := []) C (w_J2_add hlt g10) (is_J2_add g10) q670 (gx_cis1 gz_19 ⟨gz_24, q674⟩ gx_cis0) q676 q127 q678 gz_23 (by decide) rfl rfl (gx_catn (Nat.le_of_ble_eq_true rfl)) dX1_defineStates_29 ?_
      refine gx_ist C dX1_defineStates_34 (by decide) [1, 2, 3, 4]  rfl (gx_okn rfl rfl (gx_okn rfl rfl (gx_okn rfl rfl (gx_okn rfl rfl gx_ok0)))) ?_
      refine gx_inc (v := 1) C dX1_defineStates_36 4 rfl rfl (by decide) [1, 2, 3] rfl (gx_okn rfl rfl (gx_okn rfl rfl (gx_okr rfl gx_catv_i gx_ok0))) ?_
      refine gx_goto (tgt := 8) C dX1_defineStates_39 rfl ?_
      refine gx_sub [1, 2, 3, 0] rfl ?_
      exact wk8 hf
theorem le_X1_defineStates_b8 {D : gx_D} {hz : HX} : ∀ (n : Nat) ⦃h : HX⦄ ⦃v0 : Nat⦄ ⦃v2 : Option Nat⦄ ⦃v3 : Int32⦄ ⦃v4 : Int32⦄, f_X1_defineStates_b8 D n h v0 v2 v3 v4 = some hz → gx_le h hz := by
  intro n
  induction n with
  | zero => intro h v0 v2 v3 v4 hf; unfold f_X1_defineStates_b8 at hf; cases hf
  | succ n lek8 =>
    intro h v0 v2 v3 v4 hf
    unfold f_X1_defineStates_b8 at hf
    replace hf := gx_ite hf
    rcases hf with ⟨c3, hf⟩ | ⟨c3, hf⟩
    · obtain rfl := Option.some.inj hf
      exact gx_le.rf
    · replace hf := gx_bs hf
      obtain ⟨a4, rfl, hf⟩ := hf
      replace hf := gx_bs hf
      obtain ⟨r5, g15, hf⟩ := hf
      replace hf := gx_bs hf
      obtain ⟨r6, g14, hf⟩ := hf
      replace hf := gx_bs hf
      obtain ⟨a7, rfl, hf⟩ := hf
      replace hf := gx_bs hf
      obtain ⟨r8, g13, hf⟩ := hf
      replace hf := gx_bs hf
      obtain ⟨a9, rfl, hf⟩ := hf
      replace hf := gx_b2s hf
      obtain ⟨b11, h12, g10, hf⟩ := hf
      refine (le_J2_add g10).tr ?_
      exact lek8 hf
def f_X1_defineStates (D : gx_D) (h : HX) (a0 : Nat) (p1 : Option Nat) : Option HX :=
  (hx_is h a0 [9]).bind fun _ =>
  p1.bind fun a1 =>
  (hx_len h a1).bind fun x2 =>
  f_X1_defineStates_b8 D gx_fuel h a0 (some a1) x2 ((0 : Int32))
theorem is_X1_defineStates {D : gx_D} {h : HX} {a0 : Nat} {p1 : Option Nat} {z} (hf : f_X1_defineStates D h a0 p1 = some z) : gx_isC h a0 [9] := by
  unfold f_X1_defineStates at hf
  obtain ⟨_, g, -⟩ := gx_bs hf
  exact hx_is_of g
theorem w_X1_defineStates_b {l : Launch} (hlt : l.stackTraces = false) {p : Program} {e : Env} {R : Room} {s : State} {m : MethodId} {args : Array Value} {below : List Frame} {meth : Method} {c : Code} {D : gx_D} {h0 : HX} {hz : HX} (C : gx_Ctx p R s m args meth c "ContractMachine" cX1_defineStates 7 none 3 68 D h0 hz) (hx : meth.name = "defineStates") {a0 : Nat} {p1 : Option Nat} (hf : f_X1_defineStates D h0 a0 p1 = some hz) : gx_G p l e R s m args below meth c D h0 hz 7 (gx_MQ below args s D h0 hz none) 0 [(0, (va_rf (some a0))), (1, (va_rf p1))] [] h0 := by
  unfold f_X1_defineStates at hf
  replace hf := gx_bs hf
  obtain ⟨_, -, hf⟩ := hf
  refine gx_aload_n C dX1_defineStates_0 1 rfl ?_
  refine gx_astn C dX1_defineStates_1 2 rfl (by decide) [0]  rfl (gx_okn rfl rfl gx_ok0) ?_
  refine gx_aload_n C dX1_defineStates_2 0 rfl ?_
  replace hf := gx_bs hf
  obtain ⟨a1, rfl, hf⟩ := hf
  replace hf := gx_bs hf
  obtain ⟨x2, g16, hf⟩ := hf
  refine gx_alen C g16 dX1_defineStates_3 ?_
  refine gx_istn C dX1_defineStates_4 3 rfl (by decide) [0, 1]  rfl (gx_okr rfl gx_catv_r (gx_okn rfl rfl gx_ok0)) ?_
  refine gx_iconst (v := 0) C dX1_defineStates_5 rfl ?_
  refine gx_ist C dX1_defineStates_6 (by decide) [0, 1, 2]  rfl (gx_okr rfl gx_catv_i (gx_okn rfl rfl (gx_okn rfl rfl gx_ok0))) ?_
  refine gx_sub [3, 2, 1, 0] rfl ?_
  exact w_X1_defineStates_b8 hlt C hx gx_fuel hf
theorem le_X1_defineStates {D : gx_D} {hz : HX} {h : HX} {a0 : Nat} {p1 : Option Nat} (hf : f_X1_defineStates D h a0 p1 = some hz) : gx_le h hz := by
  unfold f_X1_defineStates at hf
  replace hf := gx_bs hf
  obtain ⟨_, -, hf⟩ := hf
  replace hf := gx_bs hf
  obtain ⟨a1, rfl, hf⟩ := hf
  replace hf := gx_bs hf
  obtain ⟨x2, g16, hf⟩ := hf
  exact le_X1_defineStates_b8 gx_fuel hf
theorem w_X1_defineStates {l : Launch} (hlt : l.stackTraces = false) {D : gx_D} {h : HX} {a0 : Nat} {p1 : Option Nat} {hz : HX} (hf : f_X1_defineStates D h a0 p1 = some hz) : gx_Met l yX1_defineStates cX1_defineStates 7 none 3 68 D [(va_rf (some a0)), (va_rf p1)] h none hz :=
  gx_ofG gz_26 (by simp only [gx_lsr, gx_lsi, gx_lsj, gx_ls0]; decide) (le_X1_defineStates hf) (fun p e R s m args below meth c C hx => by
    simp only [gx_lar, gx_lai, gx_laj, gx_la0, Nat.reduceAdd]
    exact w_X1_defineStates_b hlt C hx hf)
def f_X5_init (D : gx_D) (h : HX) (a0 : Nat) (p1 : Int32) (p2 : Option Nat) (p3 : Int32) : Option HX :=
  (hx_pi h a0 [12] 0 p1).bind fun h1 =>
  (hx_pr h1 a0 [12] 2 p2).bind fun h2 =>
  (hx_pi h2 a0 [12] 1 p3).bind fun h3 =>
  some h3
theorem w_X5_init_b {l : Launch} (hlt : l.stackTraces = false) {p : Program} {e : Env} {R : Room} {s : State} {m : MethodId} {args : Array Value} {below : List Frame} {meth : Method} {c : Code} {D : gx_D} {h0 : HX} {hz : HX} (C : gx_Ctx p R s m args meth c "ContractMachine$Action" cX5_init 4 none 1 24 D h0 hz) (hx : meth.name = "<init>") {a0 : Nat} {p1 : Int32} {p2 : Option Nat} {p3 : Int32} (hf : f_X5_init D h0 a0 p1 p2 p3 = some hz) : gx_G p l e R s m args below meth c D h0 hz 4 (gx_MQ below args s D h0 hz none) 0 [(0, (va_rf (some a0))), (1, (.int p1)), (2, (va_rf p2)), (3, (.int p3))] [] h0 := by
  unfold f_X5_init at hf
  refine gx_aload_n C dX5_init_0 0 rfl ?_
  refine gx_objInit (st := []) C q788 q188 q189 (by decide) (by decide) dX5_init_1 ?_
  refine gx_aload_n C dX5_init_4 0 rfl ?_
  refine gx_iload_n C dX5_init_5 1 rfl ?_
  replace hf := gx_bs hf
  obtain ⟨h1, g6, hf⟩ := hf
  refine gx_putvF C hx g6 gz_29 gz_1 rfl rfl q789 dX5_init_6 ?_
  refine gx_aload_n C dX5_init_9 0 rfl ?_
  refine gx_aload_n C dX5_init_10 2 rfl ?_
  replace hf := gx_bs hf
  obtain ⟨h2, g5, hf⟩ := hf
  refine gx_putvF C hx g5 gz_30 gz_31 (gx_narrow_r rfl _).1 (gx_narrow_r rfl _).2 q791 dX5_init_11 ?_
  refine gx_aload_n C dX5_init_14 0 rfl ?_
  refine gx_iload_n C dX5_init_15 3 rfl ?_
  replace hf := gx_bs hf
  obtain ⟨h3, g4, hf⟩ := hf
  refine gx_putvF C hx g4 gz_32 gz_1 rfl rfl q790 dX5_init_16 ?_
  obtain rfl := Option.some.inj hf
  exact gx_vret C dX5_init_19
theorem le_X5_init {D : gx_D} {hz : HX} {h : HX} {a0 : Nat} {p1 : Int32} {p2 : Option Nat} {p3 : Int32} (hf : f_X5_init D h a0 p1 p2 p3 = some hz) : gx_le h hz := by
  unfold f_X5_init at hf
  replace hf := gx_bs hf
  obtain ⟨h1, g6, hf⟩ := hf
  refine (hx_le_pv g6).tr ?_
  replace hf := gx_bs hf
  obtain ⟨h2, g5, hf⟩ := hf
  refine (hx_le_pv g5).tr ?_
  replace hf := gx_bs hf
  obtain ⟨h3, g4, hf⟩ := hf
  refine (hx_le_pv g4).tr ?_
  obtain rfl := Option.some.inj hf
  exact gx_le.rf
theorem w_X5_init {l : Launch} (hlt : l.stackTraces = false) {D : gx_D} {h : HX} {a0 : Nat} {p1 : Int32} {p2 : Option Nat} {p3 : Int32} {hz : HX} (hf : f_X5_init D h a0 p1 p2 p3 = some hz) : gx_Met l yX5_init cX5_init 4 none 1 24 D [(va_rf (some a0)), (.int p1), (va_rf p2), (.int p3)] h none hz :=
  gx_ofG gz_33 (by simp only [gx_lsr, gx_lsi, gx_lsj, gx_ls0]; decide) (le_X5_init hf) (fun p e R s m args below meth c C hx => by
    simp only [gx_lar, gx_lai, gx_laj, gx_la0, Nat.reduceAdd]
    exact w_X5_init_b hlt C hx hf)
def f_X7_init (D : gx_D) (h : HX) (a0 : Nat) (p1 : Int32) (p2 : Option Nat) (p3 : Int32) : Option HX :=
  (hx_pi h a0 [14] 0 p1).bind fun h1 =>
  (hx_pr h1 a0 [14] 2 p2).bind fun h2 =>
  (hx_pi h2 a0 [14] 1 p3).bind fun h3 =>
  some h3
theorem w_X7_init_b {l : Launch} (hlt : l.stackTraces = false) {p : Program} {e : Env} {R : Room} {s : State} {m : MethodId} {args : Array Value} {below : List Frame} {meth : Method} {c : Code} {D : gx_D} {h0 : HX} {hz : HX} (C : gx_Ctx p R s m args meth c "ContractMachine$Comparison" cX7_init 4 none 1 24 D h0 hz) (hx : meth.name = "<init>") {a0 : Nat} {p1 : Int32} {p2 : Option Nat} {p3 : Int32} (hf : f_X7_init D h0 a0 p1 p2 p3 = some hz) : gx_G p l e R s m args below meth c D h0 hz 4 (gx_MQ below args s D h0 hz none) 0 [(0, (va_rf (some a0))), (1, (.int p1)), (2, (va_rf p2)), (3, (.int p3))] [] h0 := by
  unfold f_X7_init at hf
  refine gx_aload_n C dX7_init_0 0 rfl ?_
  refine gx_objInit (st := []) C q839 q188 q189 (by decide) (by decide) dX7_init_1 ?_
  refine gx_aload_n C dX7_init_4 0 rfl ?_
  refine gx_iload_n C dX7_init_5 1 rfl ?_
  replace hf := gx_bs hf
  obtain ⟨h1, g6, hf⟩ := hf
  refine gx_putvF C hx g6 gz_34 gz_1 rfl rfl q840 dX7_init_6 ?_
  refine gx_aload_n C dX7_init_9 0 rfl ?_
  refine gx_aload_n C dX7_init_10 2 rfl ?_
  replace hf := gx_bs hf
  obtain ⟨h2, g5, hf⟩ := hf
  refine gx_putvF C hx g5 gz_35 gz_36 (gx_narrow_r rfl _).1 (gx_narrow_r rfl _).2 q842 dX7_init_11 ?_
  refine gx_aload_n C dX7_init_14 0 rfl ?_
  refine gx_iload_n C dX7_init_15 3 rfl ?_
  replace hf := gx_bs hf
  obtain ⟨h3, g4, hf⟩ := hf
  refine gx_putvF C hx g4 gz_37 gz_1 rfl rfl q841 dX7_init_16 ?_
  obtain rfl := Option.some.inj hf
  exact gx_vret C dX7_init_19
theorem le_X7_init {D : gx_D} {hz : HX} {h : HX} {a0 : Nat} {p1 : Int32} {p2 : Option Nat} {p3 : Int32} (hf : f_X7_init D h a0 p1 p2 p3 = some hz) : gx_le h hz := by
  unfold f_X7_init at hf
  replace hf := gx_bs hf
  obtain ⟨h1, g6, hf⟩ := hf
  refine (hx_le_pv g6).tr ?_
  replace hf := gx_bs hf
  obtain ⟨h2, g5, hf⟩ := hf
  refine (hx_le_pv g5).tr ?_
  replace hf := gx_bs hf
  obtain ⟨h3, g4, hf⟩ := hf
  refine (hx_le_pv g4).tr ?_
  obtain rfl := Option.some.inj hf
  exact gx_le.rf
theorem w_X7_init {l : Launch} (hlt : l.stackTraces = false) {D : gx_D} {h : HX} {a0 : Nat} {p1 : Int32} {p2 : Option Nat} {p3 : Int32} {hz : HX} (hf : f_X7_init D h a0 p1 p2 p3 = some hz) : gx_Met l yX7_init cX7_init 4 none 1 24 D [(va_rf (some a0)), (.int p1), (va_rf p2), (.int p3)] h none hz :=
  gx_ofG gz_38 (by simp only [gx_lsr, gx_lsi, gx_lsj, gx_ls0]; decide) (le_X7_init hf) (fun p e R s m args below meth c C hx => by
    simp only [gx_lar, gx_lai, gx_laj, gx_la0, Nat.reduceAdd]
    exact w_X7_init_b hlt C hx hf)
def f_X3_init (D : gx_D) (h : HX) (a0 : Nat) : Option HX :=
  gx_b2 (hx_new h 3 0 gx_df0) fun a1 h2 =>
  (f_J2_init D h2 a1 (10 : Int32)).bind fun h4 =>
  (hx_pr h4 a0 [10] 0 (some a1)).bind fun h5 =>
  gx_b2 (hx_new h5 3 0 gx_df0) fun a6 h7 =>
  (f_J2_init D h7 a6 (8 : Int32)).bind fun h9 =>
  (hx_pr h9 a0 [10] 1 (some a6)).bind fun h10 =>
  gx_b2 (hx_new h10 3 0 gx_df0) fun a11 h12 =>
  (f_J2_init D h12 a11 (3 : Int32)).bind fun h14 =>
  (hx_pr h14 a0 [10] 2 (some a11)).bind fun h15 =>
  gx_b2 (hx_new h15 3 0 gx_df0) fun a16 h17 =>
  (f_J2_init D h17 a16 (24 : Int32)).bind fun h19 =>
  (hx_pr h19 a0 [10] 3 (some a16)).bind fun h20 =>
  some h20
theorem w_X3_init_b {l : Launch} (hlt : l.stackTraces = false) {p : Program} {e : Env} {R : Room} {s : State} {m : MethodId} {args : Array Value} {below : List Frame} {meth : Method} {c : Code} {D : gx_D} {h0 : HX} {hz : HX} (C : gx_Ctx p R s m args meth c "ContractMachine$Definition" cX3_init 1 none 4 85 D h0 hz) (hx : meth.name = "<init>") {a0 : Nat} (hf : f_X3_init D h0 a0 = some hz) : gx_G p l e R s m args below meth c D h0 hz 1 (gx_MQ below args s D h0 hz none) 0 [(0, (va_rf (some a0)))] [] h0 := by
  unfold f_X3_init at hf
  refine gx_aload_n C dX3_init_0 0 rfl ?_
  refine gx_objInit (st := []) C q208 q188 q189 (by decide) (by decide) dX3_init_1 ?_
  refine gx_aload_n C dX3_init_4 0 rfl ?_
  replace hf := gx_b2s hf
  obtain ⟨a1, h2, g28, hf⟩ := hf
  refine gx_newN C g28 gz_19 tyJ2_ok gx_df0_ok q209 q210 q127 dX3_init_5 rfl ?_
  refine gx_dup C dX3_init_8 rfl ?_
  refine gx_bipush (v := 10) C dX3_init_9 rfl ?_
  replace hf := gx_bs hf
  obtain ⟨h4, g3, hf⟩ := hf
  refine gx_callI (st := [(va_rf (some a1)), (va_rf (some a0))]) C (w_J2_init hlt g3) q211 q212 q127 q213 rfl gz_47 (by decide) rfl rfl (gx_catn (Nat.le_of_ble_eq_true rfl)) dX3_init_11 ?_
  replace hf := gx_bs hf
  obtain ⟨h5, g27, hf⟩ := hf
  refine gx_putvF C hx g27 gz_28 gz_45 (gx_narrow_r rfl _).1 (gx_narrow_r rfl _).2 q558 dX3_init_14 ?_
  refine gx_aload_n C dX3_init_17 0 rfl ?_
  replace hf := gx_b2s hf
  obtain ⟨a6, h7, g26, hf⟩ := hf
  refine gx_newN C g26 gz_19 tyJ2_ok gx_df0_ok q209 q210 q127 dX3_init_18 rfl ?_
  refine gx_dup C dX3_init_21 rfl ?_
  refine gx_bipush (v := 8) C dX3_init_22 rfl ?_
  replace hf := gx_bs hf
  obtain ⟨h9, g8, hf⟩ := hf
  refine gx_callI (st := [(va_rf (some a6)), (va_rf (some a0))]) C (w_J2_init hlt g8) q211 q212 q127 q213 rfl gz_47 (by decide) rfl rfl (gx_catn (Nat.le_of_ble_eq_true rfl)) dX3_init_24 ?_
  replace hf := gx_bs hf
  obtain ⟨h10, g25, hf⟩ := hf
  refine gx_putvF C hx g25 gz_27 gz_45 (gx_narrow_r rfl _).1 (gx_narrow_r rfl _).2 q561 dX3_init_27 ?_
  refine gx_aload_n C dX3_init_30 0 rfl ?_
  replace hf := gx_b2s hf
  obtain ⟨a11, h12, g24, hf⟩ := hf
  refine gx_newN C g24 gz_19 tyJ2_ok gx_df0_ok q209 q210 q127 dX3_init_31 rfl ?_
  refine gx_dup C dX3_init_34 rfl ?_
  refine gx_iconst (v := 3) C dX3_init_35 rfl ?_
  replace hf := gx_bs hf
  obtain ⟨h14, g13, hf⟩ := hf
  refine gx_callI (st := [(va_rf (some a11)), (va_rf (some a0))]) C (w_J2_init hlt g13) q211 q212 q127 q213 rfl gz_47 (by decide) rfl rfl (gx_catn (Nat.le_of_ble_eq_true rfl)) dX3_init_36 ?_
  replace hf := gx_bs hf
  obtain ⟨h15, g23, hf⟩ := hf
  refine gx_putvF C hx g23 gz_46 gz_45 (gx_narrow_r rfl _).1 (gx_narrow_r rfl _).2 q566 dX3_init_39 ?_
  refine gx_aload_n C dX3_init_42 0 rfl ?_
  replace hf := gx_b2s hf
  obtain ⟨a16, h17, g22, hf⟩ := hf
  refine gx_newN C g22 gz_19 tyJ2_ok gx_df0_ok q209 q210 q127 dX3_init_43 rfl ?_
  refine gx_dup C dX3_init_46 rfl ?_
  refine gx_bipush (v := 24) C dX3_init_47 rfl ?_
  replace hf := gx_bs hf
  obtain ⟨h19, g18, hf⟩ := hf
  refine gx_callI (st := [(va_rf (some a16)), (va_rf (some a0))]) C (w_J2_init hlt g18) q211 q212 q127 q213 rfl gz_47 (by decide) rfl rfl (gx_catn (Nat.le_of_ble_eq_true rfl)) dX3_init_49 ?_
  replace hf := gx_bs hf
  obtain ⟨h20, g21, hf⟩ := hf
  refine gx_putvF C hx g21 gz_21 gz_45 (gx_narrow_r rfl _).1 (gx_narrow_r rfl _).2 q570 dX3_init_52 ?_
  obtain rfl := Option.some.inj hf
  exact gx_vret C dX3_init_55
theorem le_X3_init {D : gx_D} {hz : HX} {h : HX} {a0 : Nat} (hf : f_X3_init D h a0 = some hz) : gx_le h hz := by
  unfold f_X3_init at hf
  replace hf := gx_b2s hf
  obtain ⟨a1, h2, g28, hf⟩ := hf
  refine (hx_le_new g28).tr ?_
  replace hf := gx_bs hf
  obtain ⟨h4, g3, hf⟩ := hf
  refine (le_J2_init g3).tr ?_
  replace hf := gx_bs hf
  obtain ⟨h5, g27, hf⟩ := hf
  refine (hx_le_pv g27).tr ?_
  replace hf := gx_b2s hf
  obtain ⟨a6, h7, g26, hf⟩ := hf
  refine (hx_le_new g26).tr ?_
  replace hf := gx_bs hf
  obtain ⟨h9, g8, hf⟩ := hf
  refine (le_J2_init g8).tr ?_
  replace hf := gx_bs hf
  obtain ⟨h10, g25, hf⟩ := hf
  refine (hx_le_pv g25).tr ?_
  replace hf := gx_b2s hf
  obtain ⟨a11, h12, g24, hf⟩ := hf
  refine (hx_le_new g24).tr ?_
  replace hf := gx_bs hf
  obtain ⟨h14, g13, hf⟩ := hf
  refine (le_J2_init g13).tr ?_
  replace hf := gx_bs hf
  obtain ⟨h15, g23, hf⟩ := hf
  refine (hx_le_pv g23).tr ?_
  replace hf := gx_b2s hf
  obtain ⟨a16, h17, g22, hf⟩ := hf
  refine (hx_le_new g22).tr ?_
  replace hf := gx_bs hf
  obtain ⟨h19, g18, hf⟩ := hf
  refine (le_J2_init g18).tr ?_
  replace hf := gx_bs hf
  obtain ⟨h20, g21, hf⟩ := hf
  refine (hx_le_pv g21).tr ?_
  obtain rfl := Option.some.inj hf
  exact gx_le.rf
theorem w_X3_init {l : Launch} (hlt : l.stackTraces = false) {D : gx_D} {h : HX} {a0 : Nat} {hz : HX} (hf : f_X3_init D h a0 = some hz) : gx_Met l yX3_init cX3_init 1 none 4 85 D [(va_rf (some a0))] h none hz :=
  gx_ofG gz_48 (by simp only [gx_lsr, gx_lsi, gx_lsj, gx_ls0]; decide) (le_X3_init hf) (fun p e R s m args below meth c C hx => by
    simp only [gx_lar, gx_lai, gx_laj, gx_la0, Nat.reduceAdd]
    exact w_X3_init_b hlt C hx hf)
def f_X1_weight (D : gx_D) (h : HX) (p0 : Int32) : Option Int32 :=
  if p0 = 0 then
  some ((100 : Int32))
  else
  if p0 = (1 : Int32) then
  some ((10 : Int32))
  else
  some ((1 : Int32))
theorem w_X1_weight_b {l : Launch} (hlt : l.stackTraces = false) {p : Program} {e : Env} {R : Room} {s : State} {m : MethodId} {args : Array Value} {below : List Frame} {meth : Method} {c : Code} {D : gx_D} {h0 : HX} {r : Int32} (C : gx_Ctx p R s m args meth c "ContractMachine" cX1_weight 1 (some .int) 1 24 D h0 h0) (hx : meth.name = "weight") {p0 : Int32} (hf : f_X1_weight D h0 p0 = some r) : gx_G p l e R s m args below meth c D h0 h0 1 (gx_MQ below args s D h0 h0 (some (.int r))) 0 [(0, (.int p0))] [] h0 := by
  unfold f_X1_weight at hf
  refine gx_iload_n C dX1_weight_0 0 rfl ?_
  replace hf := gx_ite hf
  rcases hf with ⟨c1, hf⟩ | ⟨c1, hf⟩
  · refine gx_if_ne_f (tgt := 9) C dX1_weight_1 rfl c1 ?_
    refine gx_bipush (v := 100) C dX1_weight_4 rfl ?_
    refine gx_goto (tgt := 20) C dX1_weight_6 rfl ?_
    obtain rfl := Option.some.inj hf
    exact gx_iret C dX1_weight_20
  · refine gx_if_ne_t (tgt := 9) C dX1_weight_1 rfl c1 ?_
    refine gx_iload_n C dX1_weight_9 0 rfl ?_
    refine gx_iconst (v := 1) C dX1_weight_10 rfl ?_
    replace hf := gx_ite hf
    rcases hf with ⟨c2, hf⟩ | ⟨c2, hf⟩
    · refine gx_icmp_ne_f (tgt := 19) C dX1_weight_11 rfl c2 ?_
      refine gx_bipush (v := 10) C dX1_weight_14 rfl ?_
      refine gx_goto (tgt := 20) C dX1_weight_16 rfl ?_
      obtain rfl := Option.some.inj hf
      exact gx_iret C dX1_weight_20
    · refine gx_icmp_ne_t (tgt := 19) C dX1_weight_11 rfl c2 ?_
      refine gx_iconst (v := 1) C dX1_weight_19 rfl ?_
      obtain rfl := Option.some.inj hf
      exact gx_iret C dX1_weight_20
theorem w_X1_weight {l : Launch} (hlt : l.stackTraces = false) {D : gx_D} {h : HX} {p0 : Int32} {r : Int32} (hf : f_X1_weight D h p0 = some r) : gx_Met l yX1_weight cX1_weight 1 (some .int) 1 24 D [(.int p0)] h (some (.int r)) h :=
  gx_ofG gz_26 (by simp only [gx_lsr, gx_lsi, gx_lsj, gx_ls0]; decide) gx_le.rf (fun p e R s m args below meth c C hx => by
    simp only [gx_lar, gx_lai, gx_laj, gx_la0, Nat.reduceAdd]
    exact w_X1_weight_b hlt C hx hf)
def f_X3_addVariable (D : gx_D) (h : HX) (a0 : Nat) (p1 : Option Nat) (p2 : Int32) : Option HX :=
  (hx_is h a0 [10]).bind fun _ =>
  (hx_gi h a0 [10] 4).bind fun x1 =>
  (hx_gr h a0 [10] 2).bind fun r2 =>
  r2.bind fun a3 =>
  (f_J2_size D h a3).bind fun x5 =>
  (f_X1_weight D h x5).bind fun x7 =>
  (hx_pi h a0 [10] 4 (x1 + (p2 * x7))).bind fun h8 =>
  (hx_gr h8 a0 [10] 2).bind fun r9 =>
  r9.bind fun a10 =>
  gx_b2 (f_J2_add D h8 a10 p1) fun b12 h13 =>
  some h13
theorem is_X3_addVariable {D : gx_D} {h : HX} {a0 : Nat} {p1 : Option Nat} {p2 : Int32} {z} (hf : f_X3_addVariable D h a0 p1 p2 = some z) : gx_isC h a0 [10] := by
  unfold f_X3_addVariable at hf
  obtain ⟨_, g, -⟩ := gx_bs hf
  exact hx_is_of g
theorem w_X3_addVariable_b {l : Launch} (hlt : l.stackTraces = false) {p : Program} {e : Env} {R : Room} {s : State} {m : MethodId} {args : Array Value} {below : List Frame} {meth : Method} {c : Code} {D : gx_D} {h0 : HX} {hz : HX} (C : gx_Ctx p R s m args meth c "ContractMachine$Definition" cX3_addVariable 4 none 3 68 D h0 hz) (hx : meth.name = "addVariable") {a0 : Nat} {p1 : Option Nat} {p2 : Int32} (hf : f_X3_addVariable D h0 a0 p1 p2 = some hz) : gx_G p l e R s m args below meth c D h0 hz 4 (gx_MQ below args s D h0 hz none) 0 [(0, (va_rf (some a0))), (1, (va_rf p1)), (2, (.int p2))] [] h0 := by
  unfold f_X3_addVariable at hf
  replace hf := gx_bs hf
  obtain ⟨_, -, hf⟩ := hf
  refine gx_aload_n C dX3_addVariable_0 0 rfl ?_
  refine gx_dup C dX3_addVariable_1 rfl ?_
  replace hf := gx_bs hf
  obtain ⟨x1, g17, hf⟩ := hf
  refine gx_gi C g17 gz_49 q573 dX3_addVariable_2 ?_
  refine gx_iload_n C dX3_addVariable_5 2 rfl ?_
  refine gx_aload_n C dX3_addVariable_6 0 rfl ?_
  replace hf := gx_bs hf
  obtain ⟨r2, g16, hf⟩ := hf
  refine gx_gr C g16 gz_46 q566 dX3_addVariable_7 ?_
  replace hf := gx_bs hf
  obtain ⟨a3, rfl, hf⟩ := hf
  replace hf := gx_bs hf
  obtain ⟨x5, g4, hf⟩ := hf
  refine gx_callF (st := [(.int p2), (.int x1), (va_rf (some a0))]) C (w_J2_size hlt g4) (is_J2_size g4) q767 (gx_cis1 gz_19 ⟨gz_51, q770⟩ gx_cis0) q772 q127 q774 gz_50 (by decide) rfl rfl (gx_catn (Nat.le_of_ble_eq_true rfl)) dX3_addVariable_10 ?_
  replace hf := gx_bs hf
  obtain ⟨x7, g6, hf⟩ := hf
  refine gx_callSN (st := [(.int p2), (.int x1), (va_rf (some a0))]) C (w_X1_weight hlt g6) q775 q776 q121 q777 gz_52 (by decide) rfl rfl (gx_catn (Nat.le_of_ble_eq_true rfl)) dX3_addVariable_15 ?_
  refine gx_imul C dX3_addVariable_18 ?_
  refine gx_iadd C dX3_addVariable_19 ?_
  replace hf := gx_bs hf
  obtain ⟨h8, g15, hf⟩ := hf
  refine gx_putv C g15 gz_49 gz_1 rfl rfl q573 dX3_addVariable_20 ?_
  refine gx_aload_n C dX3_addVariable_23 0 rfl ?_
  replace hf := gx_bs hf
  obtain ⟨r9, g14, hf⟩ := hf
  refine gx_gr C g14 gz_46 q566 dX3_addVariable_24 ?_
  refine gx_aload_n C dX3_addVariable_27 1 rfl ?_
  replace hf := gx_bs hf
  obtain ⟨a10, rfl, hf⟩ := hf
  replace hf := gx_b2s hf
  obtain ⟨b12, h13, g11, hf⟩ := hf
  refine gx_callF (st := []) C (w_J2_add hlt g11) (is_J2_add g11) q779 (gx_cis1 gz_19 ⟨gz_24, q674⟩ gx_cis0) q676 q127 q678 gz_23 (by decide) rfl rfl (gx_catn (Nat.le_of_ble_eq_true rfl)) dX3_addVariable_28 ?_
  refine gx_istn C dX3_addVariable_33 3 rfl (by decide) []  rfl gx_ok0 ?_
  obtain rfl := Option.some.inj hf
  exact gx_vret C dX3_addVariable_34
theorem le_X3_addVariable {D : gx_D} {hz : HX} {h : HX} {a0 : Nat} {p1 : Option Nat} {p2 : Int32} (hf : f_X3_addVariable D h a0 p1 p2 = some hz) : gx_le h hz := by
  unfold f_X3_addVariable at hf
  replace hf := gx_bs hf
  obtain ⟨_, -, hf⟩ := hf
  replace hf := gx_bs hf
  obtain ⟨x1, g17, hf⟩ := hf
  replace hf := gx_bs hf
  obtain ⟨r2, g16, hf⟩ := hf
  replace hf := gx_bs hf
  obtain ⟨a3, rfl, hf⟩ := hf
  replace hf := gx_bs hf
  obtain ⟨x5, g4, hf⟩ := hf
  replace hf := gx_bs hf
  obtain ⟨x7, g6, hf⟩ := hf
  replace hf := gx_bs hf
  obtain ⟨h8, g15, hf⟩ := hf
  refine (hx_le_pv g15).tr ?_
  replace hf := gx_bs hf
  obtain ⟨r9, g14, hf⟩ := hf
  replace hf := gx_bs hf
  obtain ⟨a10, rfl, hf⟩ := hf
  replace hf := gx_b2s hf
  obtain ⟨b12, h13, g11, hf⟩ := hf
  refine (le_J2_add g11).tr ?_
  obtain rfl := Option.some.inj hf
  exact gx_le.rf
theorem w_X3_addVariable {l : Launch} (hlt : l.stackTraces = false) {D : gx_D} {h : HX} {a0 : Nat} {p1 : Option Nat} {p2 : Int32} {hz : HX} (hf : f_X3_addVariable D h a0 p1 p2 = some hz) : gx_Met l yX3_addVariable cX3_addVariable 4 none 3 68 D [(va_rf (some a0)), (va_rf p1), (.int p2)] h none hz :=
  gx_ofG gz_48 (by simp only [gx_lsr, gx_lsi, gx_lsj, gx_ls0]; decide) (le_X3_addVariable hf) (fun p e R s m args below meth c C hx => by
    simp only [gx_lar, gx_lai, gx_laj, gx_la0, Nat.reduceAdd]
    exact w_X3_addVariable_b hlt C hx hf)
def f_X8_init (D : gx_D) (h : HX) (a0 : Nat) (p1 : Int32) (p2 : Option Nat) : Option HX :=
  (hx_pi h a0 [15] 0 p1).bind fun h1 =>
  (hx_pr h1 a0 [15] 1 p2).bind fun h2 =>
  some h2
theorem w_X8_init_b {l : Launch} (hlt : l.stackTraces = false) {p : Program} {e : Env} {R : Room} {s : State} {m : MethodId} {args : Array Value} {below : List Frame} {meth : Method} {c : Code} {D : gx_D} {h0 : HX} {hz : HX} (C : gx_Ctx p R s m args meth c "ContractMachine$Invariant" cX8_init 3 none 1 24 D h0 hz) (hx : meth.name = "<init>") {a0 : Nat} {p1 : Int32} {p2 : Option Nat} (hf : f_X8_init D h0 a0 p1 p2 = some hz) : gx_G p l e R s m args below meth c D h0 hz 3 (gx_MQ below args s D h0 hz none) 0 [(0, (va_rf (some a0))), (1, (.int p1)), (2, (va_rf p2))] [] h0 := by
  unfold f_X8_init at hf
  refine gx_aload_n C dX8_init_0 0 rfl ?_
  refine gx_objInit (st := []) C q863 q188 q189 (by decide) (by decide) dX8_init_1 ?_
  refine gx_aload_n C dX8_init_4 0 rfl ?_
  refine gx_iload_n C dX8_init_5 1 rfl ?_
  replace hf := gx_bs hf
  obtain ⟨h1, g4, hf⟩ := hf
  refine gx_putvF C hx g4 gz_53 gz_1 rfl rfl q864 dX8_init_6 ?_
  refine gx_aload_n C dX8_init_9 0 rfl ?_
  refine gx_aload_n C dX8_init_10 2 rfl ?_
  replace hf := gx_bs hf
  obtain ⟨h2, g3, hf⟩ := hf
  refine gx_putvF C hx g3 gz_54 gz_5 (gx_narrow_r rfl _).1 (gx_narrow_r rfl _).2 q866 dX8_init_11 ?_
  obtain rfl := Option.some.inj hf
  exact gx_vret C dX8_init_14
theorem le_X8_init {D : gx_D} {hz : HX} {h : HX} {a0 : Nat} {p1 : Int32} {p2 : Option Nat} (hf : f_X8_init D h a0 p1 p2 = some hz) : gx_le h hz := by
  unfold f_X8_init at hf
  replace hf := gx_bs hf
  obtain ⟨h1, g4, hf⟩ := hf
  refine (hx_le_pv g4).tr ?_
  replace hf := gx_bs hf
  obtain ⟨h2, g3, hf⟩ := hf
  refine (hx_le_pv g3).tr ?_
  obtain rfl := Option.some.inj hf
  exact gx_le.rf
theorem w_X8_init {l : Launch} (hlt : l.stackTraces = false) {D : gx_D} {h : HX} {a0 : Nat} {p1 : Int32} {p2 : Option Nat} {hz : HX} (hf : f_X8_init D h a0 p1 p2 = some hz) : gx_Met l yX8_init cX8_init 3 none 1 24 D [(va_rf (some a0)), (.int p1), (va_rf p2)] h none hz :=
  gx_ofG gz_55 (by simp only [gx_lsr, gx_lsi, gx_lsj, gx_ls0]; decide) (le_X8_init hf) (fun p e R s m args below meth c C hx => by
    simp only [gx_lar, gx_lai, gx_laj, gx_la0, Nat.reduceAdd]
    exact w_X8_init_b hlt C hx hf)
def f_X2_values (D : gx_D) (h : HX) : Option ((Option Nat) × HX) :=
  gx_b2 (hx_clone h ((D.2.2.1 130)) 7) fun a1 h2 =>
  (hx_isA h2 a1 7).bind fun u3 =>
  some ((some a1), h2)
theorem w_X2_values_b {l : Launch} (hlt : l.stackTraces = false) {p : Program} {e : Env} {R : Room} {s : State} {m : MethodId} {args : Array Value} {below : List Frame} {meth : Method} {c : Code} {D : gx_D} {h0 : HX} {r : Option Nat} {hz : HX} (C : gx_Ctx p R s m args meth c "ContractMachine$Operator" cX2_values 0 (some (.array (.object "ContractMachine$Operator"))) 1 32 D h0 hz) (hx : meth.name = "values") (hf : f_X2_values D h0 = some (r, hz)) : gx_G p l e R s m args below meth c D h0 hz 0 (gx_MQ below args s D h0 hz (some (va_rf r))) 0 [] [] h0 := by
  unfold f_X2_values at hf
  refine gx_statk C 14 rfl q193 dX2_values_0 ?_
  replace hf := gx_b2s hf
  obtain ⟨a1, h2, g5, hf⟩ := hf
  refine gx_clone (st := []) C g5 rfl rfl q195 q196 q197 q198 q199 q200 (by decide) (by decide) dX2_values_3 ?_
  replace hf := gx_bs hf
  obtain ⟨u3, g4, hf⟩ := hf
  refine gx_castAL C g4 rfl rfl q202 dX2_values_6 ?_
  obtain ⟨rfl, rfl⟩ := Prod.mk.inj (Option.some.inj hf)
  exact gx_aret C rfl rfl dX2_values_9
theorem le_X2_values {D : gx_D} {r : Option Nat} {hz : HX} {h : HX} (hf : f_X2_values D h = some (r, hz)) : gx_le h hz := by
  unfold f_X2_values at hf
  replace hf := gx_b2s hf
  obtain ⟨a1, h2, g5, hf⟩ := hf
  refine (hx_le_clone g5).tr ?_
  replace hf := gx_bs hf
  obtain ⟨u3, g4, hf⟩ := hf
  obtain ⟨rfl, rfl⟩ := Prod.mk.inj (Option.some.inj hf)
  exact gx_le.rf
theorem w_X2_values {l : Launch} (hlt : l.stackTraces = false) {D : gx_D} {h : HX} {r : Option Nat} {hz : HX} (hf : f_X2_values D h = some (r, hz)) : gx_Met l yX2_values cX2_values 0 (some (.array (.object "ContractMachine$Operator"))) 1 32 D [] h (some (va_rf r)) hz :=
  gx_ofG gz_56 (by decide) (le_X2_values hf) (fun p e R s m args below meth c C hx => by
    exact w_X2_values_b hlt C hx hf)
def f_X4_init (D : gx_D) (h : HX) (a0 : Nat) : Option HX :=
  gx_b2 (hx_new h 3 0 gx_df0) fun a1 h2 =>
  (f_J2_init D h2 a1 (12 : Int32)).bind fun h4 =>
  (hx_pr h4 a0 [11] 0 (some a1)).bind fun h5 =>
  gx_b2 (hx_newa h5 0 (24 : Int32) (fun _ => .inl fun _ => 0)) fun a6 h7 =>
  (hx_pr h7 a0 [11] 1 (some a6)).bind fun h8 =>
  gx_b2 (hx_newa h8 0 (10 : Int32) (fun _ => .inl fun _ => 0)) fun a9 h10 =>
  (hx_pr h10 a0 [11] 2 (some a9)).bind fun h11 =>
  gx_b2 (hx_newa h11 0 (5 : Int32) (fun _ => .inl fun _ => 0)) fun a12 h13 =>
  (hx_pr h13 a0 [11] 3 (some a12)).bind fun h14 =>
  gx_b2 (hx_newa h14 0 (20 : Int32) (fun _ => .inl fun _ => 0)) fun a15 h16 =>
  (hx_pr h16 a0 [11] 4 (some a15)).bind fun h17 =>
  gx_b2 (hx_newa h17 0 (20 : Int32) (fun _ => .inl fun _ => 0)) fun a18 h19 =>
  (hx_pr h19 a0 [11] 5 (some a18)).bind fun h20 =>
  some h20
theorem w_X4_init_b {l : Launch} (hlt : l.stackTraces = false) {p : Program} {e : Env} {R : Room} {s : State} {m : MethodId} {args : Array Value} {below : List Frame} {meth : Method} {c : Code} {D : gx_D} {h0 : HX} {hz : HX} (C : gx_Ctx p R s m args meth c "ContractMachine$Run" cX4_init 1 none 4 85 D h0 hz) (hx : meth.name = "<init>") {a0 : Nat} (hf : f_X4_init D h0 a0 = some hz) : gx_G p l e R s m args below meth c D h0 hz 1 (gx_MQ below args s D h0 hz none) 0 [(0, (va_rf (some a0)))] [] h0 := by
  unfold f_X4_init at hf
  refine gx_aload_n C dX4_init_0 0 rfl ?_
  refine gx_objInit (st := []) C q592 q188 q189 (by decide) (by decide) dX4_init_1 ?_
  refine gx_aload_n C dX4_init_4 0 rfl ?_
  replace hf := gx_b2s hf
  obtain ⟨a1, h2, g32, hf⟩ := hf
  refine gx_newN C g32 gz_19 tyJ2_ok gx_df0_ok q593 q210 q127 dX4_init_5 rfl ?_
  refine gx_dup C dX4_init_8 rfl ?_
  refine gx_bipush (v := 12) C dX4_init_9 rfl ?_
  replace hf := gx_bs hf
  obtain ⟨h4, g3, hf⟩ := hf
  refine gx_callI (st := [(va_rf (some a1)), (va_rf (some a0))]) C (w_J2_init hlt g3) q594 q212 q127 q213 rfl gz_47 (by decide) rfl rfl (gx_catn (Nat.le_of_ble_eq_true rfl)) dX4_init_11 ?_
  replace hf := gx_bs hf
  obtain ⟨h5, g31, hf⟩ := hf
  refine gx_putvF C hx g31 gz_57 gz_45 (gx_narrow_r rfl _).1 (gx_narrow_r rfl _).2 q595 dX4_init_14 ?_
  refine gx_aload_n C dX4_init_17 0 rfl ?_
  refine gx_bipush (v := 24) C dX4_init_18 rfl ?_
  replace hf := gx_b2s hf
  obtain ⟨a6, h7, g30, hf⟩ := hf
  refine gx_newarr_int C g30 q640 dX4_init_20 ?_
  replace hf := gx_bs hf
  obtain ⟨h8, g29, hf⟩ := hf
  refine gx_putvF C hx g29 gz_58 gz_59 (gx_narrow_r rfl _).1 (gx_narrow_r rfl _).2 q598 dX4_init_22 ?_
  refine gx_aload_n C dX4_init_25 0 rfl ?_
  refine gx_bipush (v := 10) C dX4_init_26 rfl ?_
  replace hf := gx_b2s hf
  obtain ⟨a9, h10, g28, hf⟩ := hf
  refine gx_newarr_int C g28 q640 dX4_init_28 ?_
  replace hf := gx_bs hf
  obtain ⟨h11, g27, hf⟩ := hf
  refine gx_putvF C hx g27 gz_60 gz_59 (gx_narrow_r rfl _).1 (gx_narrow_r rfl _).2 q601 dX4_init_30 ?_
  refine gx_aload_n C dX4_init_33 0 rfl ?_
  refine gx_iconst (v := 5) C dX4_init_34 rfl ?_
  replace hf := gx_b2s hf
  obtain ⟨a12, h13, g26, hf⟩ := hf
  refine gx_newarr_int C g26 q640 dX4_init_35 ?_
  replace hf := gx_bs hf
  obtain ⟨h14, g25, hf⟩ := hf
  refine gx_putvF C hx g25 gz_61 gz_59 (gx_narrow_r rfl _).1 (gx_narrow_r rfl _).2 q604 dX4_init_37 ?_
  refine gx_aload_n C dX4_init_40 0 rfl ?_
  refine gx_bipush (v := 20) C dX4_init_41 rfl ?_
  replace hf := gx_b2s hf
  obtain ⟨a15, h16, g24, hf⟩ := hf
  refine gx_newarr_int C g24 q640 dX4_init_43 ?_
  replace hf := gx_bs hf
  obtain ⟨h17, g23, hf⟩ := hf
  refine gx_putvF C hx g23 gz_62 gz_59 (gx_narrow_r rfl _).1 (gx_narrow_r rfl _).2 q607 dX4_init_45 ?_
  refine gx_aload_n C dX4_init_48 0 rfl ?_
  refine gx_bipush (v := 20) C dX4_init_49 rfl ?_
  replace hf := gx_b2s hf
  obtain ⟨a18, h19, g22, hf⟩ := hf
  refine gx_newarr_int C g22 q640 dX4_init_51 ?_
  replace hf := gx_bs hf
  obtain ⟨h20, g21, hf⟩ := hf
  refine gx_putvF C hx g21 gz_63 gz_59 (gx_narrow_r rfl _).1 (gx_narrow_r rfl _).2 q609 dX4_init_53 ?_
  obtain rfl := Option.some.inj hf
  exact gx_vret C dX4_init_56
theorem le_X4_init {D : gx_D} {hz : HX} {h : HX} {a0 : Nat} (hf : f_X4_init D h a0 = some hz) : gx_le h hz := by
  unfold f_X4_init at hf
  replace hf := gx_b2s hf
  obtain ⟨a1, h2, g32, hf⟩ := hf
  refine (hx_le_new g32).tr ?_
  replace hf := gx_bs hf
  obtain ⟨h4, g3, hf⟩ := hf
  refine (le_J2_init g3).tr ?_
  replace hf := gx_bs hf
  obtain ⟨h5, g31, hf⟩ := hf
  refine (hx_le_pv g31).tr ?_
  replace hf := gx_b2s hf
  obtain ⟨a6, h7, g30, hf⟩ := hf
  refine (hx_le_newa g30).tr ?_
  replace hf := gx_bs hf
  obtain ⟨h8, g29, hf⟩ := hf
  refine (hx_le_pv g29).tr ?_
  replace hf := gx_b2s hf
  obtain ⟨a9, h10, g28, hf⟩ := hf
  refine (hx_le_newa g28).tr ?_
  replace hf := gx_bs hf
  obtain ⟨h11, g27, hf⟩ := hf
  refine (hx_le_pv g27).tr ?_
  replace hf := gx_b2s hf
  obtain ⟨a12, h13, g26, hf⟩ := hf
  refine (hx_le_newa g26).tr ?_
  replace hf := gx_bs hf
  obtain ⟨h14, g25, hf⟩ := hf
  refine (hx_le_pv g25).tr ?_
  replace hf := gx_b2s hf
  obtain ⟨a15, h16, g24, hf⟩ := hf
  refine (hx_le_newa g24).tr ?_
  replace hf := gx_bs hf
  obtain ⟨h17, g23, hf⟩ := hf
  refine (hx_le_pv g23).tr ?_
  replace hf := gx_b2s hf
  obtain ⟨a18, h19, g22, hf⟩ := hf
  refine (hx_le_newa g22).tr ?_
  replace hf := gx_bs hf
  obtain ⟨h20, g21, hf⟩ := hf
  refine (hx_le_pv g21).tr ?_
  obtain rfl := Option.some.inj hf
  exact gx_le.rf
theorem w_X4_init {l : Launch} (hlt : l.stackTraces = false) {D : gx_D} {h : HX} {a0 : Nat} {hz : HX} (hf : f_X4_init D h a0 = some hz) : gx_Met l yX4_init cX4_init 1 none 4 85 D [(va_rf (some a0))] h none hz :=
  gx_ofG gz_64 (by simp only [gx_lsr, gx_lsi, gx_lsj, gx_ls0]; decide) (le_X4_init hf) (fun p e R s m args below meth c C hx => by
    simp only [gx_lar, gx_lai, gx_laj, gx_la0, Nat.reduceAdd]
    exact w_X4_init_b hlt C hx hf)
def f_X4_state (D : gx_D) (h : HX) (a0 : Nat) : Option Int32 :=
  (hx_is h a0 [11]).bind fun _ =>
  (hx_gi h a0 [11] 6).bind fun x1 =>
  some ((x1 / (1000 : Int32)))
theorem is_X4_state {D : gx_D} {h : HX} {a0 : Nat} {z} (hf : f_X4_state D h a0 = some z) : gx_isC h a0 [11] := by
  unfold f_X4_state at hf
  obtain ⟨_, g, -⟩ := gx_bs hf
  exact hx_is_of g
theorem w_X4_state_b {l : Launch} (hlt : l.stackTraces = false) {p : Program} {e : Env} {R : Room} {s : State} {m : MethodId} {args : Array Value} {below : List Frame} {meth : Method} {c : Code} {D : gx_D} {h0 : HX} {r : Int32} (C : gx_Ctx p R s m args meth c "ContractMachine$Run" cX4_state 1 (some .int) 1 24 D h0 h0) (hx : meth.name = "state") {a0 : Nat} (hf : f_X4_state D h0 a0 = some r) : gx_G p l e R s m args below meth c D h0 h0 1 (gx_MQ below args s D h0 h0 (some (.int r))) 0 [(0, (va_rf (some a0)))] [] h0 := by
  unfold f_X4_state at hf
  replace hf := gx_bs hf
  obtain ⟨_, -, hf⟩ := hf
  refine gx_aload_n C dX4_state_0 0 rfl ?_
  replace hf := gx_bs hf
  obtain ⟨x1, g2, hf⟩ := hf
  refine gx_gi C g2 gz_65 q611 dX4_state_1 ?_
  refine gx_sipush (v := 1000) C dX4_state_4 rfl ?_
  refine gx_idiv C dX4_state_7 (by decide) ?_
  obtain rfl := Option.some.inj hf
  exact gx_iret C dX4_state_8
theorem w_X4_state {l : Launch} (hlt : l.stackTraces = false) {D : gx_D} {h : HX} {a0 : Nat} {r : Int32} (hf : f_X4_state D h a0 = some r) : gx_Met l yX4_state cX4_state 1 (some .int) 1 24 D [(va_rf (some a0))] h (some (.int r)) h :=
  gx_ofG gz_64 (by simp only [gx_lsr, gx_lsi, gx_lsj, gx_ls0]; decide) gx_le.rf (fun p e R s m args below meth c C hx => by
    simp only [gx_lar, gx_lai, gx_laj, gx_la0, Nat.reduceAdd]
    exact w_X4_state_b hlt C hx hf)
def f_X4_clear_b62 (D : gx_D) (h : HX) (v0 : Nat) : Option HX :=
  (hx_pi h v0 [11] 7 (0 : Int32)).bind fun h4 =>
  (hx_pi h4 v0 [11] 8 (0 : Int32)).bind fun h5 =>
  (hx_gr h5 v0 [11] 2).bind fun r6 =>
  (f_X4_state D h5 v0).bind fun x8 =>
  r6.bind fun a9 =>
  (hx_si h5 a9 x8 (1 : Int32)).bind fun h10 =>
  some h10
theorem w_X4_clear_b62 {l : Launch} (hlt : l.stackTraces = false) {p : Program} {e : Env} {R : Room} {s : State} {m : MethodId} {args : Array Value} {below : List Frame} {meth : Method} {c : Code} {D : gx_D} {h0 : HX} {hz : HX} (C : gx_Ctx p R s m args meth c "ContractMachine$Run" cX4_clear 2 none 2 44 D h0 hz) (hx : meth.name = "clear")  {h : HX} {v0 : Nat} (hf : f_X4_clear_b62 D h v0 = some hz) : gx_G p l e R s m args below meth c D h0 hz 2 (gx_MQ below args s D h0 hz none) 62 [(0, (va_rf (some v0)))] [] h := by
  unfold f_X4_clear_b62 at hf
  refine gx_aload_n C dX4_clear_62 0 rfl ?_
  refine gx_iconst (v := 0) C dX4_clear_63 rfl ?_
  replace hf := gx_bs hf
  obtain ⟨h4, g14, hf⟩ := hf
  refine gx_putv C g14 gz_66 gz_1 rfl rfl q616 dX4_clear_64 ?_
  refine gx_aload_n C dX4_clear_67 0 rfl ?_
  refine gx_iconst (v := 0) C dX4_clear_68 rfl ?_
  replace hf := gx_bs hf
  obtain ⟨h5, g13, hf⟩ := hf
  refine gx_putv C g13 gz_67 gz_1 rfl rfl q619 dX4_clear_69 ?_
  refine gx_aload_n C dX4_clear_72 0 rfl ?_
  replace hf := gx_bs hf
  obtain ⟨r6, g12, hf⟩ := hf
  refine gx_gr C g12 gz_60 q601 dX4_clear_73 ?_
  refine gx_aload_n C dX4_clear_76 0 rfl ?_
  replace hf := gx_bs hf
  obtain ⟨x8, g7, hf⟩ := hf
  refine gx_callV (st := [(va_rf r6)]) C (w_X4_state hlt g7) (is_X4_state g7) gz_13 rfl (lw_V q877 q878 q879 q144 q880) gz_68 (by decide) rfl rfl (gx_catn (Nat.le_of_ble_eq_true rfl)) dX4_clear_77 ?_
  refine gx_iconst (v := 1) C dX4_clear_80 rfl ?_
  replace hf := gx_bs hf
  obtain ⟨a9, rfl, hf⟩ := hf
  replace hf := gx_bs hf
  obtain ⟨h10, g11, hf⟩ := hf
  refine gx_iast C g11 dX4_clear_81 ?_
  obtain rfl := Option.some.inj hf
  exact gx_vret C dX4_clear_82
theorem le_X4_clear_b62 {D : gx_D} {hz : HX} {h : HX} {v0 : Nat} (hf : f_X4_clear_b62 D h v0 = some hz) : gx_le h hz := by
  unfold f_X4_clear_b62 at hf
  replace hf := gx_bs hf
  obtain ⟨h4, g14, hf⟩ := hf
  refine (hx_le_pv g14).tr ?_
  replace hf := gx_bs hf
  obtain ⟨h5, g13, hf⟩ := hf
  refine (hx_le_pv g13).tr ?_
  replace hf := gx_bs hf
  obtain ⟨r6, g12, hf⟩ := hf
  replace hf := gx_bs hf
  obtain ⟨x8, g7, hf⟩ := hf
  replace hf := gx_bs hf
  obtain ⟨a9, rfl, hf⟩ := hf
  replace hf := gx_bs hf
  obtain ⟨h10, g11, hf⟩ := hf
  refine (hx_le_si g11).tr ?_
  obtain rfl := Option.some.inj hf
  exact gx_le.rf
def f_X4_clear_b44 (D : gx_D) : Nat → HX → Nat → Int32 → Option HX
  | 0, _, _, _ => none
  | n + 1, h, v0, v1 =>
  if (5 : Int32) ≤ v1 then
  f_X4_clear_b62 D h v0
  else
  (hx_gr h v0 [11] 3).bind fun r15 =>
  r15.bind fun a16 =>
  (hx_si h a16 v1 (0 : Int32)).bind fun h17 =>
  (f_X4_clear_b44 D n) h17 v0 ((v1 + (1 : Int32)))
theorem w_X4_clear_b44 {l : Launch} (hlt : l.stackTraces = false) {p : Program} {e : Env} {R : Room} {s : State} {m : MethodId} {args : Array Value} {below : List Frame} {meth : Method} {c : Code} {D : gx_D} {h0 : HX} {hz : HX} (C : gx_Ctx p R s m args meth c "ContractMachine$Run" cX4_clear 2 none 2 44 D h0 hz) (hx : meth.name = "clear")  : ∀ (n : Nat) ⦃h : HX⦄ ⦃v0 : Nat⦄ ⦃v1 : Int32⦄, f_X4_clear_b44 D n h v0 v1 = some hz → gx_G p l e R s m args below meth c D h0 hz 2 (gx_MQ below args s D h0 hz none) 44 [(0, (va_rf (some v0))), (1, (.int v1))] [] h := by
  intro n
  induction n with
  | zero => intro h v0 v1 hf; unfold f_X4_clear_b44 at hf; cases hf
  | succ n wk44 =>
    intro h v0 v1 hf
    unfold f_X4_clear_b44 at hf
    refine gx_iload_n C dX4_clear_44 1 rfl ?_
    refine gx_iconst (v := 5) C dX4_clear_45 rfl ?_
    replace hf := gx_ite hf
    rcases hf with ⟨c3, hf⟩ | ⟨c3, hf⟩
    · refine gx_icmp_ge_t (tgt := 62) C dX4_clear_46 rfl c3 ?_
      refine gx_sub [0] rfl ?_
      exact w_X4_clear_b62 hlt C hx hf
    · refine gx_icmp_ge_f (tgt := 62) C dX4_clear_46 rfl c3 ?_
      refine gx_aload_n C dX4_clear_49 0 rfl ?_
      replace hf := gx_bs hf
      obtain ⟨r15, g19, hf⟩ := hf
      refine gx_gr C g19 gz_61 q604 dX4_clear_50 ?_
      refine gx_iload_n C dX4_clear_53 1 rfl ?_
      refine gx_iconst (v := 0) C dX4_clear_54 rfl ?_
      replace hf := gx_bs hf
      obtain ⟨a16, rfl, hf⟩ := hf
      replace hf := gx_bs hf
      obtain ⟨h17, g18, hf⟩ := hf
      refine gx_iast C g18 dX4_clear_55 ?_
      refine gx_inc (v := 1) C dX4_clear_56 1 rfl rfl (by decide) [0] rfl (gx_okr rfl gx_catv_r gx_ok0) ?_
      refine gx_goto (tgt := 44) C dX4_clear_59 rfl ?_
      refine gx_sub [1, 0] rfl ?_
      exact wk44 hf
theorem le_X4_clear_b44 {D : gx_D} {hz : HX} : ∀ (n : Nat) ⦃h : HX⦄ ⦃v0 : Nat⦄ ⦃v1 : Int32⦄, f_X4_clear_b44 D n h v0 v1 = some hz → gx_le h hz := by
  intro n
  induction n with
  | zero => intro h v0 v1 hf; unfold f_X4_clear_b44 at hf; cases hf
  | succ n lek44 =>
    intro h v0 v1 hf
    unfold f_X4_clear_b44 at hf
    replace hf := gx_ite hf
    rcases hf with ⟨c3, hf⟩ | ⟨c3, hf⟩
    · exact le_X4_clear_b62 hf
    · replace hf := gx_bs hf
      obtain ⟨r15, g19, hf⟩ := hf
      replace hf := gx_bs hf
      obtain ⟨a16, rfl, hf⟩ := hf
      replace hf := gx_bs hf
      obtain ⟨h17, g18, hf⟩ := hf
      refine (hx_le_si g18).tr ?_
      exact lek44 hf
def f_X4_clear_b42 (D : gx_D) (h : HX) (v0 : Nat) : Option HX :=
  f_X4_clear_b44 D gx_fuel h v0 ((0 : Int32))
theorem w_X4_clear_b42 {l : Launch} (hlt : l.stackTraces = false) {p : Program} {e : Env} {R : Room} {s : State} {m : MethodId} {args : Array Value} {below : List Frame} {meth : Method} {c : Code} {D : gx_D} {h0 : HX} {hz : HX} (C : gx_Ctx p R s m args meth c "ContractMachine$Run" cX4_clear 2 none 2 44 D h0 hz) (hx : meth.name = "clear")  {h : HX} {v0 : Nat} (hf : f_X4_clear_b42 D h v0 = some hz) : gx_G p l e R s m args below meth c D h0 hz 2 (gx_MQ below args s D h0 hz none) 42 [(0, (va_rf (some v0)))] [] h := by
  unfold f_X4_clear_b42 at hf
  refine gx_iconst (v := 0) C dX4_clear_42 rfl ?_
  refine gx_istn C dX4_clear_43 1 rfl (by decide) [0]  rfl (gx_okr rfl gx_catv_r gx_ok0) ?_
  refine gx_sub [1, 0] rfl ?_
  exact w_X4_clear_b44 hlt C hx gx_fuel hf
theorem le_X4_clear_b42 {D : gx_D} {hz : HX} {h : HX} {v0 : Nat} (hf : f_X4_clear_b42 D h v0 = some hz) : gx_le h hz := by
  unfold f_X4_clear_b42 at hf
  exact le_X4_clear_b44 gx_fuel hf
def f_X4_clear_b23 (D : gx_D) : Nat → HX → Nat → Int32 → Option HX
  | 0, _, _, _ => none
  | n + 1, h, v0, v1 =>
  if (10 : Int32) ≤ v1 then
  f_X4_clear_b42 D h v0
  else
  (hx_gr h v0 [11] 2).bind fun r20 =>
  r20.bind fun a21 =>
  (hx_si h a21 v1 (0 : Int32)).bind fun h22 =>
  (f_X4_clear_b23 D n) h22 v0 ((v1 + (1 : Int32)))
theorem w_X4_clear_b23 {l : Launch} (hlt : l.stackTraces = false) {p : Program} {e : Env} {R : Room} {s : State} {m : MethodId} {args : Array Value} {below : List Frame} {meth : Method} {c : Code} {D : gx_D} {h0 : HX} {hz : HX} (C : gx_Ctx p R s m args meth c "ContractMachine$Run" cX4_clear 2 none 2 44 D h0 hz) (hx : meth.name = "clear")  : ∀ (n : Nat) ⦃h : HX⦄ ⦃v0 : Nat⦄ ⦃v1 : Int32⦄, f_X4_clear_b23 D n h v0 v1 = some hz → gx_G p l e R s m args below meth c D h0 hz 2 (gx_MQ below args s D h0 hz none) 23 [(0, (va_rf (some v0))), (1, (.int v1))] [] h := by
  intro n
  induction n with
  | zero => intro h v0 v1 hf; unfold f_X4_clear_b23 at hf; cases hf
  | succ n wk23 =>
    intro h v0 v1 hf
    unfold f_X4_clear_b23 at hf
    refine gx_iload_n C dX4_clear_23 1 rfl ?_
    refine gx_bipush (v := 10) C dX4_clear_24 rfl ?_
    replace hf := gx_ite hf
    rcases hf with ⟨c2, hf⟩ | ⟨c2, hf⟩
    · refine gx_icmp_ge_t (tgt := 42) C dX4_clear_26 rfl c2 ?_
      refine gx_sub [0] rfl ?_
      exact w_X4_clear_b42 hlt C hx hf
    · refine gx_icmp_ge_f (tgt := 42) C dX4_clear_26 rfl c2 ?_
      refine gx_aload_n C dX4_clear_29 0 rfl ?_
      replace hf := gx_bs hf
      obtain ⟨r20, g24, hf⟩ := hf
      refine gx_gr C g24 gz_60 q601 dX4_clear_30 ?_
      refine gx_iload_n C dX4_clear_33 1 rfl ?_
      refine gx_iconst (v := 0) C dX4_clear_34 rfl ?_
      replace hf := gx_bs hf
      obtain ⟨a21, rfl, hf⟩ := hf
      replace hf := gx_bs hf
      obtain ⟨h22, g23, hf⟩ := hf
      refine gx_iast C g23 dX4_clear_35 ?_
      refine gx_inc (v := 1) C dX4_clear_36 1 rfl rfl (by decide) [0] rfl (gx_okr rfl gx_catv_r gx_ok0) ?_
      refine gx_goto (tgt := 23) C dX4_clear_39 rfl ?_
      refine gx_sub [1, 0] rfl ?_
      exact wk23 hf
theorem le_X4_clear_b23 {D : gx_D} {hz : HX} : ∀ (n : Nat) ⦃h : HX⦄ ⦃v0 : Nat⦄ ⦃v1 : Int32⦄, f_X4_clear_b23 D n h v0 v1 = some hz → gx_le h hz := by
  intro n
  induction n with
  | zero => intro h v0 v1 hf; unfold f_X4_clear_b23 at hf; cases hf
  | succ n lek23 =>
    intro h v0 v1 hf
    unfold f_X4_clear_b23 at hf
    replace hf := gx_ite hf
    rcases hf with ⟨c2, hf⟩ | ⟨c2, hf⟩
    · exact le_X4_clear_b42 hf
    · replace hf := gx_bs hf
      obtain ⟨r20, g24, hf⟩ := hf
      replace hf := gx_bs hf
      obtain ⟨a21, rfl, hf⟩ := hf
      replace hf := gx_bs hf
      obtain ⟨h22, g23, hf⟩ := hf
      refine (hx_le_si g23).tr ?_
      exact lek23 hf
def f_X4_clear_b21 (D : gx_D) (h : HX) (v0 : Nat) : Option HX :=
  f_X4_clear_b23 D gx_fuel h v0 ((0 : Int32))
theorem w_X4_clear_b21 {l : Launch} (hlt : l.stackTraces = false) {p : Program} {e : Env} {R : Room} {s : State} {m : MethodId} {args : Array Value} {below : List Frame} {meth : Method} {c : Code} {D : gx_D} {h0 : HX} {hz : HX} (C : gx_Ctx p R s m args meth c "ContractMachine$Run" cX4_clear 2 none 2 44 D h0 hz) (hx : meth.name = "clear")  {h : HX} {v0 : Nat} (hf : f_X4_clear_b21 D h v0 = some hz) : gx_G p l e R s m args below meth c D h0 hz 2 (gx_MQ below args s D h0 hz none) 21 [(0, (va_rf (some v0)))] [] h := by
  unfold f_X4_clear_b21 at hf
  refine gx_iconst (v := 0) C dX4_clear_21 rfl ?_
  refine gx_istn C dX4_clear_22 1 rfl (by decide) [0]  rfl (gx_okr rfl gx_catv_r gx_ok0) ?_
  refine gx_sub [1, 0] rfl ?_
  exact w_X4_clear_b23 hlt C hx gx_fuel hf
theorem le_X4_clear_b21 {D : gx_D} {hz : HX} {h : HX} {v0 : Nat} (hf : f_X4_clear_b21 D h v0 = some hz) : gx_le h hz := by
  unfold f_X4_clear_b21 at hf
  exact le_X4_clear_b23 gx_fuel hf
def f_X4_clear_b2 (D : gx_D) : Nat → HX → Nat → Int32 → Option HX
  | 0, _, _, _ => none
  | n + 1, h, v0, v1 =>
  if (24 : Int32) ≤ v1 then
  f_X4_clear_b21 D h v0
  else
  (hx_gr h v0 [11] 1).bind fun r25 =>
  r25.bind fun a26 =>
  (hx_si h a26 v1 (0 : Int32)).bind fun h27 =>
  (f_X4_clear_b2 D n) h27 v0 ((v1 + (1 : Int32)))
theorem w_X4_clear_b2 {l : Launch} (hlt : l.stackTraces = false) {p : Program} {e : Env} {R : Room} {s : State} {m : MethodId} {args : Array Value} {below : List Frame} {meth : Method} {c : Code} {D : gx_D} {h0 : HX} {hz : HX} (C : gx_Ctx p R s m args meth c "ContractMachine$Run" cX4_clear 2 none 2 44 D h0 hz) (hx : meth.name = "clear")  : ∀ (n : Nat) ⦃h : HX⦄ ⦃v0 : Nat⦄ ⦃v1 : Int32⦄, f_X4_clear_b2 D n h v0 v1 = some hz → gx_G p l e R s m args below meth c D h0 hz 2 (gx_MQ below args s D h0 hz none) 2 [(0, (va_rf (some v0))), (1, (.int v1))] [] h := by
  intro n
  induction n with
  | zero => intro h v0 v1 hf; unfold f_X4_clear_b2 at hf; cases hf
  | succ n wk2 =>
    intro h v0 v1 hf
    unfold f_X4_clear_b2 at hf
    refine gx_iload_n C dX4_clear_2 1 rfl ?_
    refine gx_bipush (v := 24) C dX4_clear_3 rfl ?_
    replace hf := gx_ite hf
    rcases hf with ⟨c1, hf⟩ | ⟨c1, hf⟩
    · refine gx_icmp_ge_t (tgt := 21) C dX4_clear_5 rfl c1 ?_
      refine gx_sub [0] rfl ?_
      exact w_X4_clear_b21 hlt C hx hf
    · refine gx_icmp_ge_f (tgt := 21) C dX4_clear_5 rfl c1 ?_
      refine gx_aload_n C dX4_clear_8 0 rfl ?_
      replace hf := gx_bs hf
      obtain ⟨r25, g29, hf⟩ := hf
      refine gx_gr C g29 gz_58 q598 dX4_clear_9 ?_
      refine gx_iload_n C dX4_clear_12 1 rfl ?_
      refine gx_iconst (v := 0) C dX4_clear_13 rfl ?_
      replace hf := gx_bs hf
      obtain ⟨a26, rfl, hf⟩ := hf
      replace hf := gx_bs hf
      obtain ⟨h27, g28, hf⟩ := hf
      refine gx_iast C g28 dX4_clear_14 ?_
      refine gx_inc (v := 1) C dX4_clear_15 1 rfl rfl (by decide) [0] rfl (gx_okr rfl gx_catv_r gx_ok0) ?_
      refine gx_goto (tgt := 2) C dX4_clear_18 rfl ?_
      refine gx_sub [1, 0] rfl ?_
      exact wk2 hf
theorem le_X4_clear_b2 {D : gx_D} {hz : HX} : ∀ (n : Nat) ⦃h : HX⦄ ⦃v0 : Nat⦄ ⦃v1 : Int32⦄, f_X4_clear_b2 D n h v0 v1 = some hz → gx_le h hz := by
  intro n
  induction n with
  | zero => intro h v0 v1 hf; unfold f_X4_clear_b2 at hf; cases hf
  | succ n lek2 =>
    intro h v0 v1 hf
    unfold f_X4_clear_b2 at hf
    replace hf := gx_ite hf
    rcases hf with ⟨c1, hf⟩ | ⟨c1, hf⟩
    · exact le_X4_clear_b21 hf
    · replace hf := gx_bs hf
      obtain ⟨r25, g29, hf⟩ := hf
      replace hf := gx_bs hf
      obtain ⟨a26, rfl, hf⟩ := hf
      replace hf := gx_bs hf
      obtain ⟨h27, g28, hf⟩ := hf
      refine (hx_le_si g28).tr ?_
      exact lek2 hf
def f_X4_clear (D : gx_D) (h : HX) (a0 : Nat) : Option HX :=
  (hx_is h a0 [11]).bind fun _ =>
  f_X4_clear_b2 D gx_fuel h a0 ((0 : Int32))
theorem is_X4_clear {D : gx_D} {h : HX} {a0 : Nat} {z} (hf : f_X4_clear D h a0 = some z) : gx_isC h a0 [11] := by
  unfold f_X4_clear at hf
  obtain ⟨_, g, -⟩ := gx_bs hf
  exact hx_is_of g
theorem w_X4_clear_b {l : Launch} (hlt : l.stackTraces = false) {p : Program} {e : Env} {R : Room} {s : State} {m : MethodId} {args : Array Value} {below : List Frame} {meth : Method} {c : Code} {D : gx_D} {h0 : HX} {hz : HX} (C : gx_Ctx p R s m args meth c "ContractMachine$Run" cX4_clear 2 none 2 44 D h0 hz) (hx : meth.name = "clear") {a0 : Nat} (hf : f_X4_clear D h0 a0 = some hz) : gx_G p l e R s m args below meth c D h0 hz 2 (gx_MQ below args s D h0 hz none) 0 [(0, (va_rf (some a0)))] [] h0 := by
  unfold f_X4_clear at hf
  replace hf := gx_bs hf
  obtain ⟨_, -, hf⟩ := hf
  refine gx_iconst (v := 0) C dX4_clear_0 rfl ?_
  refine gx_istn C dX4_clear_1 1 rfl (by decide) [0]  rfl (gx_okr rfl gx_catv_r gx_ok0) ?_
  refine gx_sub [1, 0] rfl ?_
  exact w_X4_clear_b2 hlt C hx gx_fuel hf
theorem le_X4_clear {D : gx_D} {hz : HX} {h : HX} {a0 : Nat} (hf : f_X4_clear D h a0 = some hz) : gx_le h hz := by
  unfold f_X4_clear at hf
  replace hf := gx_bs hf
  obtain ⟨_, -, hf⟩ := hf
  exact le_X4_clear_b2 gx_fuel hf
theorem w_X4_clear {l : Launch} (hlt : l.stackTraces = false) {D : gx_D} {h : HX} {a0 : Nat} {hz : HX} (hf : f_X4_clear D h a0 = some hz) : gx_Met l yX4_clear cX4_clear 2 none 2 44 D [(va_rf (some a0))] h none hz :=
  gx_ofG gz_64 (by simp only [gx_lsr, gx_lsi, gx_lsj, gx_ls0]; decide) (le_X4_clear hf) (fun p e R s m args below meth c C hx => by
    simp only [gx_lar, gx_lai, gx_laj, gx_la0, Nat.reduceAdd]
    exact w_X4_clear_b hlt C hx hf)
def f_X1_init (D : gx_D) (h : HX) (a0 : Nat) : Option HX :=
  gx_b2 (f_X2_values D h) fun r2 h3 =>
  (hx_pr h3 a0 [9] 0 r2).bind fun h4 =>
  gx_b2 (hx_newa h4 1 (700 : Int32) (fun _ => .inl fun _ => 0)) fun a5 h6 =>
  (hx_pr h6 a0 [9] 1 (some a5)).bind fun h7 =>
  (hx_pi h7 a0 [9] 4 (-1 : Int32)).bind fun h8 =>
  gx_b2 (hx_new h8 5 10 gx_df10) fun a9 h10 =>
  (f_X3_init D h10 a9).bind fun h12 =>
  (hx_pr h12 a0 [9] 5 (some a9)).bind fun h13 =>
  gx_b2 (hx_new h13 9 11 gx_df11) fun a14 h15 =>
  (f_X4_init D h15 a14).bind fun h17 =>
  (hx_pr h17 a0 [9] 6 (some a14)).bind fun h18 =>
  gx_b2 (hx_new h18 3 3 gx_df3) fun a19 h20 =>
  (f_J17_init D h20 a19).bind fun h22 =>
  (hx_pr h22 a0 [9] 8 (some a19)).bind fun h23 =>
  gx_b2 (hx_newa h23 0 (10000 : Int32) (fun _ => .inl fun _ => 0)) fun a24 h25 =>
  (hx_pr h25 a0 [9] 9 (some a24)).bind fun h26 =>
  gx_b2 (hx_newa h26 0 (10000 : Int32) (fun _ => .inl fun _ => 0)) fun a27 h28 =>
  (hx_pr h28 a0 [9] 10 (some a27)).bind fun h29 =>
  gx_b2 (hx_newa h29 0 (10000 : Int32) (fun _ => .inl fun _ => 0)) fun a30 h31 =>
  (hx_pr h31 a0 [9] 11 (some a30)).bind fun h32 =>
  gx_b2 (hx_new h32 4 1 gx_df1) fun a33 h34 =>
  (f_J8_init D h34 a33).bind fun h36 =>
  (hx_pr h36 a0 [9] 14 (some a33)).bind fun h37 =>
  gx_b2 (hx_newa h37 5 (3 : Int32) (fun _ => .inr (.inr (.inr (.inr fun _ => none))))) fun a38 h39 =>
  (hx_sr h39 a38 5 [2] (0 : Int32) (some (D.2.2.1 0))).bind fun h40 =>
  (hx_sr h40 a38 5 [2] (1 : Int32) (some (D.2.2.1 1))).bind fun h41 =>
  (hx_sr h41 a38 5 [2] (2 : Int32) (some (D.2.2.1 2))).bind fun h42 =>
  (f_X1_defineStates D h42 a0 (some a38)).bind fun h44 =>
  gx_b2 (hx_newa h44 5 (3 : Int32) (fun _ => .inr (.inr (.inr (.inr fun _ => none))))) fun a45 h46 =>
  (hx_sr h46 a45 5 [2] (0 : Int32) (some (D.2.2.1 3))).bind fun h47 =>
  (hx_sr h47 a45 5 [2] (1 : Int32) (some (D.2.2.1 4))).bind fun h48 =>
  (hx_sr h48 a45 5 [2] (2 : Int32) (some (D.2.2.1 5))).bind fun h49 =>
  (f_X1_defineEvents D h49 a0 (some a45)).bind fun h51 =>
  (hx_gr h51 a0 [9] 5).bind fun r52 =>
  r52.bind fun a53 =>
  (f_X3_addVariable D h51 a53 (some (D.2.2.1 6)) (0 : Int32)).bind fun h55 =>
  (hx_gr h55 a0 [9] 5).bind fun r56 =>
  r56.bind fun a57 =>
  (f_X3_addVariable D h55 a57 (some (D.2.2.1 7)) (3 : Int32)).bind fun h59 =>
  gx_b2 (hx_new h59 3 12 gx_df12) fun a60 h61 =>
  (f_X5_init D h61 a60 (0 : Int32) (some (D.2.2.1 110)) (1 : Int32)).bind fun h63 =>
  (f_X1_define D ((hx_fz1 h63 a60)) a0 (0 : Int32) (0 : Int32) (1 : Int32) none (some a60)).bind fun h65 =>
  gx_b2 (hx_new h65 3 14 gx_df14) fun a66 h67 =>
  (f_X7_init D h67 a66 (0 : Int32) (some (D.2.2.1 105)) (2 : Int32)).bind fun h69 =>
  gx_b2 (hx_new ((hx_fz1 h69 a66)) 3 12 gx_df12) fun a70 h71 =>
  (f_X5_init D h71 a70 (0 : Int32) (some (D.2.2.1 110)) (1 : Int32)).bind fun h73 =>
  (f_X1_define D ((hx_fz1 h73 a70)) a0 (1 : Int32) (0 : Int32) (2 : Int32) (some a66) (some a70)).bind fun h75 =>
  gx_b2 (hx_new h75 3 12 gx_df12) fun a76 h77 =>
  (f_X5_init D h77 a76 (0 : Int32) (some (D.2.2.1 110)) (1 : Int32)).bind fun h79 =>
  (f_X1_define D ((hx_fz1 h79 a76)) a0 (1 : Int32) (0 : Int32) (1 : Int32) none (some a76)).bind fun h81 =>
  gx_b2 (hx_new h81 3 14 gx_df14) fun a82 h83 =>
  (f_X7_init D h83 a82 (0 : Int32) (some (D.2.2.1 104)) (2 : Int32)).bind fun h85 =>
  gx_b2 (hx_new ((hx_fz1 h85 a82)) 3 12 gx_df12) fun a86 h87 =>
  (f_X5_init D h87 a86 (1 : Int32) (some (D.2.2.1 111)) (1 : Int32)).bind fun h89 =>
  (f_X1_define D ((hx_fz1 h89 a86)) a0 (1 : Int32) (1 : Int32) (0 : Int32) (some a82) (some a86)).bind fun h91 =>
  gx_b2 (hx_new h91 3 12 gx_df12) fun a92 h93 =>
  (f_X5_init D h93 a92 (0 : Int32) (some (D.2.2.1 112)) (0 : Int32)).bind fun h95 =>
  (f_X1_define D ((hx_fz1 h95 a92)) a0 (2 : Int32) (1 : Int32) (0 : Int32) none (some a92)).bind fun h97 =>
  gx_b2 (hx_new h97 3 12 gx_df12) fun a98 h99 =>
  (f_X5_init D h99 a98 (0 : Int32) (some (D.2.2.1 111)) (1 : Int32)).bind fun h101 =>
  (f_X1_define D ((hx_fz1 h101 a98)) a0 (0 : Int32) (2 : Int32) (0 : Int32) none (some a98)).bind fun h103 =>
  (hx_gr h103 a0 [9] 6).bind fun r104 =>
  r104.bind fun a105 =>
  (hx_gr h103 a105 [11] 0).bind fun r106 =>
  gx_b2 (hx_new h103 2 15 gx_df15) fun a107 h108 =>
  gx_b2 (hx_new h108 3 14 gx_df14) fun a109 h110 =>
  (f_X7_init D h110 a109 (0 : Int32) (some (D.2.2.1 101)) (5 : Int32)).bind fun h112 =>
  (f_X8_init D ((hx_fz1 h112 a109)) a107 (-1 : Int32) (some a109)).bind fun h114 =>
  r106.bind fun a115 =>
  gx_b2 (f_J2_add D ((hx_fz1 h114 a107)) a115 (some a107)) fun b117 h118 =>
  (hx_gr h118 a0 [9] 6).bind fun r119 =>
  r119.bind fun a120 =>
  (hx_gr h118 a120 [11] 0).bind fun r121 =>
  gx_b2 (hx_new h118 2 15 gx_df15) fun a122 h123 =>
  gx_b2 (hx_new h123 3 14 gx_df14) fun a124 h125 =>
  (f_X7_init D h125 a124 (1 : Int32) (some (D.2.2.1 104)) (1 : Int32)).bind fun h127 =>
  (f_X8_init D ((hx_fz1 h127 a124)) a122 (0 : Int32) (some a124)).bind fun h129 =>
  r121.bind fun a130 =>
  gx_b2 (f_J2_add D ((hx_fz1 h129 a122)) a130 (some a122)) fun b132 h133 =>
  (hx_gr h133 a0 [9] 6).bind fun r134 =>
  (hx_gr h133 a0 [9] 5).bind fun r135 =>
  r135.bind fun a136 =>
  (hx_gi h133 a136 [10] 4).bind fun x137 =>
  r134.bind fun a138 =>
  (hx_pi h133 a138 [11] 6 x137).bind fun h139 =>
  (hx_gr h139 a0 [9] 6).bind fun r140 =>
  r140.bind fun a141 =>
  (f_X4_clear D h139 a141).bind fun h143 =>
  some h143
theorem w_X1_init_b {l : Launch} (hlt : l.stackTraces = false) {p : Program} {e : Env} {R : Room} {s : State} {m : MethodId} {args : Array Value} {below : List Frame} {meth : Method} {c : Code} {D : gx_D} {h0 : HX} {hz : HX} (C : gx_Ctx p R s m args meth c "ContractMachine" cX1_init 3 none 5 105 D h0 hz) (hx : meth.name = "<init>") {a0 : Nat} (hf : f_X1_init D h0 a0 = some hz) : gx_G p l e R s m args below meth c D h0 hz 3 (gx_MQ below args s D h0 hz none) 0 [(0, (va_rf (some a0)))] [] h0 := by
  unfold f_X1_init at hf
  refine gx_aload_n C dX1_init_0 0 rfl ?_
  refine gx_objInit (st := []) C q187 q188 q189 (by decide) (by decide) dX1_init_1 ?_
  refine gx_aload_n C dX1_init_4 0 rfl ?_
  replace hf := gx_b2s hf
  obtain ⟨r2, h3, g1, hf⟩ := hf
  refine gx_callS (st := [(va_rf (some a0))]) C (w_X2_values hlt g1) (lw_S q190 q191 q123 q192) gz_118 (by decide) rfl rfl (gx_catn (Nat.le_of_ble_eq_true rfl)) dX1_init_5 ?_
  replace hf := gx_bs hf
  obtain ⟨h4, g192, hf⟩ := hf
  refine gx_putvF C hx g192 gz_78 gz_79 (gx_narrow_r rfl _).1 (gx_narrow_r rfl _).2 q881 dX1_init_8 ?_
  refine gx_aload_n C dX1_init_11 0 rfl ?_
  refine gx_sipush (v := 700) C dX1_init_12 rfl ?_
  replace hf := gx_b2s hf
  obtain ⟨a5, h6, g191, hf⟩ := hf
  refine gx_newarr_byte C g191 q303 dX1_init_15 ?_
  replace hf := gx_bs hf
  obtain ⟨h7, g190, hf⟩ := hf
  refine gx_putvF C hx g190 gz_80 gz_70 (gx_narrow_r rfl _).1 (gx_narrow_r rfl _).2 q884 dX1_init_17 ?_
  refine gx_aload_n C dX1_init_20 0 rfl ?_
  refine gx_iconst (v := -1) C dX1_init_21 rfl ?_
  replace hf := gx_bs hf
  obtain ⟨h8, g189, hf⟩ := hf
  refine gx_putv C g189 gz_81 gz_1 rfl rfl q888 dX1_init_22 ?_
  refine gx_aload_n C dX1_init_25 0 rfl ?_
  replace hf := gx_b2s hf
  obtain ⟨a9, h10, g188, hf⟩ := hf
  refine gx_newN C g188 gz_111 tyX3_ok gx_df10_ok q203 q204 q124 dX1_init_26 rfl ?_
  refine gx_dup C dX1_init_29 rfl ?_
  replace hf := gx_bs hf
  obtain ⟨h12, g11, hf⟩ := hf
  refine gx_callIN (st := [(va_rf (some a9)), (va_rf (some a0))]) C (w_X3_init hlt g11) q205 q206 q124 q207 rfl gz_117 (by decide) rfl rfl (gx_catn (Nat.le_of_ble_eq_true rfl)) dX1_init_30 ?_
  replace hf := gx_bs hf
  obtain ⟨h13, g187, hf⟩ := hf
  refine gx_putv C g187 gz_20 gz_83 (gx_narrow_r rfl _).1 (gx_narrow_r rfl _).2 q892 dX1_init_33 ?_
  refine gx_aload_n C dX1_init_36 0 rfl ?_
  replace hf := gx_b2s hf
  obtain ⟨a14, h15, g186, hf⟩ := hf
  refine gx_newN C g186 gz_13 tyX4_ok gx_df11_ok q587 q588 q144 dX1_init_37 rfl ?_
  refine gx_dup C dX1_init_40 rfl ?_
  replace hf := gx_bs hf
  obtain ⟨h17, g16, hf⟩ := hf
  refine gx_callIN (st := [(va_rf (some a14)), (va_rf (some a0))]) C (w_X4_init hlt g16) q589 q590 q144 q591 rfl gz_116 (by decide) rfl rfl (gx_catn (Nat.le_of_ble_eq_true rfl)) dX1_init_41 ?_
  replace hf := gx_bs hf
  obtain ⟨h18, g185, hf⟩ := hf
  refine gx_putv C g185 gz_85 gz_86 (gx_narrow_r rfl _).1 (gx_narrow_r rfl _).2 q896 dX1_init_44 ?_
  refine gx_aload_n C dX1_init_47 0 rfl ?_
  replace hf := gx_b2s hf
  obtain ⟨a19, h20, g184, hf⟩ := hf
  refine gx_newN C g184 gz_115 tyJ17_ok gx_df3_ok q641 q642 q145 dX1_init_48 rfl ?_
  refine gx_dup C dX1_init_51 rfl ?_
  replace hf := gx_bs hf
  obtain ⟨h22, g21, hf⟩ := hf
  refine gx_callI (st := [(va_rf (some a19)), (va_rf (some a0))]) C (w_J17_init hlt g21) q643 q644 q145 q645 rfl gz_114 (by decide) rfl rfl (gx_catn (Nat.le_of_ble_eq_true rfl)) dX1_init_52 ?_
  replace hf := gx_bs hf
  obtain ⟨h23, g183, hf⟩ := hf
  refine gx_putvF C hx g183 gz_88 gz_89 (gx_narrow_r rfl _).1 (gx_narrow_r rfl _).2 q898 dX1_init_55 ?_
  refine gx_aload_n C dX1_init_58 0 rfl ?_
  refine gx_sipush (v := 10000) C dX1_init_59 rfl ?_
  replace hf := gx_b2s hf
  obtain ⟨a24, h25, g182, hf⟩ := hf
  refine gx_newarr_int C g182 q640 dX1_init_62 ?_
  replace hf := gx_bs hf
  obtain ⟨h26, g181, hf⟩ := hf
  refine gx_putvF C hx g181 gz_90 gz_59 (gx_narrow_r rfl _).1 (gx_narrow_r rfl _).2 q900 dX1_init_64 ?_
  refine gx_aload_n C dX1_init_67 0 rfl ?_
  refine gx_sipush (v := 10000) C dX1_init_68 rfl ?_
  replace hf := gx_b2s hf
  obtain ⟨a27, h28, g180, hf⟩ := hf
  refine gx_newarr_int C g180 q640 dX1_init_71 ?_
  replace hf := gx_bs hf
  obtain ⟨h29, g179, hf⟩ := hf
  refine gx_putvF C hx g179 gz_91 gz_59 (gx_narrow_r rfl _).1 (gx_narrow_r rfl _).2 q902 dX1_init_73 ?_
  refine gx_aload_n C dX1_init_76 0 rfl ?_
  refine gx_sipush (v := 10000) C dX1_init_77 rfl ?_
  replace hf := gx_b2s hf
  obtain ⟨a30, h31, g178, hf⟩ := hf
  refine gx_newarr_int C g178 q640 dX1_init_80 ?_
  replace hf := gx_bs hf
  obtain ⟨h32, g177, hf⟩ := hf
  refine gx_putvF C hx g177 gz_92 gz_59 (gx_narrow_r rfl _).1 (gx_narrow_r rfl _).2 q904 dX1_init_82 ?_
  refine gx_aload_n C dX1_init_85 0 rfl ?_
  replace hf := gx_b2s hf
  obtain ⟨a33, h34, g176, hf⟩ := hf
  refine gx_newN C g176 gz_113 tyJ8_ok gx_df1_ok q658 q272 q133 dX1_init_86 rfl ?_
  refine gx_dup C dX1_init_89 rfl ?_
  replace hf := gx_bs hf
  obtain ⟨h36, g35, hf⟩ := hf
  refine gx_callI (st := [(va_rf (some a33)), (va_rf (some a0))]) C (w_J8_init hlt g35) q659 q274 q133 q275 rfl gz_112 (by decide) rfl rfl (gx_catn (Nat.le_of_ble_eq_true rfl)) dX1_init_90 ?_
  replace hf := gx_bs hf
  obtain ⟨h37, g175, hf⟩ := hf
  refine gx_putvF C hx g175 gz_94 gz_95 (gx_narrow_r rfl _).1 (gx_narrow_r rfl _).2 q909 dX1_init_93 ?_
  refine gx_aload_n C dX1_init_96 0 rfl ?_
  refine gx_iconst (v := 3) C dX1_init_97 rfl ?_
  replace hf := gx_b2s hf
  obtain ⟨a38, h39, g174, hf⟩ := hf
  refine gx_anew C g174 rfl q660 (by decide) dX1_init_98 ?_
  refine gx_dup C dX1_init_101 rfl ?_
  refine gx_iconst (v := 0) C dX1_init_102 rfl ?_
  refine gx_ldcS C 0 rfl dX1_init_103 ?_
  replace hf := gx_bs hf
  obtain ⟨h40, g173, hf⟩ := hf
  refine gx_aast C gz_96 (t := 5) rfl g173 dX1_init_105 ?_
  refine gx_dup C dX1_init_106 rfl ?_
  refine gx_iconst (v := 1) C dX1_init_107 rfl ?_
  refine gx_ldcS C 1 rfl dX1_init_108 ?_
  replace hf := gx_bs hf
  obtain ⟨h41, g172, hf⟩ := hf
  refine gx_aast C gz_96 (t := 5) rfl g172 dX1_init_110 ?_
  refine gx_dup C dX1_init_111 rfl ?_
  refine gx_iconst (v := 2) C dX1_init_112 rfl ?_
  refine gx_ldcS C 2 rfl dX1_init_113 ?_
  replace hf := gx_bs hf
  obtain ⟨h42, g171, hf⟩ := hf
  refine gx_aast C gz_96 (t := 5) rfl g171 dX1_init_115 ?_
  replace hf := gx_bs hf
  obtain ⟨h44, g43, hf⟩ := hf
  refine gx_callV (st := []) C (w_X1_defineStates hlt g43) (is_X1_defineStates g43) gz_108 rfl (lw_V q665 q667 qs1 q121 q668) gz_97 (by decide) rfl rfl (gx_catn (Nat.le_of_ble_eq_true rfl)) dX1_init_116 ?_
  refine gx_aload_n C dX1_init_119 0 rfl ?_
  refine gx_iconst (v := 3) C dX1_init_120 rfl ?_
  replace hf := gx_b2s hf
  obtain ⟨a45, h46, g170, hf⟩ := hf
  refine gx_anew C g170 rfl q660 (by decide) dX1_init_121 ?_
  refine gx_dup C dX1_init_124 rfl ?_
  refine gx_iconst (v := 0) C dX1_init_125 rfl ?_
  refine gx_ldcS C 3 rfl dX1_init_126 ?_
  replace hf := gx_bs hf
  obtain ⟨h47, g169, hf⟩ := hf
  refine gx_aast C gz_96 (t := 5) rfl g169 dX1_init_128 ?_
  refine gx_dup C dX1_init_129 rfl ?_
  refine gx_iconst (v := 1) C dX1_init_130 rfl ?_
  refine gx_ldcS C 4 rfl dX1_init_131 ?_
  replace hf := gx_bs hf
  obtain ⟨h48, g168, hf⟩ := hf
  refine gx_aast C gz_96 (t := 5) rfl g168 dX1_init_133 ?_
  refine gx_dup C dX1_init_134 rfl ?_
  refine gx_iconst (v := 2) C dX1_init_135 rfl ?_
  refine gx_ldcS C 5 rfl dX1_init_136 ?_
  replace hf := gx_bs hf
  obtain ⟨h49, g167, hf⟩ := hf
  refine gx_aast C gz_96 (t := 5) rfl g167 dX1_init_138 ?_
  replace hf := gx_bs hf
  obtain ⟨h51, g50, hf⟩ := hf
  refine gx_callV (st := []) C (w_X1_defineEvents hlt g50) (is_X1_defineEvents g50) gz_108 rfl (lw_V q757 q759 qs5 q121 q760) gz_98 (by decide) rfl rfl (gx_catn (Nat.le_of_ble_eq_true rfl)) dX1_init_139 ?_
  refine gx_aload_n C dX1_init_142 0 rfl ?_
  replace hf := gx_bs hf
  obtain ⟨r52, g166, hf⟩ := hf
  refine gx_gr C g166 gz_20 q892 dX1_init_143 ?_
  refine gx_ldcS C 6 rfl dX1_init_146 ?_
  refine gx_iconst (v := 0) C dX1_init_148 rfl ?_
  replace hf := gx_bs hf
  obtain ⟨a53, rfl, hf⟩ := hf
  replace hf := gx_bs hf
  obtain ⟨h55, g54, hf⟩ := hf
  refine gx_callV (st := []) C (w_X3_addVariable hlt g54) (is_X3_addVariable g54) gz_111 rfl (lw_V q762 q763 q764 q124 q765) gz_99 (by decide) rfl rfl (gx_catn (Nat.le_of_ble_eq_true rfl)) dX1_init_149 ?_
  refine gx_aload_n C dX1_init_152 0 rfl ?_
  replace hf := gx_bs hf
  obtain ⟨r56, g165, hf⟩ := hf
  refine gx_gr C g165 gz_20 q892 dX1_init_153 ?_
  refine gx_ldcS C 7 rfl dX1_init_156 ?_
  refine gx_iconst (v := 3) C dX1_init_158 rfl ?_
  replace hf := gx_bs hf
  obtain ⟨a57, rfl, hf⟩ := hf
  replace hf := gx_bs hf
  obtain ⟨h59, g58, hf⟩ := hf
  refine gx_callV (st := []) C (w_X3_addVariable hlt g58) (is_X3_addVariable g58) gz_111 rfl (lw_V q762 q763 q764 q124 q765) gz_99 (by decide) rfl rfl (gx_catn (Nat.le_of_ble_eq_true rfl)) dX1_init_159 ?_
  refine gx_aload_n C dX1_init_162 0 rfl ?_
  refine gx_iconst (v := 0) C dX1_init_163 rfl ?_
  refine gx_iconst (v := 0) C dX1_init_164 rfl ?_
  refine gx_iconst (v := 1) C dX1_init_165 rfl ?_
  refine gx_null C dX1_init_166 ?_
  replace hf := gx_b2s hf
  obtain ⟨a60, h61, g164, hf⟩ := hf
  refine gx_newN C g164 gz_110 tyX5_ok gx_df12_ok q781 q782 q146 dX1_init_167 rfl ?_
  refine gx_dup C dX1_init_170 rfl ?_
  refine gx_iconst (v := 0) C dX1_init_171 rfl ?_
  refine gx_statk C 6 rfl q783 dX1_init_172 ?_
  refine gx_iconst (v := 1) C dX1_init_175 rfl ?_
  replace hf := gx_bs hf
  obtain ⟨h63, g62, hf⟩ := hf
  refine gx_callI (st := [(va_rf (some a60)), (va_rf none), (.int (1 : Int32)), (.int (0 : Int32)), (.int (0 : Int32)), (va_rf (some a0))]) C (w_X5_init hlt g62) q785 q786 q146 q787 rfl gz_109 (by decide) rfl rfl (by simp only [List.map_cons, List.map_nil, gx_rfcat, gx_cati, List.sum_cons, List.sum_nil]; decide) dX1_init_176 ?_
  refine gx_frz1 (a := a60) ?_
  replace hf := gx_bs hf
  obtain ⟨h65, g64, hf⟩ := hf
  refine gx_callV (st := []) C (w_X1_define hlt g64) (is_X1_define g64) gz_108 rfl (lw_V q799 q801 qs6 q121 q802) gz_101 (by decide) rfl rfl (gx_catn (Nat.le_of_ble_eq_true rfl)) dX1_init_179 ?_
  refine gx_aload_n C dX1_init_182 0 rfl ?_
  refine gx_iconst (v := 1) C dX1_init_183 rfl ?_
  refine gx_iconst (v := 0) C dX1_init_184 rfl ?_
  refine gx_iconst (v := 2) C dX1_init_185 rfl ?_
  replace hf := gx_b2s hf
  obtain ⟨a66, h67, g163, hf⟩ := hf
  refine gx_newN C g163 gz_107 tyX7_ok gx_df14_ok q832 q833 q149 dX1_init_186 rfl ?_
  refine gx_dup C dX1_init_189 rfl ?_
  refine gx_iconst (v := 0) C dX1_init_190 rfl ?_
  refine gx_statk C 5 rfl q834 dX1_init_191 ?_
  refine gx_iconst (v := 2) C dX1_init_194 rfl ?_
  replace hf := gx_bs hf
  obtain ⟨h69, g68, hf⟩ := hf
  refine gx_callI (st := [(va_rf (some a66)), (.int (2 : Int32)), (.int (0 : Int32)), (.int (1 : Int32)), (va_rf (some a0))]) C (w_X7_init hlt g68) q836 q837 q149 q838 rfl gz_106 (by decide) rfl rfl (by simp only [List.map_cons, List.map_nil, gx_rfcat, gx_cati, List.sum_cons, List.sum_nil]; decide) dX1_init_195 ?_
  refine gx_frz1 (a := a66) ?_
  replace hf := gx_b2s hf
  obtain ⟨a70, h71, g162, hf⟩ := hf
  refine gx_newN C g162 gz_110 tyX5_ok gx_df12_ok q781 q782 q146 dX1_init_198 rfl ?_
  refine gx_dup C dX1_init_201 rfl ?_
  refine gx_iconst (v := 0) C dX1_init_202 rfl ?_
  refine gx_statk C 6 rfl q783 dX1_init_203 ?_
  refine gx_iconst (v := 1) C dX1_init_206 rfl ?_
  replace hf := gx_bs hf
  obtain ⟨h73, g72, hf⟩ := hf
  refine gx_callI (st := [(va_rf (some a70)), (va_rf (some a66)), (.int (2 : Int32)), (.int (0 : Int32)), (.int (1 : Int32)), (va_rf (some a0))]) C (w_X5_init hlt g72) q785 q786 q146 q787 rfl gz_109 (by decide) rfl rfl (by simp only [List.map_cons, List.map_nil, gx_rfcat, gx_cati, List.sum_cons, List.sum_nil]; decide) dX1_init_207 ?_
  refine gx_frz1 (a := a70) ?_
  replace hf := gx_bs hf
  obtain ⟨h75, g74, hf⟩ := hf
  refine gx_callV (st := []) C (w_X1_define hlt g74) (is_X1_define g74) gz_108 rfl (lw_V q799 q801 qs6 q121 q802) gz_101 (by decide) rfl rfl (gx_catn (Nat.le_of_ble_eq_true rfl)) dX1_init_210 ?_
  refine gx_aload_n C dX1_init_213 0 rfl ?_
  refine gx_iconst (v := 1) C dX1_init_214 rfl ?_
  refine gx_iconst (v := 0) C dX1_init_215 rfl ?_
  refine gx_iconst (v := 1) C dX1_init_216 rfl ?_
  refine gx_null C dX1_init_217 ?_
  replace hf := gx_b2s hf
  obtain ⟨a76, h77, g161, hf⟩ := hf
  refine gx_newN C g161 gz_110 tyX5_ok gx_df12_ok q781 q782 q146 dX1_init_218 rfl ?_
  refine gx_dup C dX1_init_221 rfl ?_
  refine gx_iconst (v := 0) C dX1_init_222 rfl ?_
  refine gx_statk C 6 rfl q783 dX1_init_223 ?_
  refine gx_iconst (v := 1) C dX1_init_226 rfl ?_
  replace hf := gx_bs hf
  obtain ⟨h79, g78, hf⟩ := hf
  refine gx_callI (st := [(va_rf (some a76)), (va_rf none), (.int (1 : Int32)), (.int (0 : Int32)), (.int (1 : Int32)), (va_rf (some a0))]) C (w_X5_init hlt g78) q785 q786 q146 q787 rfl gz_109 (by decide) rfl rfl (by simp only [List.map_cons, List.map_nil, gx_rfcat, gx_cati, List.sum_cons, List.sum_nil]; decide) dX1_init_227 ?_
  refine gx_frz1 (a := a76) ?_
  replace hf := gx_bs hf
  obtain ⟨h81, g80, hf⟩ := hf
  refine gx_callV (st := []) C (w_X1_define hlt g80) (is_X1_define g80) gz_108 rfl (lw_V q799 q801 qs6 q121 q802) gz_101 (by decide) rfl rfl (gx_catn (Nat.le_of_ble_eq_true rfl)) dX1_init_230 ?_
  refine gx_aload_n C dX1_init_233 0 rfl ?_
  refine gx_iconst (v := 1) C dX1_init_234 rfl ?_
  refine gx_iconst (v := 1) C dX1_init_235 rfl ?_
  refine gx_iconst (v := 0) C dX1_init_236 rfl ?_
  replace hf := gx_b2s hf
  obtain ⟨a82, h83, g160, hf⟩ := hf
  refine gx_newN C g160 gz_107 tyX7_ok gx_df14_ok q832 q833 q149 dX1_init_237 rfl ?_
  refine gx_dup C dX1_init_240 rfl ?_
  refine gx_iconst (v := 0) C dX1_init_241 rfl ?_
  refine gx_statk C 4 rfl q850 dX1_init_242 ?_
  refine gx_iconst (v := 2) C dX1_init_245 rfl ?_
  replace hf := gx_bs hf
  obtain ⟨h85, g84, hf⟩ := hf
  refine gx_callI (st := [(va_rf (some a82)), (.int (0 : Int32)), (.int (1 : Int32)), (.int (1 : Int32)), (va_rf (some a0))]) C (w_X7_init hlt g84) q836 q837 q149 q838 rfl gz_106 (by decide) rfl rfl (by simp only [List.map_cons, List.map_nil, gx_rfcat, gx_cati, List.sum_cons, List.sum_nil]; decide) dX1_init_246 ?_
  refine gx_frz1 (a := a82) ?_
  replace hf := gx_b2s hf
  obtain ⟨a86, h87, g159, hf⟩ := hf
  refine gx_newN C g159 gz_110 tyX5_ok gx_df12_ok q781 q782 q146 dX1_init_249 rfl ?_
  refine gx_dup C dX1_init_252 rfl ?_
  refine gx_iconst (v := 1) C dX1_init_253 rfl ?_
  refine gx_statk C 7 rfl q852 dX1_init_254 ?_
  refine gx_iconst (v := 1) C dX1_init_257 rfl ?_
  replace hf := gx_bs hf
  obtain ⟨h89, g88, hf⟩ := hf
  refine gx_callI (st := [(va_rf (some a86)), (va_rf (some a82)), (.int (0 : Int32)), (.int (1 : Int32)), (.int (1 : Int32)), (va_rf (some a0))]) C (w_X5_init hlt g88) q785 q786 q146 q787 rfl gz_109 (by decide) rfl rfl (by simp only [List.map_cons, List.map_nil, gx_rfcat, gx_cati, List.sum_cons, List.sum_nil]; decide) dX1_init_258 ?_
  refine gx_frz1 (a := a86) ?_
  replace hf := gx_bs hf
  obtain ⟨h91, g90, hf⟩ := hf
  refine gx_callV (st := []) C (w_X1_define hlt g90) (is_X1_define g90) gz_108 rfl (lw_V q799 q801 qs6 q121 q802) gz_101 (by decide) rfl rfl (gx_catn (Nat.le_of_ble_eq_true rfl)) dX1_init_261 ?_
  refine gx_aload_n C dX1_init_264 0 rfl ?_
  refine gx_iconst (v := 2) C dX1_init_265 rfl ?_
  refine gx_iconst (v := 1) C dX1_init_266 rfl ?_
  refine gx_iconst (v := 0) C dX1_init_267 rfl ?_
  refine gx_null C dX1_init_268 ?_
  replace hf := gx_b2s hf
  obtain ⟨a92, h93, g158, hf⟩ := hf
  refine gx_newN C g158 gz_110 tyX5_ok gx_df12_ok q781 q782 q146 dX1_init_269 rfl ?_
  refine gx_dup C dX1_init_272 rfl ?_
  refine gx_iconst (v := 0) C dX1_init_273 rfl ?_
  refine gx_statk C 8 rfl q854 dX1_init_274 ?_
  refine gx_iconst (v := 0) C dX1_init_277 rfl ?_
  replace hf := gx_bs hf
  obtain ⟨h95, g94, hf⟩ := hf
  refine gx_callI (st := [(va_rf (some a92)), (va_rf none), (.int (0 : Int32)), (.int (1 : Int32)), (.int (2 : Int32)), (va_rf (some a0))]) C (w_X5_init hlt g94) q785 q786 q146 q787 rfl gz_109 (by decide) rfl rfl (by simp only [List.map_cons, List.map_nil, gx_rfcat, gx_cati, List.sum_cons, List.sum_nil]; decide) dX1_init_278 ?_
  refine gx_frz1 (a := a92) ?_
  replace hf := gx_bs hf
  obtain ⟨h97, g96, hf⟩ := hf
  refine gx_callV (st := []) C (w_X1_define hlt g96) (is_X1_define g96) gz_108 rfl (lw_V q799 q801 qs6 q121 q802) gz_101 (by decide) rfl rfl (gx_catn (Nat.le_of_ble_eq_true rfl)) dX1_init_281 ?_
  refine gx_aload_n C dX1_init_284 0 rfl ?_
  refine gx_iconst (v := 0) C dX1_init_285 rfl ?_
  refine gx_iconst (v := 2) C dX1_init_286 rfl ?_
  refine gx_iconst (v := 0) C dX1_init_287 rfl ?_
  refine gx_null C dX1_init_288 ?_
  replace hf := gx_b2s hf
  obtain ⟨a98, h99, g157, hf⟩ := hf
  refine gx_newN C g157 gz_110 tyX5_ok gx_df12_ok q781 q782 q146 dX1_init_289 rfl ?_
  refine gx_dup C dX1_init_292 rfl ?_
  refine gx_iconst (v := 0) C dX1_init_293 rfl ?_
  refine gx_statk C 7 rfl q852 dX1_init_294 ?_
  refine gx_iconst (v := 1) C dX1_init_297 rfl ?_
  replace hf := gx_bs hf
  obtain ⟨h101, g100, hf⟩ := hf
  refine gx_callI (st := [(va_rf (some a98)), (va_rf none), (.int (0 : Int32)), (.int (2 : Int32)), (.int (0 : Int32)), (va_rf (some a0))]) C (w_X5_init hlt g100) q785 q786 q146 q787 rfl gz_109 (by decide) rfl rfl (by simp only [List.map_cons, List.map_nil, gx_rfcat, gx_cati, List.sum_cons, List.sum_nil]; decide) dX1_init_298 ?_
  refine gx_frz1 (a := a98) ?_
  replace hf := gx_bs hf
  obtain ⟨h103, g102, hf⟩ := hf
  refine gx_callV (st := []) C (w_X1_define hlt g102) (is_X1_define g102) gz_108 rfl (lw_V q799 q801 qs6 q121 q802) gz_101 (by decide) rfl rfl (gx_catn (Nat.le_of_ble_eq_true rfl)) dX1_init_301 ?_
  refine gx_aload_n C dX1_init_304 0 rfl ?_
  replace hf := gx_bs hf
  obtain ⟨r104, g156, hf⟩ := hf
  refine gx_gr C g156 gz_85 q896 dX1_init_305 ?_
  replace hf := gx_bs hf
  obtain ⟨a105, rfl, hf⟩ := hf
  replace hf := gx_bs hf
  obtain ⟨r106, g155, hf⟩ := hf
  refine gx_grN C g155 gz_57 q596 dX1_init_308 ?_
  replace hf := gx_b2s hf
  obtain ⟨a107, h108, g154, hf⟩ := hf
  refine gx_newN C g154 gz_11 tyX8_ok gx_df15_ok q856 q857 q150 dX1_init_311 rfl ?_
  refine gx_dup C dX1_init_314 rfl ?_
  refine gx_iconst (v := -1) C dX1_init_315 rfl ?_
  replace hf := gx_b2s hf
  obtain ⟨a109, h110, g153, hf⟩ := hf
  refine gx_newN C g153 gz_107 tyX7_ok gx_df14_ok q832 q833 q149 dX1_init_316 rfl ?_
  refine gx_dup C dX1_init_319 rfl ?_
  refine gx_iconst (v := 0) C dX1_init_320 rfl ?_
  refine gx_statk C 1 rfl q858 dX1_init_321 ?_
  refine gx_iconst (v := 5) C dX1_init_324 rfl ?_
  replace hf := gx_bs hf
  obtain ⟨h112, g111, hf⟩ := hf
  refine gx_callI (st := [(va_rf (some a109)), (.int (-1 : Int32)), (va_rf (some a107)), (va_rf (some a107)), (va_rf r106)]) C (w_X7_init hlt g111) q836 q837 q149 q838 rfl gz_106 (by decide) rfl rfl (by simp only [List.map_cons, List.map_nil, gx_rfcat, gx_cati, List.sum_cons, List.sum_nil]; decide) dX1_init_325 ?_
  refine gx_frz1 (a := a109) ?_
  replace hf := gx_bs hf
  obtain ⟨h114, g113, hf⟩ := hf
  refine gx_callI (st := [(va_rf (some a107)), (va_rf r106)]) C (w_X8_init hlt g113) q860 q861 q150 q862 rfl gz_105 (by decide) rfl rfl (gx_catn (Nat.le_of_ble_eq_true rfl)) dX1_init_328 ?_
  refine gx_frz1 (a := a107) ?_
  replace hf := gx_bs hf
  obtain ⟨a115, rfl, hf⟩ := hf
  replace hf := gx_b2s hf
  obtain ⟨b117, h118, g116, hf⟩ := hf
  refine gx_callF (st := []) C (w_J2_add hlt g116) (is_J2_add g116) q670 (gx_cis1 gz_19 ⟨gz_24, q674⟩ gx_cis0) q676 q127 q678 gz_23 (by decide) rfl rfl (gx_catn (Nat.le_of_ble_eq_true rfl)) dX1_init_331 ?_
  refine gx_istn C dX1_init_336 1 rfl (by decide) [0]  rfl (gx_okr rfl gx_catv_r gx_ok0) ?_
  refine gx_aload_n C dX1_init_337 1 rfl ?_
  replace hf := gx_bs hf
  obtain ⟨r119, g152, hf⟩ := hf
  refine gx_gr C g152 gz_85 q896 dX1_init_338 ?_
  replace hf := gx_bs hf
  obtain ⟨a120, rfl, hf⟩ := hf
  replace hf := gx_bs hf
  obtain ⟨r121, g151, hf⟩ := hf
  refine gx_grN C g151 gz_57 q596 dX1_init_341 ?_
  replace hf := gx_b2s hf
  obtain ⟨a122, h123, g150, hf⟩ := hf
  refine gx_newN C g150 gz_11 tyX8_ok gx_df15_ok q856 q857 q150 dX1_init_344 rfl ?_
  refine gx_dup C dX1_init_347 rfl ?_
  refine gx_iconst (v := 0) C dX1_init_348 rfl ?_
  replace hf := gx_b2s hf
  obtain ⟨a124, h125, g149, hf⟩ := hf
  refine gx_newN C g149 gz_107 tyX7_ok gx_df14_ok q832 q833 q149 dX1_init_349 rfl ?_
  refine gx_dup C dX1_init_352 rfl ?_
  refine gx_iconst (v := 1) C dX1_init_353 rfl ?_
  refine gx_statk C 4 rfl q850 dX1_init_354 ?_
  refine gx_iconst (v := 1) C dX1_init_357 rfl ?_
  replace hf := gx_bs hf
  obtain ⟨h127, g126, hf⟩ := hf
  refine gx_callI (st := [(va_rf (some a124)), (.int (0 : Int32)), (va_rf (some a122)), (va_rf (some a122)), (va_rf r121)]) C (w_X7_init hlt g126) q836 q837 q149 q838 rfl gz_106 (by decide) rfl rfl (by simp only [List.map_cons, List.map_nil, gx_rfcat, gx_cati, List.sum_cons, List.sum_nil]; decide) dX1_init_358 ?_
  refine gx_frz1 (a := a124) ?_
  replace hf := gx_bs hf
  obtain ⟨h129, g128, hf⟩ := hf
  refine gx_callI (st := [(va_rf (some a122)), (va_rf r121)]) C (w_X8_init hlt g128) q860 q861 q150 q862 rfl gz_105 (by decide) rfl rfl (gx_catn (Nat.le_of_ble_eq_true rfl)) dX1_init_361 ?_
  refine gx_frz1 (a := a122) ?_
  replace hf := gx_bs hf
  obtain ⟨a130, rfl, hf⟩ := hf
  replace hf := gx_b2s hf
  obtain ⟨b132, h133, g131, hf⟩ := hf
  refine gx_callF (st := []) C (w_J2_add hlt g131) (is_J2_add g131) q670 (gx_cis1 gz_19 ⟨gz_24, q674⟩ gx_cis0) q676 q127 q678 gz_23 (by decide) rfl rfl (gx_catn (Nat.le_of_ble_eq_true rfl)) dX1_init_364 ?_
  refine gx_istn C dX1_init_369 2 rfl (by decide) [1]  rfl (gx_okn rfl rfl gx_ok0) ?_
  refine gx_aload_n C dX1_init_370 1 rfl ?_
  replace hf := gx_bs hf
  obtain ⟨r134, g148, hf⟩ := hf
  refine gx_gr C g148 gz_85 q896 dX1_init_371 ?_
  refine gx_aload_n C dX1_init_374 1 rfl ?_
  replace hf := gx_bs hf
  obtain ⟨r135, g147, hf⟩ := hf
  refine gx_gr C g147 gz_20 q892 dX1_init_375 ?_
  replace hf := gx_bs hf
  obtain ⟨a136, rfl, hf⟩ := hf
  replace hf := gx_bs hf
  obtain ⟨x137, g146, hf⟩ := hf
  refine gx_giN C g146 gz_49 q574 dX1_init_378 ?_
  replace hf := gx_bs hf
  obtain ⟨a138, rfl, hf⟩ := hf
  replace hf := gx_bs hf
  obtain ⟨h139, g145, hf⟩ := hf
  refine gx_putvN C g145 gz_65 gz_1 rfl rfl q614 dX1_init_381 ?_
  refine gx_aload_n C dX1_init_384 1 rfl ?_
  replace hf := gx_bs hf
  obtain ⟨r140, g144, hf⟩ := hf
  refine gx_gr C g144 gz_85 q896 dX1_init_385 ?_
  replace hf := gx_bs hf
  obtain ⟨a141, rfl, hf⟩ := hf
  replace hf := gx_bs hf
  obtain ⟨h143, g142, hf⟩ := hf
  refine gx_callV (st := []) C (w_X4_clear hlt g142) (is_X4_clear g142) gz_13 rfl (lw_V q873 q874 q875 q144 q876) gz_104 (by decide) rfl rfl (gx_catn (Nat.le_of_ble_eq_true rfl)) dX1_init_388 ?_
  obtain rfl := Option.some.inj hf
  exact gx_vret C dX1_init_391
theorem le_X1_init {D : gx_D} {hz : HX} {h : HX} {a0 : Nat} (hf : f_X1_init D h a0 = some hz) : gx_le h hz := by
  unfold f_X1_init at hf
  replace hf := gx_b2s hf
  obtain ⟨r2, h3, g1, hf⟩ := hf
  refine (le_X2_values g1).tr ?_
  replace hf := gx_bs hf
  obtain ⟨h4, g192, hf⟩ := hf
  refine (hx_le_pv g192).tr ?_
  replace hf := gx_b2s hf
  obtain ⟨a5, h6, g191, hf⟩ := hf
  refine (hx_le_newa g191).tr ?_
  replace hf := gx_bs hf
  obtain ⟨h7, g190, hf⟩ := hf
  refine (hx_le_pv g190).tr ?_
  replace hf := gx_bs hf
  obtain ⟨h8, g189, hf⟩ := hf
  refine (hx_le_pv g189).tr ?_
  replace hf := gx_b2s hf
  obtain ⟨a9, h10, g188, hf⟩ := hf
  refine (hx_le_new g188).tr ?_
  replace hf := gx_bs hf
  obtain ⟨h12, g11, hf⟩ := hf
  refine (le_X3_init g11).tr ?_
  replace hf := gx_bs hf
  obtain ⟨h13, g187, hf⟩ := hf
  refine (hx_le_pv g187).tr ?_
  replace hf := gx_b2s hf
  obtain ⟨a14, h15, g186, hf⟩ := hf
  refine (hx_le_new g186).tr ?_
  replace hf := gx_bs hf
  obtain ⟨h17, g16, hf⟩ := hf
  refine (le_X4_init g16).tr ?_
  replace hf := gx_bs hf
  obtain ⟨h18, g185, hf⟩ := hf
  refine (hx_le_pv g185).tr ?_
  replace hf := gx_b2s hf
  obtain ⟨a19, h20, g184, hf⟩ := hf
  refine (hx_le_new g184).tr ?_
  replace hf := gx_bs hf
  obtain ⟨h22, g21, hf⟩ := hf
  refine (le_J17_init g21).tr ?_
  replace hf := gx_bs hf
  obtain ⟨h23, g183, hf⟩ := hf
  refine (hx_le_pv g183).tr ?_
  replace hf := gx_b2s hf
  obtain ⟨a24, h25, g182, hf⟩ := hf
  refine (hx_le_newa g182).tr ?_
  replace hf := gx_bs hf
  obtain ⟨h26, g181, hf⟩ := hf
  refine (hx_le_pv g181).tr ?_
  replace hf := gx_b2s hf
  obtain ⟨a27, h28, g180, hf⟩ := hf
  refine (hx_le_newa g180).tr ?_
  replace hf := gx_bs hf
  obtain ⟨h29, g179, hf⟩ := hf
  refine (hx_le_pv g179).tr ?_
  replace hf := gx_b2s hf
  obtain ⟨a30, h31, g178, hf⟩ := hf
  refine (hx_le_newa g178).tr ?_
  replace hf := gx_bs hf
  obtain ⟨h32, g177, hf⟩ := hf
  refine (hx_le_pv g177).tr ?_
  replace hf := gx_b2s hf
  obtain ⟨a33, h34, g176, hf⟩ := hf
  refine (hx_le_new g176).tr ?_
  replace hf := gx_bs hf
  obtain ⟨h36, g35, hf⟩ := hf
  refine (le_J8_init g35).tr ?_
  replace hf := gx_bs hf
  obtain ⟨h37, g175, hf⟩ := hf
  refine (hx_le_pv g175).tr ?_
  replace hf := gx_b2s hf
  obtain ⟨a38, h39, g174, hf⟩ := hf
  refine (hx_le_newa g174).tr ?_
  replace hf := gx_bs hf
  obtain ⟨h40, g173, hf⟩ := hf
  refine (hx_le_sr g173).tr ?_
  replace hf := gx_bs hf
  obtain ⟨h41, g172, hf⟩ := hf
  refine (hx_le_sr g172).tr ?_
  replace hf := gx_bs hf
  obtain ⟨h42, g171, hf⟩ := hf
  refine (hx_le_sr g171).tr ?_
  replace hf := gx_bs hf
  obtain ⟨h44, g43, hf⟩ := hf
  refine (le_X1_defineStates g43).tr ?_
  replace hf := gx_b2s hf
  obtain ⟨a45, h46, g170, hf⟩ := hf
  refine (hx_le_newa g170).tr ?_
  replace hf := gx_bs hf
  obtain ⟨h47, g169, hf⟩ := hf
  refine (hx_le_sr g169).tr ?_
  replace hf := gx_bs hf
  obtain ⟨h48, g168, hf⟩ := hf
  refine (hx_le_sr g168).tr ?_
  replace hf := gx_bs hf
  obtain ⟨h49, g167, hf⟩ := hf
  refine (hx_le_sr g167).tr ?_
  replace hf := gx_bs hf
  obtain ⟨h51, g50, hf⟩ := hf
  refine (le_X1_defineEvents g50).tr ?_
  replace hf := gx_bs hf
  obtain ⟨r52, g166, hf⟩ := hf
  replace hf := gx_bs hf
  obtain ⟨a53, rfl, hf⟩ := hf
  replace hf := gx_bs hf
  obtain ⟨h55, g54, hf⟩ := hf
  refine (le_X3_addVariable g54).tr ?_
  replace hf := gx_bs hf
  obtain ⟨r56, g165, hf⟩ := hf
  replace hf := gx_bs hf
  obtain ⟨a57, rfl, hf⟩ := hf
  replace hf := gx_bs hf
  obtain ⟨h59, g58, hf⟩ := hf
  refine (le_X3_addVariable g58).tr ?_
  replace hf := gx_b2s hf
  obtain ⟨a60, h61, g164, hf⟩ := hf
  refine (hx_le_new g164).tr ?_
  replace hf := gx_bs hf
  obtain ⟨h63, g62, hf⟩ := hf
  refine (le_X5_init g62).tr ?_
  refine (gx_le.frz1 (a := a60)).tr ?_
  replace hf := gx_bs hf
  obtain ⟨h65, g64, hf⟩ := hf
  refine (le_X1_define g64).tr ?_
  replace hf := gx_b2s hf
  obtain ⟨a66, h67, g163, hf⟩ := hf
  refine (hx_le_new g163).tr ?_
  replace hf := gx_bs hf
  obtain ⟨h69, g68, hf⟩ := hf
  refine (le_X7_init g68).tr ?_
  refine (gx_le.frz1 (a := a66)).tr ?_
  replace hf := gx_b2s hf
  obtain ⟨a70, h71, g162, hf⟩ := hf
  refine (hx_le_new g162).tr ?_
  replace hf := gx_bs hf
  obtain ⟨h73, g72, hf⟩ := hf
  refine (le_X5_init g72).tr ?_
  refine (gx_le.frz1 (a := a70)).tr ?_
  replace hf := gx_bs hf
  obtain ⟨h75, g74, hf⟩ := hf
  refine (le_X1_define g74).tr ?_
  replace hf := gx_b2s hf
  obtain ⟨a76, h77, g161, hf⟩ := hf
  refine (hx_le_new g161).tr ?_
  replace hf := gx_bs hf
  obtain ⟨h79, g78, hf⟩ := hf
  refine (le_X5_init g78).tr ?_
  refine (gx_le.frz1 (a := a76)).tr ?_
  replace hf := gx_bs hf
  obtain ⟨h81, g80, hf⟩ := hf
  refine (le_X1_define g80).tr ?_
  replace hf := gx_b2s hf
  obtain ⟨a82, h83, g160, hf⟩ := hf
  refine (hx_le_new g160).tr ?_
  replace hf := gx_bs hf
  obtain ⟨h85, g84, hf⟩ := hf
  refine (le_X7_init g84).tr ?_
  refine (gx_le.frz1 (a := a82)).tr ?_
  replace hf := gx_b2s hf
  obtain ⟨a86, h87, g159, hf⟩ := hf
  refine (hx_le_new g159).tr ?_
  replace hf := gx_bs hf
  obtain ⟨h89, g88, hf⟩ := hf
  refine (le_X5_init g88).tr ?_
  refine (gx_le.frz1 (a := a86)).tr ?_
  replace hf := gx_bs hf
  obtain ⟨h91, g90, hf⟩ := hf
  refine (le_X1_define g90).tr ?_
  replace hf := gx_b2s hf
  obtain ⟨a92, h93, g158, hf⟩ := hf
  refine (hx_le_new g158).tr ?_
  replace hf := gx_bs hf
  obtain ⟨h95, g94, hf⟩ := hf
  refine (le_X5_init g94).tr ?_
  refine (gx_le.frz1 (a := a92)).tr ?_
  replace hf := gx_bs hf
  obtain ⟨h97, g96, hf⟩ := hf
  refine (le_X1_define g96).tr ?_
  replace hf := gx_b2s hf
  obtain ⟨a98, h99, g157, hf⟩ := hf
  refine (hx_le_new g157).tr ?_
  replace hf := gx_bs hf
  obtain ⟨h101, g100, hf⟩ := hf
  refine (le_X5_init g100).tr ?_
  refine (gx_le.frz1 (a := a98)).tr ?_
  replace hf := gx_bs hf
  obtain ⟨h103, g102, hf⟩ := hf
  refine (le_X1_define g102).tr ?_
  replace hf := gx_bs hf
  obtain ⟨r104, g156, hf⟩ := hf
  replace hf := gx_bs hf
  obtain ⟨a105, rfl, hf⟩ := hf
  replace hf := gx_bs hf
  obtain ⟨r106, g155, hf⟩ := hf
  replace hf := gx_b2s hf
  obtain ⟨a107, h108, g154, hf⟩ := hf
  refine (hx_le_new g154).tr ?_
  replace hf := gx_b2s hf
  obtain ⟨a109, h110, g153, hf⟩ := hf
  refine (hx_le_new g153).tr ?_
  replace hf := gx_bs hf
  obtain ⟨h112, g111, hf⟩ := hf
  refine (le_X7_init g111).tr ?_
  refine (gx_le.frz1 (a := a109)).tr ?_
  replace hf := gx_bs hf
  obtain ⟨h114, g113, hf⟩ := hf
  refine (le_X8_init g113).tr ?_
  refine (gx_le.frz1 (a := a107)).tr ?_
  replace hf := gx_bs hf
  obtain ⟨a115, rfl, hf⟩ := hf
  replace hf := gx_b2s hf
  obtain ⟨b117, h118, g116, hf⟩ := hf
  refine (le_J2_add g116).tr ?_
  replace hf := gx_bs hf
  obtain ⟨r119, g152, hf⟩ := hf
  replace hf := gx_bs hf
  obtain ⟨a120, rfl, hf⟩ := hf
  replace hf := gx_bs hf
  obtain ⟨r121, g151, hf⟩ := hf
  replace hf := gx_b2s hf
  obtain ⟨a122, h123, g150, hf⟩ := hf
  refine (hx_le_new g150).tr ?_
  replace hf := gx_b2s hf
  obtain ⟨a124, h125, g149, hf⟩ := hf
  refine (hx_le_new g149).tr ?_
  replace hf := gx_bs hf
  obtain ⟨h127, g126, hf⟩ := hf
  refine (le_X7_init g126).tr ?_
  refine (gx_le.frz1 (a := a124)).tr ?_
  replace hf := gx_bs hf
  obtain ⟨h129, g128, hf⟩ := hf
  refine (le_X8_init g128).tr ?_
  refine (gx_le.frz1 (a := a122)).tr ?_
  replace hf := gx_bs hf
  obtain ⟨a130, rfl, hf⟩ := hf
  replace hf := gx_b2s hf
  obtain ⟨b132, h133, g131, hf⟩ := hf
  refine (le_J2_add g131).tr ?_
  replace hf := gx_bs hf
  obtain ⟨r134, g148, hf⟩ := hf
  replace hf := gx_bs hf
  obtain ⟨r135, g147, hf⟩ := hf
  replace hf := gx_bs hf
  obtain ⟨a136, rfl, hf⟩ := hf
  replace hf := gx_bs hf
  obtain ⟨x137, g146, hf⟩ := hf
  replace hf := gx_bs hf
  obtain ⟨a138, rfl, hf⟩ := hf
  replace hf := gx_bs hf
  obtain ⟨h139, g145, hf⟩ := hf
  refine (hx_le_pv g145).tr ?_
  replace hf := gx_bs hf
  obtain ⟨r140, g144, hf⟩ := hf
  replace hf := gx_bs hf
  obtain ⟨a141, rfl, hf⟩ := hf
  replace hf := gx_bs hf
  obtain ⟨h143, g142, hf⟩ := hf
  refine (le_X4_clear g142).tr ?_
  obtain rfl := Option.some.inj hf
  exact gx_le.rf
theorem w_X1_init {l : Launch} (hlt : l.stackTraces = false) {D : gx_D} {h : HX} {a0 : Nat} {hz : HX} (hf : f_X1_init D h a0 = some hz) : gx_Met l yX1_init cX1_init 3 none 5 105 D [(va_rf (some a0))] h none hz :=
  gx_ofG gz_26 (by simp only [gx_lsr, gx_lsi, gx_lsj, gx_ls0]; decide) (le_X1_init hf) (fun p e R s m args below meth c C hx => by
    simp only [gx_lar, gx_lai, gx_laj, gx_la0, Nat.reduceAdd]
    exact w_X1_init_b hlt C hx hf)
def f_X1_append_b3 (D : gx_D) : Nat → HX → Nat → Int32 → Int32 → Option HX
  | 0, _, _, _, _ => none
  | n + 1, h, v0, v1, v2 =>
  if v2 < 0 then
  some h
  else
  (hx_gr h v0 [9] 1).bind fun r2 =>
  (hx_gi h v0 [9] 2).bind fun x3 =>
  r2.bind fun a4 =>
  (hx_sb h a4 x3 ((Int32.toInt8 (v1 >>> (v2 &&& 31))).toInt32)).bind fun h5 =>
  (hx_gi h5 v0 [9] 2).bind fun x6 =>
  (hx_pi h5 v0 [9] 2 (x6 + (1 : Int32))).bind fun h7 =>
  (f_X1_append_b3 D n) h7 v0 v1 ((v2 + (-8 : Int32)))
theorem w_X1_append_b3 {l : Launch} (hlt : l.stackTraces = false) {p : Program} {e : Env} {R : Room} {s : State} {m : MethodId} {args : Array Value} {below : List Frame} {meth : Method} {c : Code} {D : gx_D} {h0 : HX} {hz : HX} (C : gx_Ctx p R s m args meth c "ContractMachine" cX1_append 3 none 1 24 D h0 hz) (hx : meth.name = "append")  : ∀ (n : Nat) ⦃h : HX⦄ ⦃v0 : Nat⦄ ⦃v1 : Int32⦄ ⦃v2 : Int32⦄, f_X1_append_b3 D n h v0 v1 v2 = some hz → gx_G p l e R s m args below meth c D h0 hz 3 (gx_MQ below args s D h0 hz none) 3 [(0, (va_rf (some v0))), (1, (.int v1)), (2, (.int v2))] [] h := by
  intro n
  induction n with
  | zero => intro h v0 v1 v2 hf; unfold f_X1_append_b3 at hf; cases hf
  | succ n wk3 =>
    intro h v0 v1 v2 hf
    unfold f_X1_append_b3 at hf
    refine gx_iload_n C dX1_append_3 2 rfl ?_
    replace hf := gx_ite hf
    rcases hf with ⟨c1, hf⟩ | ⟨c1, hf⟩
    · refine gx_if_lt_t (tgt := 36) C dX1_append_4 rfl c1 ?_
      obtain rfl := Option.some.inj hf
      exact gx_vret C dX1_append_36
    · refine gx_if_lt_f (tgt := 36) C dX1_append_4 rfl c1 ?_
      refine gx_aload_n C dX1_append_7 0 rfl ?_
      replace hf := gx_bs hf
      obtain ⟨r2, g12, hf⟩ := hf
      refine gx_gr C g12 gz_80 q884 dX1_append_8 ?_
      refine gx_aload_n C dX1_append_11 0 rfl ?_
      replace hf := gx_bs hf
      obtain ⟨x3, g11, hf⟩ := hf
      refine gx_gi C g11 gz_119 q886 dX1_append_12 ?_
      refine gx_iload_n C dX1_append_15 1 rfl ?_
      refine gx_iload_n C dX1_append_16 2 rfl ?_
      refine gx_ishr C dX1_append_17 ?_
      refine gx_i2b C dX1_append_18 ?_
      replace hf := gx_bs hf
      obtain ⟨a4, rfl, hf⟩ := hf
      replace hf := gx_bs hf
      obtain ⟨h5, g10, hf⟩ := hf
      refine gx_bast C g10 dX1_append_19 ?_
      refine gx_aload_n C dX1_append_20 0 rfl ?_
      refine gx_dup C dX1_append_21 rfl ?_
      replace hf := gx_bs hf
      obtain ⟨x6, g9, hf⟩ := hf
      refine gx_gi C g9 gz_119 q886 dX1_append_22 ?_
      refine gx_iconst (v := 1) C dX1_append_25 rfl ?_
      refine gx_iadd C dX1_append_26 ?_
      replace hf := gx_bs hf
      obtain ⟨h7, g8, hf⟩ := hf
      refine gx_putv C g8 gz_119 gz_1 rfl rfl q886 dX1_append_27 ?_
      refine gx_inc (v := -8) C dX1_append_30 2 rfl rfl (by decide) [0, 1] rfl (gx_okn rfl rfl (gx_okr rfl gx_catv_i gx_ok0)) ?_
      refine gx_goto (tgt := 3) C dX1_append_33 rfl ?_
      refine gx_sub [1, 2, 0] rfl ?_
      exact wk3 hf
theorem le_X1_append_b3 {D : gx_D} {hz : HX} : ∀ (n : Nat) ⦃h : HX⦄ ⦃v0 : Nat⦄ ⦃v1 : Int32⦄ ⦃v2 : Int32⦄, f_X1_append_b3 D n h v0 v1 v2 = some hz → gx_le h hz := by
  intro n
  induction n with
  | zero => intro h v0 v1 v2 hf; unfold f_X1_append_b3 at hf; cases hf
  | succ n lek3 =>
    intro h v0 v1 v2 hf
    unfold f_X1_append_b3 at hf
    replace hf := gx_ite hf
    rcases hf with ⟨c1, hf⟩ | ⟨c1, hf⟩
    · obtain rfl := Option.some.inj hf
      exact gx_le.rf
    · replace hf := gx_bs hf
      obtain ⟨r2, g12, hf⟩ := hf
      replace hf := gx_bs hf
      obtain ⟨x3, g11, hf⟩ := hf
      replace hf := gx_bs hf
      obtain ⟨a4, rfl, hf⟩ := hf
      replace hf := gx_bs hf
      obtain ⟨h5, g10, hf⟩ := hf
      refine (hx_le_sb g10).tr ?_
      replace hf := gx_bs hf
      obtain ⟨x6, g9, hf⟩ := hf
      replace hf := gx_bs hf
      obtain ⟨h7, g8, hf⟩ := hf
      refine (hx_le_pv g8).tr ?_
      exact lek3 hf
def f_X1_append (D : gx_D) (h : HX) (a0 : Nat) (p1 : Int32) : Option HX :=
  (hx_is h a0 [9]).bind fun _ =>
  f_X1_append_b3 D gx_fuel h a0 p1 ((24 : Int32))
theorem is_X1_append {D : gx_D} {h : HX} {a0 : Nat} {p1 : Int32} {z} (hf : f_X1_append D h a0 p1 = some z) : gx_isC h a0 [9] := by
  unfold f_X1_append at hf
  obtain ⟨_, g, -⟩ := gx_bs hf
  exact hx_is_of g
theorem w_X1_append_b {l : Launch} (hlt : l.stackTraces = false) {p : Program} {e : Env} {R : Room} {s : State} {m : MethodId} {args : Array Value} {below : List Frame} {meth : Method} {c : Code} {D : gx_D} {h0 : HX} {hz : HX} (C : gx_Ctx p R s m args meth c "ContractMachine" cX1_append 3 none 1 24 D h0 hz) (hx : meth.name = "append") {a0 : Nat} {p1 : Int32} (hf : f_X1_append D h0 a0 p1 = some hz) : gx_G p l e R s m args below meth c D h0 hz 3 (gx_MQ below args s D h0 hz none) 0 [(0, (va_rf (some a0))), (1, (.int p1))] [] h0 := by
  unfold f_X1_append at hf
  replace hf := gx_bs hf
  obtain ⟨_, -, hf⟩ := hf
  refine gx_bipush (v := 24) C dX1_append_0 rfl ?_
  refine gx_istn C dX1_append_2 2 rfl (by decide) [0, 1]  rfl (gx_okn rfl rfl (gx_okr rfl gx_catv_i gx_ok0)) ?_
  refine gx_sub [1, 2, 0] rfl ?_
  exact w_X1_append_b3 hlt C hx gx_fuel hf
theorem le_X1_append {D : gx_D} {hz : HX} {h : HX} {a0 : Nat} {p1 : Int32} (hf : f_X1_append D h a0 p1 = some hz) : gx_le h hz := by
  unfold f_X1_append at hf
  replace hf := gx_bs hf
  obtain ⟨_, -, hf⟩ := hf
  exact le_X1_append_b3 gx_fuel hf
theorem w_X1_append {l : Launch} (hlt : l.stackTraces = false) {D : gx_D} {h : HX} {a0 : Nat} {p1 : Int32} {hz : HX} (hf : f_X1_append D h a0 p1 = some hz) : gx_Met l yX1_append cX1_append 3 none 1 24 D [(va_rf (some a0)), (.int p1)] h none hz :=
  gx_ofG gz_26 (by simp only [gx_lsr, gx_lsi, gx_lsj, gx_ls0]; decide) (le_X1_append hf) (fun p e R s m args below meth c C hx => by
    simp only [gx_lar, gx_lai, gx_laj, gx_la0, Nat.reduceAdd]
    exact w_X1_append_b hlt C hx hf)
def f_X1_appendInput (D : gx_D) (h : HX) (a0 : Nat) (p1 : Int32) (p2 : Int32) (p3 : Int32) (p4 : Int32) (p5 : Int32) : Option ((Int32) × HX) :=
  (hx_is h a0 [9]).bind fun _ =>
  (hx_gi h a0 [9] 2).bind fun x1 =>
  if (x1 + (20 : Int32)) ≤ (700 : Int32) then
  (f_X1_append D h a0 p1).bind fun h4 =>
  (f_X1_append D h4 a0 p2).bind fun h6 =>
  (f_X1_append D h6 a0 p3).bind fun h8 =>
  (f_X1_append D h8 a0 p4).bind fun h10 =>
  (f_X1_append D h10 a0 p5).bind fun h12 =>
  (hx_gi h12 a0 [9] 2).bind fun x13 =>
  some (x13, h12)
  else
  some ((-1 : Int32), h)
theorem is_X1_appendInput {D : gx_D} {h : HX} {a0 : Nat} {p1 : Int32} {p2 : Int32} {p3 : Int32} {p4 : Int32} {p5 : Int32} {z} (hf : f_X1_appendInput D h a0 p1 p2 p3 p4 p5 = some z) : gx_isC h a0 [9] := by
  unfold f_X1_appendInput at hf
  obtain ⟨_, g, -⟩ := gx_bs hf
  exact hx_is_of g
theorem w_X1_appendInput_b {l : Launch} (hlt : l.stackTraces = false) {p : Program} {e : Env} {R : Room} {s : State} {m : MethodId} {args : Array Value} {below : List Frame} {meth : Method} {c : Code} {D : gx_D} {h0 : HX} {r : Int32} {hz : HX} (C : gx_Ctx p R s m args meth c "ContractMachine" cX1_appendInput 6 (some .int) 2 46 D h0 hz) (hx : meth.name = "appendInput") {a0 : Nat} {p1 : Int32} {p2 : Int32} {p3 : Int32} {p4 : Int32} {p5 : Int32} (hf : f_X1_appendInput D h0 a0 p1 p2 p3 p4 p5 = some (r, hz)) : gx_G p l e R s m args below meth c D h0 hz 6 (gx_MQ below args s D h0 hz (some (.int r))) 0 [(0, (va_rf (some a0))), (1, (.int p1)), (2, (.int p2)), (3, (.int p3)), (4, (.int p4)), (5, (.int p5))] [] h0 := by
  unfold f_X1_appendInput at hf
  replace hf := gx_bs hf
  obtain ⟨_, -, hf⟩ := hf
  refine gx_aload_n C dX1_appendInput_0 0 rfl ?_
  replace hf := gx_bs hf
  obtain ⟨x1, g15, hf⟩ := hf
  refine gx_gi C g15 gz_119 q886 dX1_appendInput_1 ?_
  refine gx_bipush (v := 20) C dX1_appendInput_4 rfl ?_
  refine gx_iadd C dX1_appendInput_6 ?_
  refine gx_sipush (v := 700) C dX1_appendInput_7 rfl ?_
  replace hf := gx_ite hf
  rcases hf with ⟨c2, hf⟩ | ⟨c2, hf⟩
  · refine gx_icmp_le_t (tgt := 15) C dX1_appendInput_10 rfl c2 ?_
    refine gx_aload_n C dX1_appendInput_15 0 rfl ?_
    refine gx_iload_n C dX1_appendInput_16 1 rfl ?_
    replace hf := gx_bs hf
    obtain ⟨h4, g3, hf⟩ := hf
    refine gx_callV (st := []) C (w_X1_append hlt g3) (is_X1_append g3) gz_108 rfl (lw_V q945 q947 qs7 q121 q948) gz_120 (by decide) rfl rfl (gx_catn (Nat.le_of_ble_eq_true rfl)) dX1_appendInput_17 ?_
    refine gx_aload_n C dX1_appendInput_20 0 rfl ?_
    refine gx_iload_n C dX1_appendInput_21 2 rfl ?_
    replace hf := gx_bs hf
    obtain ⟨h6, g5, hf⟩ := hf
    refine gx_callV (st := []) C (w_X1_append hlt g5) (is_X1_append g5) gz_108 rfl (lw_V q945 q947 qs7 q121 q948) gz_120 (by decide) rfl rfl (gx_catn (Nat.le_of_ble_eq_true rfl)) dX1_appendInput_22 ?_
    refine gx_aload_n C dX1_appendInput_25 0 rfl ?_
    refine gx_iload_n C dX1_appendInput_26 3 rfl ?_
    replace hf := gx_bs hf
    obtain ⟨h8, g7, hf⟩ := hf
    refine gx_callV (st := []) C (w_X1_append hlt g7) (is_X1_append g7) gz_108 rfl (lw_V q945 q947 qs7 q121 q948) gz_120 (by decide) rfl rfl (gx_catn (Nat.le_of_ble_eq_true rfl)) dX1_appendInput_27 ?_
    refine gx_aload_n C dX1_appendInput_30 0 rfl ?_
    refine gx_iload C dX1_appendInput_31 4 rfl ?_
    replace hf := gx_bs hf
    obtain ⟨h10, g9, hf⟩ := hf
    refine gx_callV (st := []) C (w_X1_append hlt g9) (is_X1_append g9) gz_108 rfl (lw_V q945 q947 qs7 q121 q948) gz_120 (by decide) rfl rfl (gx_catn (Nat.le_of_ble_eq_true rfl)) dX1_appendInput_33 ?_
    refine gx_aload_n C dX1_appendInput_36 0 rfl ?_
    refine gx_iload C dX1_appendInput_37 5 rfl ?_
    replace hf := gx_bs hf
    obtain ⟨h12, g11, hf⟩ := hf
    refine gx_callV (st := []) C (w_X1_append hlt g11) (is_X1_append g11) gz_108 rfl (lw_V q945 q947 qs7 q121 q948) gz_120 (by decide) rfl rfl (gx_catn (Nat.le_of_ble_eq_true rfl)) dX1_appendInput_39 ?_
    refine gx_aload_n C dX1_appendInput_42 0 rfl ?_
    replace hf := gx_bs hf
    obtain ⟨x13, g14, hf⟩ := hf
    refine gx_gi C g14 gz_119 q886 dX1_appendInput_43 ?_
    obtain ⟨rfl, rfl⟩ := Prod.mk.inj (Option.some.inj hf)
    exact gx_iret C dX1_appendInput_46
  · refine gx_icmp_le_f (tgt := 15) C dX1_appendInput_10 rfl c2 ?_
    refine gx_iconst (v := -1) C dX1_appendInput_13 rfl ?_
    obtain ⟨rfl, rfl⟩ := Prod.mk.inj (Option.some.inj hf)
    exact gx_iret C dX1_appendInput_14
theorem le_X1_appendInput {D : gx_D} {r : Int32} {hz : HX} {h : HX} {a0 : Nat} {p1 : Int32} {p2 : Int32} {p3 : Int32} {p4 : Int32} {p5 : Int32} (hf : f_X1_appendInput D h a0 p1 p2 p3 p4 p5 = some (r, hz)) : gx_le h hz := by
  unfold f_X1_appendInput at hf
  replace hf := gx_bs hf
  obtain ⟨_, -, hf⟩ := hf
  replace hf := gx_bs hf
  obtain ⟨x1, g15, hf⟩ := hf
  replace hf := gx_ite hf
  rcases hf with ⟨c2, hf⟩ | ⟨c2, hf⟩
  · replace hf := gx_bs hf
    obtain ⟨h4, g3, hf⟩ := hf
    refine (le_X1_append g3).tr ?_
    replace hf := gx_bs hf
    obtain ⟨h6, g5, hf⟩ := hf
    refine (le_X1_append g5).tr ?_
    replace hf := gx_bs hf
    obtain ⟨h8, g7, hf⟩ := hf
    refine (le_X1_append g7).tr ?_
    replace hf := gx_bs hf
    obtain ⟨h10, g9, hf⟩ := hf
    refine (le_X1_append g9).tr ?_
    replace hf := gx_bs hf
    obtain ⟨h12, g11, hf⟩ := hf
    refine (le_X1_append g11).tr ?_
    replace hf := gx_bs hf
    obtain ⟨x13, g14, hf⟩ := hf
    obtain ⟨rfl, rfl⟩ := Prod.mk.inj (Option.some.inj hf)
    exact gx_le.rf
  · obtain ⟨rfl, rfl⟩ := Prod.mk.inj (Option.some.inj hf)
    exact gx_le.rf
theorem w_X1_appendInput {l : Launch} (hlt : l.stackTraces = false) {D : gx_D} {h : HX} {a0 : Nat} {p1 : Int32} {p2 : Int32} {p3 : Int32} {p4 : Int32} {p5 : Int32} {r : Int32} {hz : HX} (hf : f_X1_appendInput D h a0 p1 p2 p3 p4 p5 = some (r, hz)) : gx_Met l yX1_appendInput cX1_appendInput 6 (some .int) 2 46 D [(va_rf (some a0)), (.int p1), (.int p2), (.int p3), (.int p4), (.int p5)] h (some (.int r)) hz :=
  gx_ofG gz_26 (by simp only [gx_lsr, gx_lsi, gx_lsj, gx_ls0]; decide) (le_X1_appendInput hf) (fun p e R s m args below meth c C hx => by
    simp only [gx_lar, gx_lai, gx_laj, gx_la0, Nat.reduceAdd]
    exact w_X1_appendInput_b hlt C hx hf)
def f_X1_isWithin (D : gx_D) (h : HX) (p0 : Int64) (p1 : Int64) (p2 : Int64) : Option Bool :=
  if (lg_cmp p0 p1) < 0 then
  some false
  else
  if 0 < (lg_cmp p0 p2) then
  some false
  else
  some true
theorem w_X1_isWithin_b {l : Launch} (hlt : l.stackTraces = false) {p : Program} {e : Env} {R : Room} {s : State} {m : MethodId} {args : Array Value} {below : List Frame} {meth : Method} {c : Code} {D : gx_D} {h0 : HX} {r : Bool} (C : gx_Ctx p R s m args meth c "ContractMachine" cX1_isWithin 6 (some .boolean) 1 24 D h0 h0) (hx : meth.name = "isWithin") {p0 : Int64} {p1 : Int64} {p2 : Int64} (hf : f_X1_isWithin D h0 p0 p1 p2 = some r) : gx_G p l e R s m args below meth c D h0 h0 6 (gx_MQ below args s D h0 h0 (some (.int (b2i r)))) 0 [(0, (.long p0)), (2, (.long p1)), (4, (.long p2))] [] h0 := by
  unfold f_X1_isWithin at hf
  refine gx_lload_n C dX1_isWithin_0 0 rfl ?_
  refine gx_lload_n C dX1_isWithin_1 1 rfl ?_
  refine gx_lcmp C dX1_isWithin_2 ?_
  replace hf := gx_ite hf
  rcases hf with ⟨c1, hf⟩ | ⟨c1, hf⟩
  · refine gx_if_lt_t (tgt := 17) C dX1_isWithin_3 rfl c1 ?_
    refine gx_iconst (v := 0) C dX1_isWithin_17 rfl ?_
    obtain rfl := Option.some.inj hf
    exact gx_zret (b := false) C dX1_isWithin_18
  · refine gx_if_lt_f (tgt := 17) C dX1_isWithin_3 rfl c1 ?_
    refine gx_lload_n C dX1_isWithin_6 0 rfl ?_
    refine gx_lload C dX1_isWithin_7 2 rfl ?_
    refine gx_lcmp C dX1_isWithin_9 ?_
    replace hf := gx_ite hf
    rcases hf with ⟨c2, hf⟩ | ⟨c2, hf⟩
    · refine gx_if_gt_t (tgt := 17) C dX1_isWithin_10 rfl c2 ?_
      refine gx_iconst (v := 0) C dX1_isWithin_17 rfl ?_
      obtain rfl := Option.some.inj hf
      exact gx_zret (b := false) C dX1_isWithin_18
    · refine gx_if_gt_f (tgt := 17) C dX1_isWithin_10 rfl c2 ?_
      refine gx_iconst (v := 1) C dX1_isWithin_13 rfl ?_
      refine gx_goto (tgt := 18) C dX1_isWithin_14 rfl ?_
      obtain rfl := Option.some.inj hf
      exact gx_zret (b := true) C dX1_isWithin_18
theorem w_X1_isWithin {l : Launch} (hlt : l.stackTraces = false) {D : gx_D} {h : HX} {p0 : Int64} {p1 : Int64} {p2 : Int64} {r : Bool} (hf : f_X1_isWithin D h p0 p1 p2 = some r) : gx_Met l yX1_isWithin cX1_isWithin 6 (some .boolean) 1 24 D [(.long p0), (.long p1), (.long p2)] h (some (.int (b2i r))) h :=
  gx_ofG gz_26 (by simp only [gx_lsr, gx_lsi, gx_lsj, gx_ls0]; decide) gx_le.rf (fun p e R s m args below meth c C hx => by
    simp only [gx_lar, gx_lai, gx_laj, gx_la0, Nat.reduceAdd]
    exact w_X1_isWithin_b hlt C hx hf)
def f_X1_truncateInput (D : gx_D) (h : HX) (a0 : Nat) (p1 : Int32) : Option ((Bool) × HX) :=
  (hx_is h a0 [9]).bind fun _ =>
  (hx_gi h a0 [9] 2).bind fun x1 =>
  (f_X1_isWithin D h (Int32.toInt64 p1) (0 : Int64) (Int32.toInt64 x1)).bind fun b3 =>
  if b3 = true then
  (hx_pi h a0 [9] 2 p1).bind fun h5 =>
  some (true, h5)
  else
  some (false, h)
theorem is_X1_truncateInput {D : gx_D} {h : HX} {a0 : Nat} {p1 : Int32} {z} (hf : f_X1_truncateInput D h a0 p1 = some z) : gx_isC h a0 [9] := by
  unfold f_X1_truncateInput at hf
  obtain ⟨_, g, -⟩ := gx_bs hf
  exact hx_is_of g
theorem w_X1_truncateInput_b {l : Launch} (hlt : l.stackTraces = false) {p : Program} {e : Env} {R : Room} {s : State} {m : MethodId} {args : Array Value} {below : List Frame} {meth : Method} {c : Code} {D : gx_D} {h0 : HX} {r : Bool} {hz : HX} (C : gx_Ctx p R s m args meth c "ContractMachine" cX1_truncateInput 2 (some .boolean) 2 49 D h0 hz) (hx : meth.name = "truncateInput") {a0 : Nat} {p1 : Int32} (hf : f_X1_truncateInput D h0 a0 p1 = some (r, hz)) : gx_G p l e R s m args below meth c D h0 hz 2 (gx_MQ below args s D h0 hz (some (.int (b2i r)))) 0 [(0, (va_rf (some a0))), (1, (.int p1))] [] h0 := by
  unfold f_X1_truncateInput at hf
  replace hf := gx_bs hf
  obtain ⟨_, -, hf⟩ := hf
  refine gx_iload_n C dX1_truncateInput_0 1 rfl ?_
  refine gx_i2l C dX1_truncateInput_1 ?_
  refine gx_lconst (v := 0) C dX1_truncateInput_2 rfl ?_
  refine gx_aload_n C dX1_truncateInput_3 0 rfl ?_
  replace hf := gx_bs hf
  obtain ⟨x1, g7, hf⟩ := hf
  refine gx_gi C g7 gz_119 q886 dX1_truncateInput_4 ?_
  refine gx_i2l C dX1_truncateInput_7 ?_
  replace hf := gx_bs hf
  obtain ⟨b3, g2, hf⟩ := hf
  refine gx_callS (st := []) C (w_X1_isWithin hlt g2) (lw_S q953 q954 q121 q955) gz_121 (by decide) rfl rfl (gx_catn (Nat.le_of_ble_eq_true rfl)) dX1_truncateInput_8 ?_
  replace hf := gx_ite hf
  rcases hf with ⟨c4, hf⟩ | ⟨c4, hf⟩
  · refine gx_ifz_ne_t (tgt := 16) C dX1_truncateInput_11 rfl c4 ?_
    refine gx_aload_n C dX1_truncateInput_16 0 rfl ?_
    refine gx_iload_n C dX1_truncateInput_17 1 rfl ?_
    replace hf := gx_bs hf
    obtain ⟨h5, g6, hf⟩ := hf
    refine gx_putv C g6 gz_119 gz_1 rfl rfl q886 dX1_truncateInput_18 ?_
    refine gx_iconst (v := 1) C dX1_truncateInput_21 rfl ?_
    obtain ⟨rfl, rfl⟩ := Prod.mk.inj (Option.some.inj hf)
    exact gx_zret (b := true) C dX1_truncateInput_22
  · refine gx_ifz_ne_f (tgt := 16) C dX1_truncateInput_11 rfl c4 ?_
    refine gx_iconst (v := 0) C dX1_truncateInput_14 rfl ?_
    obtain ⟨rfl, rfl⟩ := Prod.mk.inj (Option.some.inj hf)
    exact gx_zret (b := false) C dX1_truncateInput_15
theorem le_X1_truncateInput {D : gx_D} {r : Bool} {hz : HX} {h : HX} {a0 : Nat} {p1 : Int32} (hf : f_X1_truncateInput D h a0 p1 = some (r, hz)) : gx_le h hz := by
  unfold f_X1_truncateInput at hf
  replace hf := gx_bs hf
  obtain ⟨_, -, hf⟩ := hf
  replace hf := gx_bs hf
  obtain ⟨x1, g7, hf⟩ := hf
  replace hf := gx_bs hf
  obtain ⟨b3, g2, hf⟩ := hf
  replace hf := gx_ite hf
  rcases hf with ⟨c4, hf⟩ | ⟨c4, hf⟩
  · replace hf := gx_bs hf
    obtain ⟨h5, g6, hf⟩ := hf
    refine (hx_le_pv g6).tr ?_
    obtain ⟨rfl, rfl⟩ := Prod.mk.inj (Option.some.inj hf)
    exact gx_le.rf
  · obtain ⟨rfl, rfl⟩ := Prod.mk.inj (Option.some.inj hf)
    exact gx_le.rf
theorem w_X1_truncateInput {l : Launch} (hlt : l.stackTraces = false) {D : gx_D} {h : HX} {a0 : Nat} {p1 : Int32} {r : Bool} {hz : HX} (hf : f_X1_truncateInput D h a0 p1 = some (r, hz)) : gx_Met l yX1_truncateInput cX1_truncateInput 2 (some .boolean) 2 49 D [(va_rf (some a0)), (.int p1)] h (some (.int (b2i r))) hz :=
  gx_ofG gz_26 (by simp only [gx_lsr, gx_lsi, gx_lsj, gx_ls0]; decide) (le_X1_truncateInput hf) (fun p e R s m args below meth c C hx => by
    simp only [gx_lar, gx_lai, gx_laj, gx_la0, Nat.reduceAdd]
    exact w_X1_truncateInput_b hlt C hx hf)
def f_X1_clearError (D : gx_D) (h : HX) (a0 : Nat) : Option HX :=
  (hx_is h a0 [9]).bind fun _ =>
  (hx_pi h a0 [9] 3 (0 : Int32)).bind fun h1 =>
  (hx_pi h1 a0 [9] 4 (-1 : Int32)).bind fun h2 =>
  some h2
theorem is_X1_clearError {D : gx_D} {h : HX} {a0 : Nat} {z} (hf : f_X1_clearError D h a0 = some z) : gx_isC h a0 [9] := by
  unfold f_X1_clearError at hf
  obtain ⟨_, g, -⟩ := gx_bs hf
  exact hx_is_of g
theorem w_X1_clearError_b {l : Launch} (hlt : l.stackTraces = false) {p : Program} {e : Env} {R : Room} {s : State} {m : MethodId} {args : Array Value} {below : List Frame} {meth : Method} {c : Code} {D : gx_D} {h0 : HX} {hz : HX} (C : gx_Ctx p R s m args meth c "ContractMachine" cX1_clearError 1 none 1 24 D h0 hz) (hx : meth.name = "clearError") {a0 : Nat} (hf : f_X1_clearError D h0 a0 = some hz) : gx_G p l e R s m args below meth c D h0 hz 1 (gx_MQ below args s D h0 hz none) 0 [(0, (va_rf (some a0)))] [] h0 := by
  unfold f_X1_clearError at hf
  replace hf := gx_bs hf
  obtain ⟨_, -, hf⟩ := hf
  refine gx_aload_n C dX1_clearError_0 0 rfl ?_
  refine gx_iconst (v := 0) C dX1_clearError_1 rfl ?_
  replace hf := gx_bs hf
  obtain ⟨h1, g4, hf⟩ := hf
  refine gx_putv C g4 gz_122 gz_1 rfl rfl q887 dX1_clearError_2 ?_
  refine gx_aload_n C dX1_clearError_5 0 rfl ?_
  refine gx_iconst (v := -1) C dX1_clearError_6 rfl ?_
  replace hf := gx_bs hf
  obtain ⟨h2, g3, hf⟩ := hf
  refine gx_putv C g3 gz_81 gz_1 rfl rfl q888 dX1_clearError_7 ?_
  obtain rfl := Option.some.inj hf
  exact gx_vret C dX1_clearError_10
theorem le_X1_clearError {D : gx_D} {hz : HX} {h : HX} {a0 : Nat} (hf : f_X1_clearError D h a0 = some hz) : gx_le h hz := by
  unfold f_X1_clearError at hf
  replace hf := gx_bs hf
  obtain ⟨_, -, hf⟩ := hf
  replace hf := gx_bs hf
  obtain ⟨h1, g4, hf⟩ := hf
  refine (hx_le_pv g4).tr ?_
  replace hf := gx_bs hf
  obtain ⟨h2, g3, hf⟩ := hf
  refine (hx_le_pv g3).tr ?_
  obtain rfl := Option.some.inj hf
  exact gx_le.rf
theorem w_X1_clearError {l : Launch} (hlt : l.stackTraces = false) {D : gx_D} {h : HX} {a0 : Nat} {hz : HX} (hf : f_X1_clearError D h a0 = some hz) : gx_Met l yX1_clearError cX1_clearError 1 none 1 24 D [(va_rf (some a0))] h none hz :=
  gx_ofG gz_26 (by simp only [gx_lsr, gx_lsi, gx_lsj, gx_ls0]; decide) (le_X1_clearError hf) (fun p e R s m args below meth c C hx => by
    simp only [gx_lar, gx_lai, gx_laj, gx_la0, Nat.reduceAdd]
    exact w_X1_clearError_b hlt C hx hf)
def f_X1_fail (D : gx_D) (h : HX) (a0 : Nat) (p1 : Option Nat) : Option ((Int32) × HX) :=
  (hx_is h a0 [9]).bind fun _ =>
  p1.bind fun a1 =>
  (hx_gi h a1 [17] 6).bind fun x2 =>
  (hx_pi h a0 [9] 3 x2).bind fun h3 =>
  (hx_gi h3 a1 [17] 7).bind fun x4 =>
  (hx_pi h3 a0 [9] 4 x4).bind fun h5 =>
  some ((-1 : Int32), h5)
theorem is_X1_fail {D : gx_D} {h : HX} {a0 : Nat} {p1 : Option Nat} {z} (hf : f_X1_fail D h a0 p1 = some z) : gx_isC h a0 [9] := by
  unfold f_X1_fail at hf
  obtain ⟨_, g, -⟩ := gx_bs hf
  exact hx_is_of g
theorem w_X1_fail_b {l : Launch} (hlt : l.stackTraces = false) {p : Program} {e : Env} {R : Room} {s : State} {m : MethodId} {args : Array Value} {below : List Frame} {meth : Method} {c : Code} {D : gx_D} {h0 : HX} {r : Int32} {hz : HX} (C : gx_Ctx p R s m args meth c "ContractMachine" cX1_fail 2 (some .int) 1 24 D h0 hz) (hx : meth.name = "fail") {a0 : Nat} {p1 : Option Nat} (hf : f_X1_fail D h0 a0 p1 = some (r, hz)) : gx_G p l e R s m args below meth c D h0 hz 2 (gx_MQ below args s D h0 hz (some (.int r))) 0 [(0, (va_rf (some a0))), (1, (va_rf p1))] [] h0 := by
  unfold f_X1_fail at hf
  replace hf := gx_bs hf
  obtain ⟨_, -, hf⟩ := hf
  refine gx_aload_n C dX1_fail_0 0 rfl ?_
  refine gx_aload_n C dX1_fail_1 1 rfl ?_
  replace hf := gx_bs hf
  obtain ⟨a1, rfl, hf⟩ := hf
  replace hf := gx_bs hf
  obtain ⟨x2, g9, hf⟩ := hf
  refine gx_giN C g9 gz_123 q1272 dX1_fail_2 ?_
  replace hf := gx_bs hf
  obtain ⟨h3, g8, hf⟩ := hf
  refine gx_putv C g8 gz_122 gz_1 rfl rfl q887 dX1_fail_5 ?_
  refine gx_aload_n C dX1_fail_8 0 rfl ?_
  refine gx_aload_n C dX1_fail_9 1 rfl ?_
  replace hf := gx_bs hf
  obtain ⟨x4, g7, hf⟩ := hf
  refine gx_giN C g7 gz_124 q1274 dX1_fail_10 ?_
  replace hf := gx_bs hf
  obtain ⟨h5, g6, hf⟩ := hf
  refine gx_putv C g6 gz_81 gz_1 rfl rfl q888 dX1_fail_13 ?_
  refine gx_iconst (v := -1) C dX1_fail_16 rfl ?_
  obtain ⟨rfl, rfl⟩ := Prod.mk.inj (Option.some.inj hf)
  exact gx_iret C dX1_fail_17
theorem le_X1_fail {D : gx_D} {r : Int32} {hz : HX} {h : HX} {a0 : Nat} {p1 : Option Nat} (hf : f_X1_fail D h a0 p1 = some (r, hz)) : gx_le h hz := by
  unfold f_X1_fail at hf
  replace hf := gx_bs hf
  obtain ⟨_, -, hf⟩ := hf
  replace hf := gx_bs hf
  obtain ⟨a1, rfl, hf⟩ := hf
  replace hf := gx_bs hf
  obtain ⟨x2, g9, hf⟩ := hf
  replace hf := gx_bs hf
  obtain ⟨h3, g8, hf⟩ := hf
  refine (hx_le_pv g8).tr ?_
  replace hf := gx_bs hf
  obtain ⟨x4, g7, hf⟩ := hf
  replace hf := gx_bs hf
  obtain ⟨h5, g6, hf⟩ := hf
  refine (hx_le_pv g6).tr ?_
  obtain ⟨rfl, rfl⟩ := Prod.mk.inj (Option.some.inj hf)
  exact gx_le.rf
theorem w_X1_fail {l : Launch} (hlt : l.stackTraces = false) {D : gx_D} {h : HX} {a0 : Nat} {p1 : Option Nat} {r : Int32} {hz : HX} (hf : f_X1_fail D h a0 p1 = some (r, hz)) : gx_Met l yX1_fail cX1_fail 2 (some .int) 1 24 D [(va_rf (some a0)), (va_rf p1)] h (some (.int r)) hz :=
  gx_ofG gz_26 (by simp only [gx_lsr, gx_lsi, gx_lsj, gx_ls0]; decide) (le_X1_fail hf) (fun p e R s m args below meth c C hx => by
    simp only [gx_lar, gx_lai, gx_laj, gx_la0, Nat.reduceAdd]
    exact w_X1_fail_b hlt C hx hf)
def f_X10_at (D : gx_D) (h : HX) (a0 : Nat) (p1 : Int32) : Option Int32 :=
  (hx_is h a0 [16, 18]).bind fun _ =>
  (hx_gr h a0 [16, 18] 5).bind fun r1 =>
  r1.bind fun a2 =>
  (hx_gi h a2 [9] 2).bind fun x3 =>
  if x3 ≤ p1 then
  some ((-1 : Int32))
  else
  (hx_gr h a0 [16, 18] 5).bind fun r5 =>
  r5.bind fun a6 =>
  (hx_gr h a6 [9] 1).bind fun r7 =>
  r7.bind fun a8 =>
  (hx_ai h a8 1 p1).bind fun x9 =>
  some ((x9 &&& (255 : Int32)))
theorem is_X10_at {D : gx_D} {h : HX} {a0 : Nat} {p1 : Int32} {z} (hf : f_X10_at D h a0 p1 = some z) : gx_isC h a0 [16, 18] := by
  unfold f_X10_at at hf
  obtain ⟨_, g, -⟩ := gx_bs hf
  exact hx_is_of g
theorem w_X10_at_b {l : Launch} (hlt : l.stackTraces = false) {p : Program} {e : Env} {R : Room} {s : State} {m : MethodId} {args : Array Value} {below : List Frame} {meth : Method} {c : Code} {D : gx_D} {h0 : HX} {r : Int32} (C : gx_Ctx p R s m args meth c "ContractMachine$Parser" cX10_at 2 (some .int) 1 24 D h0 h0) (hx : meth.name = "at") {a0 : Nat} {p1 : Int32} (hf : f_X10_at D h0 a0 p1 = some r) : gx_G p l e R s m args below meth c D h0 h0 2 (gx_MQ below args s D h0 h0 (some (.int r))) 0 [(0, (va_rf (some a0))), (1, (.int p1))] [] h0 := by
  unfold f_X10_at at hf
  replace hf := gx_bs hf
  obtain ⟨_, -, hf⟩ := hf
  refine gx_iload_n C dX10_at_0 1 rfl ?_
  refine gx_aload_n C dX10_at_1 0 rfl ?_
  replace hf := gx_bs hf
  obtain ⟨r1, g14, hf⟩ := hf
  refine gx_gr C g14 gz_125 q1130 dX10_at_2 ?_
  replace hf := gx_bs hf
  obtain ⟨a2, rfl, hf⟩ := hf
  replace hf := gx_bs hf
  obtain ⟨x3, g13, hf⟩ := hf
  refine gx_giN C g13 gz_119 q885 dX10_at_5 ?_
  replace hf := gx_ite hf
  rcases hf with ⟨c4, hf⟩ | ⟨c4, hf⟩
  · refine gx_icmp_ge_t (tgt := 27) C dX10_at_8 rfl c4 ?_
    refine gx_iconst (v := -1) C dX10_at_27 rfl ?_
    obtain rfl := Option.some.inj hf
    exact gx_iret C dX10_at_28
  · refine gx_icmp_ge_f (tgt := 27) C dX10_at_8 rfl c4 ?_
    refine gx_aload_n C dX10_at_11 0 rfl ?_
    replace hf := gx_bs hf
    obtain ⟨r5, g12, hf⟩ := hf
    refine gx_gr C g12 gz_125 q1130 dX10_at_12 ?_
    replace hf := gx_bs hf
    obtain ⟨a6, rfl, hf⟩ := hf
    replace hf := gx_bs hf
    obtain ⟨r7, g11, hf⟩ := hf
    refine gx_grN C g11 gz_80 q883 dX10_at_15 ?_
    refine gx_iload_n C dX10_at_18 1 rfl ?_
    replace hf := gx_bs hf
    obtain ⟨a8, rfl, hf⟩ := hf
    replace hf := gx_bs hf
    obtain ⟨x9, g10, hf⟩ := hf
    refine gx_bald C g10 dX10_at_19 ?_
    refine gx_sipush (v := 255) C dX10_at_20 rfl ?_
    refine gx_iand C dX10_at_23 ?_
    refine gx_goto (tgt := 28) C dX10_at_24 rfl ?_
    obtain rfl := Option.some.inj hf
    exact gx_iret C dX10_at_28
theorem w_X10_at {l : Launch} (hlt : l.stackTraces = false) {D : gx_D} {h : HX} {a0 : Nat} {p1 : Int32} {r : Int32} (hf : f_X10_at D h a0 p1 = some r) : gx_Met l yX10_at cX10_at 2 (some .int) 1 24 D [(va_rf (some a0)), (.int p1)] h (some (.int r)) h :=
  gx_ofG gz_126 (by simp only [gx_lsr, gx_lsi, gx_lsj, gx_ls0]; decide) gx_le.rf (fun p e R s m args below meth c C hx => by
    simp only [gx_lar, gx_lai, gx_laj, gx_la0, Nat.reduceAdd]
    exact w_X10_at_b hlt C hx hf)
def f_X10_endOfRun_b3 (D : gx_D) : Nat → HX → Nat → Int32 → Int32 → Int32 → Option Int32
  | 0, _, _, _, _, _ => none
  | n + 1, h, v0, v2, v3, v4 =>
  (f_X10_at D h v0 v4).bind fun x2 =>
  (f_X1_isWithin D h (Int32.toInt64 x2) (Int32.toInt64 v2) (Int32.toInt64 v3)).bind fun b4 =>
  if b4 = true then
  (f_X10_endOfRun_b3 D n) h v0 v2 v3 ((v4 + (1 : Int32)))
  else
  some v4
theorem w_X10_endOfRun_b3 {l : Launch} (hlt : l.stackTraces = false) {p : Program} {e : Env} {R : Room} {s : State} {m : MethodId} {args : Array Value} {below : List Frame} {meth : Method} {c : Code} {D : gx_D} {h0 : HX} {r : Int32} (C : gx_Ctx p R s m args meth c "ContractMachine$Parser" cX10_endOfRun 5 (some .int) 2 49 D h0 h0) (hx : meth.name = "endOfRun")  : ∀ (n : Nat) ⦃v0 : Nat⦄ ⦃v2 : Int32⦄ ⦃v3 : Int32⦄ ⦃v4 : Int32⦄, f_X10_endOfRun_b3 D n h0 v0 v2 v3 v4 = some r → gx_G p l e R s m args below meth c D h0 h0 5 (gx_MQ below args s D h0 h0 (some (.int r))) 3 [(0, (va_rf (some v0))), (2, (.int v2)), (3, (.int v3)), (4, (.int v4))] [] h0 := by
  intro n
  induction n with
  | zero => intro v0 v2 v3 v4 hf; unfold f_X10_endOfRun_b3 at hf; cases hf
  | succ n wk3 =>
    intro v0 v2 v3 v4 hf
    unfold f_X10_endOfRun_b3 at hf
    refine gx_aload_n C dX10_endOfRun_3 0 rfl ?_
    refine gx_iload C dX10_endOfRun_4 3 rfl ?_
    replace hf := gx_bs hf
    obtain ⟨x2, g1, hf⟩ := hf
    refine gx_callU (st := []) C (w_X10_at hlt g1) (is_X10_at g1) q981 q3270 (va_Decl.of (C.hts _ q983) (C.hts _ q985)) ⟨by decide, by decide⟩ (gx_cis1 gz_129 (gx_priv C 0 rfl) (gx_cis1 gz_128 (gx_priv C 1 rfl) gx_cis0)) q983 q152 q985 gz_127 (by decide) rfl rfl (gx_catn (Nat.le_of_ble_eq_true rfl)) dX10_endOfRun_6 ?_
    refine gx_i2l C dX10_endOfRun_9 ?_
    refine gx_iload_n C dX10_endOfRun_10 1 rfl ?_
    refine gx_i2l C dX10_endOfRun_11 ?_
    refine gx_iload_n C dX10_endOfRun_12 2 rfl ?_
    refine gx_i2l C dX10_endOfRun_13 ?_
    replace hf := gx_bs hf
    obtain ⟨b4, g3, hf⟩ := hf
    refine gx_callSN (st := []) C (w_X1_isWithin hlt g3) q990 q954 q121 q955 gz_121 (by decide) rfl rfl (gx_catn (Nat.le_of_ble_eq_true rfl)) dX10_endOfRun_14 ?_
    replace hf := gx_ite hf
    rcases hf with ⟨c5, hf⟩ | ⟨c5, hf⟩
    · refine gx_ifz_eq_f (tgt := 26) C dX10_endOfRun_17 rfl c5 ?_
      refine gx_inc (v := 1) C dX10_endOfRun_20 3 rfl rfl (by decide) [0, 1, 2] rfl (gx_okn rfl rfl (gx_okn rfl rfl (gx_okr rfl gx_catv_i gx_ok0))) ?_
      refine gx_goto (tgt := 3) C dX10_endOfRun_23 rfl ?_
      refine gx_sub [1, 2, 3, 0] rfl ?_
      exact wk3 hf
    · refine gx_ifz_eq_t (tgt := 26) C dX10_endOfRun_17 rfl c5 ?_
      refine gx_iload C dX10_endOfRun_26 3 rfl ?_
      obtain rfl := Option.some.inj hf
      exact gx_iret C dX10_endOfRun_28
def f_X10_endOfRun (D : gx_D) (h : HX) (a0 : Nat) (p1 : Int32) (p2 : Int32) (p3 : Int32) : Option Int32 :=
  (hx_is h a0 [16, 18]).bind fun _ =>
  f_X10_endOfRun_b3 D gx_fuel h a0 p2 p3 p1
theorem is_X10_endOfRun {D : gx_D} {h : HX} {a0 : Nat} {p1 : Int32} {p2 : Int32} {p3 : Int32} {z} (hf : f_X10_endOfRun D h a0 p1 p2 p3 = some z) : gx_isC h a0 [16, 18] := by
  unfold f_X10_endOfRun at hf
  obtain ⟨_, g, -⟩ := gx_bs hf
  exact hx_is_of g
theorem w_X10_endOfRun_b {l : Launch} (hlt : l.stackTraces = false) {p : Program} {e : Env} {R : Room} {s : State} {m : MethodId} {args : Array Value} {below : List Frame} {meth : Method} {c : Code} {D : gx_D} {h0 : HX} {r : Int32} (C : gx_Ctx p R s m args meth c "ContractMachine$Parser" cX10_endOfRun 5 (some .int) 2 49 D h0 h0) (hx : meth.name = "endOfRun") {a0 : Nat} {p1 : Int32} {p2 : Int32} {p3 : Int32} (hf : f_X10_endOfRun D h0 a0 p1 p2 p3 = some r) : gx_G p l e R s m args below meth c D h0 h0 5 (gx_MQ below args s D h0 h0 (some (.int r))) 0 [(0, (va_rf (some a0))), (1, (.int p1)), (2, (.int p2)), (3, (.int p3))] [] h0 := by
  unfold f_X10_endOfRun at hf
  replace hf := gx_bs hf
  obtain ⟨_, -, hf⟩ := hf
  refine gx_iload_n C dX10_endOfRun_0 1 rfl ?_
  refine gx_ist C dX10_endOfRun_1 (by decide) [0, 2, 3]  rfl (gx_okn rfl rfl (gx_okn rfl rfl (gx_okr rfl gx_catv_i gx_ok0))) ?_
  refine gx_sub [1, 2, 3, 0] rfl ?_
  exact w_X10_endOfRun_b3 hlt C hx gx_fuel hf
theorem w_X10_endOfRun {l : Launch} (hlt : l.stackTraces = false) {D : gx_D} {h : HX} {a0 : Nat} {p1 : Int32} {p2 : Int32} {p3 : Int32} {r : Int32} (hf : f_X10_endOfRun D h a0 p1 p2 p3 = some r) : gx_Met l yX10_endOfRun cX10_endOfRun 5 (some .int) 2 49 D [(va_rf (some a0)), (.int p1), (.int p2), (.int p3)] h (some (.int r)) h :=
  gx_ofG gz_126 (by simp only [gx_lsr, gx_lsi, gx_lsj, gx_ls0]; decide) gx_le.rf (fun p e R s m args below meth c C hx => by
    simp only [gx_lar, gx_lai, gx_laj, gx_la0, Nat.reduceAdd]
    exact w_X10_endOfRun_b hlt C hx hf)
def f_X10_text_b35 (D : gx_D) (h : HX) (v3 : Option Nat) : Option ((Option Nat) × HX) :=
  v3.bind fun a6 =>
  gx_b2 (f_J8_toString D h a6) fun r8 h9 =>
  some (r8, h9)
theorem w_X10_text_b35 {l : Launch} (hlt : l.stackTraces = false) {p : Program} {e : Env} {R : Room} {s : State} {m : MethodId} {args : Array Value} {below : List Frame} {meth : Method} {c : Code} {D : gx_D} {h0 : HX} {r : Option Nat} {hz : HX} (C : gx_Ctx p R s m args meth c "ContractMachine$Parser" cX10_text 5 (some (.object "java/lang/String")) 7 175 D h0 hz) (hx : meth.name = "text")  {h : HX} {v3 : Option Nat} (hf : f_X10_text_b35 D h v3 = some (r, hz)) : gx_G p l e R s m args below meth c D h0 hz 5 (gx_MQ below args s D h0 hz (some (va_rf r))) 35 [(3, (va_rf v3))] [] h := by
  unfold f_X10_text_b35 at hf
  refine gx_aload_n C dX10_text_35 0 rfl ?_
  replace hf := gx_bs hf
  obtain ⟨a6, rfl, hf⟩ := hf
  replace hf := gx_b2s hf
  obtain ⟨r8, h9, g7, hf⟩ := hf
  refine gx_callV (st := []) C (w_J8_toString hlt g7) (is_J8_toString g7) gz_113 rfl (lw_V q1027 q449 q450 q133 q451) gz_157 (by decide) rfl rfl (gx_catn (Nat.le_of_ble_eq_true rfl)) dX10_text_36 ?_
  obtain ⟨rfl, rfl⟩ := Prod.mk.inj (Option.some.inj hf)
  exact gx_aret C rfl rfl dX10_text_39
theorem le_X10_text_b35 {D : gx_D} {r : Option Nat} {hz : HX} {h : HX} {v3 : Option Nat} (hf : f_X10_text_b35 D h v3 = some (r, hz)) : gx_le h hz := by
  unfold f_X10_text_b35 at hf
  replace hf := gx_bs hf
  obtain ⟨a6, rfl, hf⟩ := hf
  replace hf := gx_b2s hf
  obtain ⟨r8, h9, g7, hf⟩ := hf
  refine (le_J8_toString g7).tr ?_
  obtain ⟨rfl, rfl⟩ := Prod.mk.inj (Option.some.inj hf)
  exact gx_le.rf
def f_X10_text_b11 (D : gx_D) : Nat → HX → Nat → Int32 → Option Nat → Int32 → Option ((Option Nat) × HX)
  | 0, _, _, _, _, _ => none
  | n + 1, h, v0, v2, v3, v4 =>
  if v2 ≤ v4 then
  f_X10_text_b35 D h v3
  else
  (f_X10_at D h v0 v4).bind fun x11 =>
  v3.bind fun a12 =>
  gx_b2 (f_J8_append_3 D h a12 ((Int32.toUInt32 x11 % 65536).toInt32)) fun r14 h15 =>
  (f_X10_text_b11 D n) h15 v0 v2 (some a12) ((v4 + (1 : Int32)))
theorem w_X10_text_b11 {l : Launch} (hlt : l.stackTraces = false) {p : Program} {e : Env} {R : Room} {s : State} {m : MethodId} {args : Array Value} {below : List Frame} {meth : Method} {c : Code} {D : gx_D} {h0 : HX} {r : Option Nat} {hz : HX} (C : gx_Ctx p R s m args meth c "ContractMachine$Parser" cX10_text 5 (some (.object "java/lang/String")) 7 175 D h0 hz) (hx : meth.name = "text")  : ∀ (n : Nat) ⦃h : HX⦄ ⦃v0 : Nat⦄ ⦃v2 : Int32⦄ ⦃v3 : Option Nat⦄ ⦃v4 : Int32⦄, f_X10_text_b11 D n h v0 v2 v3 v4 = some (r, hz) → gx_G p l e R s m args below meth c D h0 hz 5 (gx_MQ below args s D h0 hz (some (va_rf r))) 11 [(0, (va_rf (some v0))), (2, (.int v2)), (3, (va_rf v3)), (4, (.int v4))] [] h := by
  intro n
  induction n with
  | zero => intro h v0 v2 v3 v4 hf; unfold f_X10_text_b11 at hf; cases hf
  | succ n wk11 =>
    intro h v0 v2 v3 v4 hf
    unfold f_X10_text_b11 at hf
    refine gx_iload C dX10_text_11 3 rfl ?_
    refine gx_iload_n C dX10_text_13 1 rfl ?_
    replace hf := gx_ite hf
    rcases hf with ⟨c5, hf⟩ | ⟨c5, hf⟩
    · refine gx_icmp_ge_t (tgt := 35) C dX10_text_14 rfl c5 ?_
      refine gx_sub [2] rfl ?_
      exact w_X10_text_b35 hlt C hx hf
    · refine gx_icmp_ge_f (tgt := 35) C dX10_text_14 rfl c5 ?_
      refine gx_aload_n C dX10_text_17 2 rfl ?_
      refine gx_aload_n C dX10_text_18 0 rfl ?_
      refine gx_iload C dX10_text_19 3 rfl ?_
      replace hf := gx_bs hf
      obtain ⟨x11, g10, hf⟩ := hf
      refine gx_callU (st := [(va_rf v3)]) C (w_X10_at hlt g10) (is_X10_at g10) q981 q3270 (va_Decl.of (C.hts _ q983) (C.hts _ q985)) ⟨by decide, by decide⟩ (gx_cis1 gz_129 (gx_priv C 0 rfl) (gx_cis1 gz_128 (gx_priv C 1 rfl) gx_cis0)) q983 q152 q985 gz_127 (by decide) rfl rfl (gx_catn (Nat.le_of_ble_eq_true rfl)) dX10_text_21 ?_
      refine gx_i2c C dX10_text_24 ?_
      replace hf := gx_bs hf
      obtain ⟨a12, rfl, hf⟩ := hf
      replace hf := gx_b2s hf
      obtain ⟨r14, h15, g13, hf⟩ := hf
      refine gx_callV (st := []) C (w_J8_append_3 hlt g13) (is_J8_append_3 g13) gz_113 rfl (lw_V q1005 q1006 q1007 q133 q1008) gz_158 (by decide) rfl rfl (gx_catn (Nat.le_of_ble_eq_true rfl)) dX10_text_25 ?_
      refine gx_pop C dX10_text_28 (gx_rfcat _) ?_
      refine gx_inc (v := 1) C dX10_text_29 3 rfl rfl (by decide) [0, 1, 2] rfl (gx_okn rfl rfl (gx_okn rfl rfl (gx_okr rfl gx_catv_r gx_ok0))) ?_
      refine gx_goto (tgt := 11) C dX10_text_32 rfl ?_
      refine gx_sub [1, 2, 3, 0] rfl ?_
      exact wk11 hf
theorem le_X10_text_b11 {D : gx_D} {r : Option Nat} {hz : HX} : ∀ (n : Nat) ⦃h : HX⦄ ⦃v0 : Nat⦄ ⦃v2 : Int32⦄ ⦃v3 : Option Nat⦄ ⦃v4 : Int32⦄, f_X10_text_b11 D n h v0 v2 v3 v4 = some (r, hz) → gx_le h hz := by
  intro n
  induction n with
  | zero => intro h v0 v2 v3 v4 hf; unfold f_X10_text_b11 at hf; cases hf
  | succ n lek11 =>
    intro h v0 v2 v3 v4 hf
    unfold f_X10_text_b11 at hf
    replace hf := gx_ite hf
    rcases hf with ⟨c5, hf⟩ | ⟨c5, hf⟩
    · exact le_X10_text_b35 hf
    · replace hf := gx_bs hf
      obtain ⟨x11, g10, hf⟩ := hf
      replace hf := gx_bs hf
      obtain ⟨a12, rfl, hf⟩ := hf
      replace hf := gx_b2s hf
      obtain ⟨r14, h15, g13, hf⟩ := hf
      refine (le_J8_append_3 g13).tr ?_
      exact lek11 hf
def f_X10_text (D : gx_D) (h : HX) (a0 : Nat) (p1 : Int32) (p2 : Int32) : Option ((Option Nat) × HX) :=
  (hx_is h a0 [16, 18]).bind fun _ =>
  gx_b2 (hx_new h 4 1 gx_df1) fun a1 h2 =>
  (f_J8_init D h2 a1).bind fun h4 =>
  f_X10_text_b11 D gx_fuel h4 a0 p2 (some a1) p1
theorem is_X10_text {D : gx_D} {h : HX} {a0 : Nat} {p1 : Int32} {p2 : Int32} {z} (hf : f_X10_text D h a0 p1 p2 = some z) : gx_isC h a0 [16, 18] := by
  unfold f_X10_text at hf
  obtain ⟨_, g, -⟩ := gx_bs hf
  exact hx_is_of g
theorem w_X10_text_b {l : Launch} (hlt : l.stackTraces = false) {p : Program} {e : Env} {R : Room} {s : State} {m : MethodId} {args : Array Value} {below : List Frame} {meth : Method} {c : Code} {D : gx_D} {h0 : HX} {r : Option Nat} {hz : HX} (C : gx_Ctx p R s m args meth c "ContractMachine$Parser" cX10_text 5 (some (.object "java/lang/String")) 7 175 D h0 hz) (hx : meth.name = "text") {a0 : Nat} {p1 : Int32} {p2 : Int32} (hf : f_X10_text D h0 a0 p1 p2 = some (r, hz)) : gx_G p l e R s m args below meth c D h0 hz 5 (gx_MQ below args s D h0 hz (some (va_rf r))) 0 [(0, (va_rf (some a0))), (1, (.int p1)), (2, (.int p2))] [] h0 := by
  unfold f_X10_text at hf
  replace hf := gx_bs hf
  obtain ⟨_, -, hf⟩ := hf
  replace hf := gx_b2s hf
  obtain ⟨a1, h2, g16, hf⟩ := hf
  refine gx_newN C g16 gz_113 tyJ8_ok gx_df1_ok q1003 q272 q133 dX10_text_0 rfl ?_
  refine gx_dup C dX10_text_3 rfl ?_
  replace hf := gx_bs hf
  obtain ⟨h4, g3, hf⟩ := hf
  refine gx_callI (st := [(va_rf (some a1))]) C (w_J8_init hlt g3) q1004 q274 q133 q275 rfl gz_112 (by decide) rfl rfl (gx_catn (Nat.le_of_ble_eq_true rfl)) dX10_text_4 ?_
  refine gx_astn C dX10_text_7 3 rfl (by decide) [0, 1, 2]  rfl (gx_okn rfl rfl (gx_okn rfl rfl (gx_okr rfl gx_catv_i gx_ok0))) ?_
  refine gx_iload_n C dX10_text_8 2 rfl ?_
  refine gx_ist C dX10_text_9 (by decide) [0, 1, 3]  rfl (gx_okr rfl gx_catv_r (gx_okn rfl rfl (gx_okn rfl rfl gx_ok0))) ?_
  refine gx_sub [2, 3, 1, 0] rfl ?_
  exact w_X10_text_b11 hlt C hx gx_fuel hf
theorem le_X10_text {D : gx_D} {r : Option Nat} {hz : HX} {h : HX} {a0 : Nat} {p1 : Int32} {p2 : Int32} (hf : f_X10_text D h a0 p1 p2 = some (r, hz)) : gx_le h hz := by
  unfold f_X10_text at hf
  replace hf := gx_bs hf
  obtain ⟨_, -, hf⟩ := hf
  replace hf := gx_b2s hf
  obtain ⟨a1, h2, g16, hf⟩ := hf
  refine (hx_le_new g16).tr ?_
  replace hf := gx_bs hf
  obtain ⟨h4, g3, hf⟩ := hf
  refine (le_J8_init g3).tr ?_
  exact le_X10_text_b11 gx_fuel hf
theorem w_X10_text {l : Launch} (hlt : l.stackTraces = false) {D : gx_D} {h : HX} {a0 : Nat} {p1 : Int32} {p2 : Int32} {r : Option Nat} {hz : HX} (hf : f_X10_text D h a0 p1 p2 = some (r, hz)) : gx_Met l yX10_text cX10_text 5 (some (.object "java/lang/String")) 7 175 D [(va_rf (some a0)), (.int p1), (.int p2)] h (some (va_rf r)) hz :=
  gx_ofG gz_126 (by simp only [gx_lsr, gx_lsi, gx_lsj, gx_ls0]; decide) (le_X10_text hf) (fun p e R s m args below meth c C hx => by
    simp only [gx_lar, gx_lai, gx_laj, gx_la0, Nat.reduceAdd]
    exact w_X10_text_b hlt C hx hf)
def f_X10_advance_b26 (D : gx_D) (k0 : HX → Nat → Option HX) (h : HX) (v0 : Nat) : Option HX :=
  (hx_gi h v0 [16, 18] 1).bind fun x5 =>
  (hx_pi h v0 [16, 18] 1 (x5 + (1 : Int32))).bind fun h6 =>
  k0 h6 v0
theorem w_X10_advance_b26 {l : Launch} (hlt : l.stackTraces = false) {p : Program} {e : Env} {R : Room} {s : State} {m : MethodId} {args : Array Value} {below : List Frame} {meth : Method} {c : Code} {D : gx_D} {h0 : HX} {hz : HX} (C : gx_Ctx p R s m args meth c "ContractMachine$Parser" cX10_advance 2 none 8 199 D h0 hz) (hx : meth.name = "advance")  {k0 : HX → Nat → Option HX} (wk0 : ∀ ⦃h : HX⦄ ⦃v0 : Nat⦄, k0 h v0 = some hz → gx_G p l e R s m args below meth c D h0 hz 2 (gx_MQ below args s D h0 hz none) 0 [(0, (va_rf (some v0)))] [] h) {h : HX} {v0 : Nat} (hf : f_X10_advance_b26 D k0 h v0 = some hz) : gx_G p l e R s m args below meth c D h0 hz 2 (gx_MQ below args s D h0 hz none) 26 [(0, (va_rf (some v0)))] [] h := by
  unfold f_X10_advance_b26 at hf
  refine gx_aload_n C dX10_advance_26 0 rfl ?_
  refine gx_dup C dX10_advance_27 rfl ?_
  replace hf := gx_bs hf
  obtain ⟨x5, g8, hf⟩ := hf
  refine gx_gi C g8 gz_176 q1126 dX10_advance_28 ?_
  refine gx_iconst (v := 1) C dX10_advance_31 rfl ?_
  refine gx_iadd C dX10_advance_32 ?_
  replace hf := gx_bs hf
  obtain ⟨h6, g7, hf⟩ := hf
  refine gx_putv C g7 gz_176 gz_1 rfl rfl q1126 dX10_advance_33 ?_
  refine gx_goto (tgt := 0) C dX10_advance_36 rfl ?_
  refine gx_sub [0] rfl ?_
  exact wk0 hf
theorem le_X10_advance_b26 {D : gx_D} {hz : HX} {k0 : HX → Nat → Option HX} (lek0 : ∀ ⦃h : HX⦄ ⦃v0 : Nat⦄, k0 h v0 = some hz → gx_le h hz) {h : HX} {v0 : Nat} (hf : f_X10_advance_b26 D k0 h v0 = some hz) : gx_le h hz := by
  unfold f_X10_advance_b26 at hf
  replace hf := gx_bs hf
  obtain ⟨x5, g8, hf⟩ := hf
  replace hf := gx_bs hf
  obtain ⟨h6, g7, hf⟩ := hf
  refine (hx_le_pv g7).tr ?_
  exact lek0 hf
def f_X10_advance_b162 (D : gx_D) (h : HX) (s0 : Option Nat) (s1 : Option Nat) : Option HX :=
  s1.bind fun a41 =>
  (hx_pr h a41 [16, 18] 3 s0).bind fun h42 =>
  some h42
theorem w_X10_advance_b162 {l : Launch} (hlt : l.stackTraces = false) {p : Program} {e : Env} {R : Room} {s : State} {m : MethodId} {args : Array Value} {below : List Frame} {meth : Method} {c : Code} {D : gx_D} {h0 : HX} {hz : HX} (C : gx_Ctx p R s m args meth c "ContractMachine$Parser" cX10_advance 2 none 8 199 D h0 hz) (hx : meth.name = "advance")  {h : HX} {s0 : Option Nat} {s1 : Option Nat} (hf : f_X10_advance_b162 D h s0 s1 = some hz) : gx_G p l e R s m args below meth c D h0 hz 2 (gx_MQ below args s D h0 hz none) 162 [] [(va_rf s0), (va_rf s1)] h := by
  unfold f_X10_advance_b162 at hf
  replace hf := gx_bs hf
  obtain ⟨a41, rfl, hf⟩ := hf
  replace hf := gx_bs hf
  obtain ⟨h42, g43, hf⟩ := hf
  refine gx_putv C g43 gz_178 gz_179 (gx_narrow_r rfl _).1 (gx_narrow_r rfl _).2 q1128 dX10_advance_162 ?_
  refine gx_goto (tgt := 289) C dX10_advance_165 rfl ?_
  obtain rfl := Option.some.inj hf
  exact gx_vret C dX10_advance_289
theorem le_X10_advance_b162 {D : gx_D} {hz : HX} {h : HX} {s0 : Option Nat} {s1 : Option Nat} (hf : f_X10_advance_b162 D h s0 s1 = some hz) : gx_le h hz := by
  unfold f_X10_advance_b162 at hf
  replace hf := gx_bs hf
  obtain ⟨a41, rfl, hf⟩ := hf
  replace hf := gx_bs hf
  obtain ⟨h42, g43, hf⟩ := hf
  refine (hx_le_pv g43).tr ?_
  obtain rfl := Option.some.inj hf
  exact gx_le.rf
def f_X10_advance_b131 (D : gx_D) (h : HX) (v0 : Nat) (s0 : Option Nat) (s1 : Option Nat) : Option HX :=
  s1.bind fun a32 =>
  (hx_pr h a32 [16, 18] 4 s0).bind fun h33 =>
  (hx_gr h33 v0 [16, 18] 4).bind fun r34 =>
  if r34 = (some (D.2.2.1 120)) then
  (hx_gi h33 v0 [16, 18] 0).bind fun x36 =>
  (hx_gi h33 v0 [16, 18] 1).bind fun x37 =>
  gx_b2 (f_X10_text D h33 v0 x36 x37) fun r39 h40 =>
  f_X10_advance_b162 D h40 r39 (some v0)
  else
  f_X10_advance_b162 D h33 (some (D.2.2.1 8)) (some v0)
theorem w_X10_advance_b131 {l : Launch} (hlt : l.stackTraces = false) {p : Program} {e : Env} {R : Room} {s : State} {m : MethodId} {args : Array Value} {below : List Frame} {meth : Method} {c : Code} {D : gx_D} {h0 : HX} {hz : HX} (C : gx_Ctx p R s m args meth c "ContractMachine$Parser" cX10_advance 2 none 8 199 D h0 hz) (hx : meth.name = "advance")  {h : HX} {v0 : Nat} {s0 : Option Nat} {s1 : Option Nat} (hf : f_X10_advance_b131 D h v0 s0 s1 = some hz) : gx_G p l e R s m args below meth c D h0 hz 2 (gx_MQ below args s D h0 hz none) 131 [(0, (va_rf (some v0)))] [(va_rf s0), (va_rf s1)] h := by
  unfold f_X10_advance_b131 at hf
  replace hf := gx_bs hf
  obtain ⟨a32, rfl, hf⟩ := hf
  replace hf := gx_bs hf
  obtain ⟨h33, g47, hf⟩ := hf
  refine gx_putv C g47 gz_180 gz_181 (gx_narrow_r rfl _).1 (gx_narrow_r rfl _).2 q1129 dX10_advance_131 ?_
  refine gx_aload_n C dX10_advance_134 0 rfl ?_
  refine gx_aload_n C dX10_advance_135 0 rfl ?_
  replace hf := gx_bs hf
  obtain ⟨r34, g46, hf⟩ := hf
  refine gx_gr C g46 gz_180 q1129 dX10_advance_136 ?_
  refine gx_statk C 9 rfl q995 dX10_advance_139 ?_
  replace hf := gx_ite hf
  rcases hf with ⟨c35, hf⟩ | ⟨c35, hf⟩
  · refine gx_acmp_ne_f (tgt := 160) C dX10_advance_142 rfl c35 ?_
    refine gx_aload_n C dX10_advance_145 0 rfl ?_
    refine gx_aload_n C dX10_advance_146 0 rfl ?_
    replace hf := gx_bs hf
    obtain ⟨x36, g45, hf⟩ := hf
    refine gx_gi C g45 gz_177 q1125 dX10_advance_147 ?_
    refine gx_aload_n C dX10_advance_150 0 rfl ?_
    replace hf := gx_bs hf
    obtain ⟨x37, g44, hf⟩ := hf
    refine gx_gi C g44 gz_176 q1126 dX10_advance_151 ?_
    replace hf := gx_b2s hf
    obtain ⟨r39, h40, g38, hf⟩ := hf
    refine gx_callU (st := [(va_rf (some v0))]) C (w_X10_text hlt g38) (is_X10_text g38) q999 q3272 (va_Decl.of (C.hts _ q1001) (C.hts _ q1002)) ⟨by decide, by decide⟩ (gx_cis1 gz_129 (gx_priv C 4 rfl) (gx_cis1 gz_128 (gx_priv C 5 rfl) gx_cis0)) q1001 q152 q1002 gz_183 (by decide) rfl rfl (gx_catn (Nat.le_of_ble_eq_true rfl)) dX10_advance_154 ?_
    refine gx_goto (tgt := 162) C dX10_advance_157 rfl ?_
    refine gx_sub [] rfl ?_
    exact w_X10_advance_b162 hlt C hx hf
  · refine gx_acmp_ne_t (tgt := 160) C dX10_advance_142 rfl c35 ?_
    refine gx_ldcS C 8 rfl dX10_advance_160 ?_
    refine gx_sub [] rfl ?_
    exact w_X10_advance_b162 hlt C hx hf
theorem le_X10_advance_b131 {D : gx_D} {hz : HX} {h : HX} {v0 : Nat} {s0 : Option Nat} {s1 : Option Nat} (hf : f_X10_advance_b131 D h v0 s0 s1 = some hz) : gx_le h hz := by
  unfold f_X10_advance_b131 at hf
  replace hf := gx_bs hf
  obtain ⟨a32, rfl, hf⟩ := hf
  replace hf := gx_bs hf
  obtain ⟨h33, g47, hf⟩ := hf
  refine (hx_le_pv g47).tr ?_
  replace hf := gx_bs hf
  obtain ⟨r34, g46, hf⟩ := hf
  replace hf := gx_ite hf
  rcases hf with ⟨c35, hf⟩ | ⟨c35, hf⟩
  · replace hf := gx_bs hf
    obtain ⟨x36, g45, hf⟩ := hf
    replace hf := gx_bs hf
    obtain ⟨x37, g44, hf⟩ := hf
    replace hf := gx_b2s hf
    obtain ⟨r39, h40, g38, hf⟩ := hf
    refine (le_X10_text g38).tr ?_
    exact le_X10_advance_b162 hf
  · exact le_X10_advance_b162 hf
def f_X10_advance_b254 (D : gx_D) (h : HX) (s0 : Int32) (s1 : Option Nat) : Option HX :=
  s1.bind fun a73 =>
  (hx_pi h a73 [16, 18] 2 s0).bind fun h74 =>
  some h74
theorem w_X10_advance_b254 {l : Launch} (hlt : l.stackTraces = false) {p : Program} {e : Env} {R : Room} {s : State} {m : MethodId} {args : Array Value} {below : List Frame} {meth : Method} {c : Code} {D : gx_D} {h0 : HX} {hz : HX} (C : gx_Ctx p R s m args meth c "ContractMachine$Parser" cX10_advance 2 none 8 199 D h0 hz) (hx : meth.name = "advance")  {h : HX} {s0 : Int32} {s1 : Option Nat} (hf : f_X10_advance_b254 D h s0 s1 = some hz) : gx_G p l e R s m args below meth c D h0 hz 2 (gx_MQ below args s D h0 hz none) 254 [] [(.int s0), (va_rf s1)] h := by
  unfold f_X10_advance_b254 at hf
  replace hf := gx_bs hf
  obtain ⟨a73, rfl, hf⟩ := hf
  replace hf := gx_bs hf
  obtain ⟨h74, g75, hf⟩ := hf
  refine gx_putv C g75 gz_184 gz_1 rfl rfl q1127 dX10_advance_254 ?_
  refine gx_goto (tgt := 289) C dX10_advance_257 rfl ?_
  obtain rfl := Option.some.inj hf
  exact gx_vret C dX10_advance_289
theorem le_X10_advance_b254 {D : gx_D} {hz : HX} {h : HX} {s0 : Int32} {s1 : Option Nat} (hf : f_X10_advance_b254 D h s0 s1 = some hz) : gx_le h hz := by
  unfold f_X10_advance_b254 at hf
  replace hf := gx_bs hf
  obtain ⟨a73, rfl, hf⟩ := hf
  replace hf := gx_bs hf
  obtain ⟨h74, g75, hf⟩ := hf
  refine (hx_le_pv g75).tr ?_
  obtain rfl := Option.some.inj hf
  exact gx_le.rf
def f_X10_advance_b221 (D : gx_D) (h : HX) (v0 : Nat) (s0 : Option Nat) (s1 : Option Nat) : Option HX :=
  s1.bind fun a62 =>
  (hx_pr h a62 [16, 18] 4 s0).bind fun h63 =>
  (hx_gr h63 v0 [16, 18] 4).bind fun r64 =>
  if r64 = (some (D.2.2.1 121)) then
  (hx_gi h63 v0 [16, 18] 0).bind fun x66 =>
  (hx_gi h63 v0 [16, 18] 1).bind fun x67 =>
  gx_b2 (f_X10_text D h63 v0 x66 x67) fun r69 h70 =>
  (f_J16_parseInt D h70 r69).bind fun x72 =>
  f_X10_advance_b254 D h70 x72 (some v0)
  else
  f_X10_advance_b254 D h63 ((0 : Int32)) (some v0)
theorem w_X10_advance_b221 {l : Launch} (hlt : l.stackTraces = false) {p : Program} {e : Env} {R : Room} {s : State} {m : MethodId} {args : Array Value} {below : List Frame} {meth : Method} {c : Code} {D : gx_D} {h0 : HX} {hz : HX} (C : gx_Ctx p R s m args meth c "ContractMachine$Parser" cX10_advance 2 none 8 199 D h0 hz) (hx : meth.name = "advance")  {h : HX} {v0 : Nat} {s0 : Option Nat} {s1 : Option Nat} (hf : f_X10_advance_b221 D h v0 s0 s1 = some hz) : gx_G p l e R s m args below meth c D h0 hz 2 (gx_MQ below args s D h0 hz none) 221 [(0, (va_rf (some v0)))] [(va_rf s0), (va_rf s1)] h := by
  unfold f_X10_advance_b221 at hf
  replace hf := gx_bs hf
  obtain ⟨a62, rfl, hf⟩ := hf
  replace hf := gx_bs hf
  obtain ⟨h63, g79, hf⟩ := hf
  refine gx_putv C g79 gz_180 gz_181 (gx_narrow_r rfl _).1 (gx_narrow_r rfl _).2 q1129 dX10_advance_221 ?_
  refine gx_aload_n C dX10_advance_224 0 rfl ?_
  refine gx_aload_n C dX10_advance_225 0 rfl ?_
  replace hf := gx_bs hf
  obtain ⟨r64, g78, hf⟩ := hf
  refine gx_gr C g78 gz_180 q1129 dX10_advance_226 ?_
  refine gx_statk C 10 rfl q1030 dX10_advance_229 ?_
  replace hf := gx_ite hf
  rcases hf with ⟨c65, hf⟩ | ⟨c65, hf⟩
  · refine gx_acmp_ne_f (tgt := 253) C dX10_advance_232 rfl c65 ?_
    refine gx_aload_n C dX10_advance_235 0 rfl ?_
    refine gx_aload_n C dX10_advance_236 0 rfl ?_
    replace hf := gx_bs hf
    obtain ⟨x66, g77, hf⟩ := hf
    refine gx_gi C g77 gz_177 q1125 dX10_advance_237 ?_
    refine gx_aload_n C dX10_advance_240 0 rfl ?_
    replace hf := gx_bs hf
    obtain ⟨x67, g76, hf⟩ := hf
    refine gx_gi C g76 gz_176 q1126 dX10_advance_241 ?_
    replace hf := gx_b2s hf
    obtain ⟨r69, h70, g68, hf⟩ := hf
    refine gx_callU (st := [(va_rf (some v0))]) C (w_X10_text hlt g68) (is_X10_text g68) q999 q3272 (va_Decl.of (C.hts _ q1001) (C.hts _ q1002)) ⟨by decide, by decide⟩ (gx_cis1 gz_129 (gx_priv C 4 rfl) (gx_cis1 gz_128 (gx_priv C 5 rfl) gx_cis0)) q1001 q152 q1002 gz_183 (by decide) rfl rfl (gx_catn (Nat.le_of_ble_eq_true rfl)) dX10_advance_244 ?_
    replace hf := gx_bs hf
    obtain ⟨x72, g71, hf⟩ := hf
    refine gx_callS (st := [(va_rf (some v0))]) C (w_J16_parseInt hlt g71) (lw_S q1032 q1033 q143 q1034) gz_185 (by decide) rfl rfl (gx_catn (Nat.le_of_ble_eq_true rfl)) dX10_advance_247 ?_
    refine gx_goto (tgt := 254) C dX10_advance_250 rfl ?_
    refine gx_sub [] rfl ?_
    exact w_X10_advance_b254 hlt C hx hf
  · refine gx_acmp_ne_t (tgt := 253) C dX10_advance_232 rfl c65 ?_
    refine gx_iconst (v := 0) C dX10_advance_253 rfl ?_
    refine gx_sub [] rfl ?_
    exact w_X10_advance_b254 hlt C hx hf
theorem le_X10_advance_b221 {D : gx_D} {hz : HX} {h : HX} {v0 : Nat} {s0 : Option Nat} {s1 : Option Nat} (hf : f_X10_advance_b221 D h v0 s0 s1 = some hz) : gx_le h hz := by
  unfold f_X10_advance_b221 at hf
  replace hf := gx_bs hf
  obtain ⟨a62, rfl, hf⟩ := hf
  replace hf := gx_bs hf
  obtain ⟨h63, g79, hf⟩ := hf
  refine (hx_le_pv g79).tr ?_
  replace hf := gx_bs hf
  obtain ⟨r64, g78, hf⟩ := hf
  replace hf := gx_ite hf
  rcases hf with ⟨c65, hf⟩ | ⟨c65, hf⟩
  · replace hf := gx_bs hf
    obtain ⟨x66, g77, hf⟩ := hf
    replace hf := gx_bs hf
    obtain ⟨x67, g76, hf⟩ := hf
    replace hf := gx_b2s hf
    obtain ⟨r69, h70, g68, hf⟩ := hf
    refine (le_X10_text g68).tr ?_
    replace hf := gx_bs hf
    obtain ⟨x72, g71, hf⟩ := hf
    exact le_X10_advance_b254 hf
  · exact le_X10_advance_b254 hf
def f_X10_advance_b276 (D : gx_D) (h : HX) (v0 : Nat) (s0 : Option Nat) (s1 : Option Nat) : Option HX :=
  s1.bind fun a85 =>
  (hx_pr h a85 [16, 18] 4 s0).bind fun h86 =>
  (hx_gi h86 v0 [16, 18] 1).bind fun x87 =>
  (hx_pi h86 v0 [16, 18] 1 (x87 + (1 : Int32))).bind fun h88 =>
  some h88
theorem w_X10_advance_b276 {l : Launch} (hlt : l.stackTraces = false) {p : Program} {e : Env} {R : Room} {s : State} {m : MethodId} {args : Array Value} {below : List Frame} {meth : Method} {c : Code} {D : gx_D} {h0 : HX} {hz : HX} (C : gx_Ctx p R s m args meth c "ContractMachine$Parser" cX10_advance 2 none 8 199 D h0 hz) (hx : meth.name = "advance")  {h : HX} {v0 : Nat} {s0 : Option Nat} {s1 : Option Nat} (hf : f_X10_advance_b276 D h v0 s0 s1 = some hz) : gx_G p l e R s m args below meth c D h0 hz 2 (gx_MQ below args s D h0 hz none) 276 [(0, (va_rf (some v0)))] [(va_rf s0), (va_rf s1)] h := by
  unfold f_X10_advance_b276 at hf
  replace hf := gx_bs hf
  obtain ⟨a85, rfl, hf⟩ := hf
  replace hf := gx_bs hf
  obtain ⟨h86, g91, hf⟩ := hf
  refine gx_putv C g91 gz_180 gz_181 (gx_narrow_r rfl _).1 (gx_narrow_r rfl _).2 q1129 dX10_advance_276 ?_
  refine gx_aload_n C dX10_advance_279 0 rfl ?_
  refine gx_dup C dX10_advance_280 rfl ?_
  replace hf := gx_bs hf
  obtain ⟨x87, g90, hf⟩ := hf
  refine gx_gi C g90 gz_176 q1126 dX10_advance_281 ?_
  refine gx_iconst (v := 1) C dX10_advance_284 rfl ?_
  refine gx_iadd C dX10_advance_285 ?_
  replace hf := gx_bs hf
  obtain ⟨h88, g89, hf⟩ := hf
  refine gx_putv C g89 gz_176 gz_1 rfl rfl q1126 dX10_advance_286 ?_
  obtain rfl := Option.some.inj hf
  exact gx_vret C dX10_advance_289
theorem le_X10_advance_b276 {D : gx_D} {hz : HX} {h : HX} {v0 : Nat} {s0 : Option Nat} {s1 : Option Nat} (hf : f_X10_advance_b276 D h v0 s0 s1 = some hz) : gx_le h hz := by
  unfold f_X10_advance_b276 at hf
  replace hf := gx_bs hf
  obtain ⟨a85, rfl, hf⟩ := hf
  replace hf := gx_bs hf
  obtain ⟨h86, g91, hf⟩ := hf
  refine (hx_le_pv g91).tr ?_
  replace hf := gx_bs hf
  obtain ⟨x87, g90, hf⟩ := hf
  replace hf := gx_bs hf
  obtain ⟨h88, g89, hf⟩ := hf
  refine (hx_le_pv g89).tr ?_
  obtain rfl := Option.some.inj hf
  exact gx_le.rf
def f_X10_advance_b39 (D : gx_D) (h : HX) (v0 : Nat) : Option HX :=
  (hx_gi h v0 [16, 18] 1).bind fun x13 =>
  (hx_pi h v0 [16, 18] 0 x13).bind fun h14 =>
  (hx_pr h14 v0 [16, 18] 3 (some (D.2.2.1 8))).bind fun h15 =>
  (hx_gi h15 v0 [16, 18] 0).bind fun x16 =>
  (f_X10_at D h15 v0 x16).bind fun x18 =>
  if x18 = (-1 : Int32) then
  (hx_pr h15 v0 [16, 18] 4 (some (D.2.2.1 123))).bind fun h20 =>
  some h20
  else
  (f_X1_isWithin D h15 (Int32.toInt64 x18) (97 : Int64) (122 : Int64)).bind fun b23 =>
  if b23 = true then
  (hx_gi h15 v0 [16, 18] 0).bind fun x25 =>
  (f_X10_endOfRun D h15 v0 x25 (97 : Int32) (122 : Int32)).bind fun x27 =>
  (hx_pi h15 v0 [16, 18] 1 x27).bind fun h28 =>
  (hx_gi h28 v0 [16, 18] 1).bind fun x29 =>
  (hx_gi h28 v0 [16, 18] 0).bind fun x30 =>
  if (8 : Int32) < (x29 - x30) then
  f_X10_advance_b131 D h28 v0 (some (D.2.2.1 124)) (some v0)
  else
  f_X10_advance_b131 D h28 v0 (some (D.2.2.1 120)) (some v0)
  else
  (f_X1_isWithin D h15 (Int32.toInt64 x18) (48 : Int64) (57 : Int64)).bind fun b53 =>
  if b53 = true then
  (hx_gi h15 v0 [16, 18] 0).bind fun x55 =>
  (f_X10_endOfRun D h15 v0 x55 (48 : Int32) (57 : Int32)).bind fun x57 =>
  (hx_pi h15 v0 [16, 18] 1 x57).bind fun h58 =>
  (hx_gi h58 v0 [16, 18] 1).bind fun x59 =>
  (hx_gi h58 v0 [16, 18] 0).bind fun x60 =>
  if (3 : Int32) < (x59 - x60) then
  f_X10_advance_b221 D h58 v0 (some (D.2.2.1 124)) (some v0)
  else
  f_X10_advance_b221 D h58 v0 (some (D.2.2.1 121)) (some v0)
  else
  if x18 = (59 : Int32) then
  f_X10_advance_b276 D h15 v0 (some (D.2.2.1 122)) (some v0)
  else
  f_X10_advance_b276 D h15 v0 (some (D.2.2.1 124)) (some v0)
theorem w_X10_advance_b39 {l : Launch} (hlt : l.stackTraces = false) {p : Program} {e : Env} {R : Room} {s : State} {m : MethodId} {args : Array Value} {below : List Frame} {meth : Method} {c : Code} {D : gx_D} {h0 : HX} {hz : HX} (C : gx_Ctx p R s m args meth c "ContractMachine$Parser" cX10_advance 2 none 8 199 D h0 hz) (hx : meth.name = "advance")  {h : HX} {v0 : Nat} (hf : f_X10_advance_b39 D h v0 = some hz) : gx_G p l e R s m args below meth c D h0 hz 2 (gx_MQ below args s D h0 hz none) 39 [(0, (va_rf (some v0)))] [] h := by
  unfold f_X10_advance_b39 at hf
  refine gx_aload_n C dX10_advance_39 0 rfl ?_
  refine gx_aload_n C dX10_advance_40 0 rfl ?_
  replace hf := gx_bs hf
  obtain ⟨x13, g95, hf⟩ := hf
  refine gx_gi C g95 gz_176 q1126 dX10_advance_41 ?_
  replace hf := gx_bs hf
  obtain ⟨h14, g94, hf⟩ := hf
  refine gx_putv C g94 gz_177 gz_1 rfl rfl q1125 dX10_advance_44 ?_
  refine gx_aload_n C dX10_advance_47 0 rfl ?_
  refine gx_ldcS C 8 rfl dX10_advance_48 ?_
  replace hf := gx_bs hf
  obtain ⟨h15, g93, hf⟩ := hf
  refine gx_putv C g93 gz_178 gz_179 (gx_narrow_r rfl _).1 (gx_narrow_r rfl _).2 q1128 dX10_advance_50 ?_
  refine gx_aload_n C dX10_advance_53 0 rfl ?_
  refine gx_aload_n C dX10_advance_54 0 rfl ?_
  replace hf := gx_bs hf
  obtain ⟨x16, g92, hf⟩ := hf
  refine gx_gi C g92 gz_177 q1125 dX10_advance_55 ?_
  replace hf := gx_bs hf
  obtain ⟨x18, g17, hf⟩ := hf
  refine gx_callU (st := []) C (w_X10_at hlt g17) (is_X10_at g17) q981 q3270 (va_Decl.of (C.hts _ q983) (C.hts _ q985)) ⟨by decide, by decide⟩ (gx_cis1 gz_129 (gx_priv C 0 rfl) (gx_cis1 gz_128 (gx_priv C 1 rfl) gx_cis0)) q983 q152 q985 gz_127 (by decide) rfl rfl (gx_catn (Nat.le_of_ble_eq_true rfl)) dX10_advance_58 ?_
  refine gx_istn C dX10_advance_61 1 rfl (by decide) [0]  rfl (gx_okr rfl gx_catv_r gx_ok0) ?_
  refine gx_iload_n C dX10_advance_62 0 rfl ?_
  refine gx_iconst (v := -1) C dX10_advance_63 rfl ?_
  replace hf := gx_ite hf
  rcases hf with ⟨c19, hf⟩ | ⟨c19, hf⟩
  · refine gx_icmp_ne_f (tgt := 77) C dX10_advance_64 rfl c19 ?_
    refine gx_aload_n C dX10_advance_67 1 rfl ?_
    refine gx_statk C 12 rfl q986 dX10_advance_68 ?_
    replace hf := gx_bs hf
    obtain ⟨h20, g21, hf⟩ := hf
    refine gx_putv C g21 gz_180 gz_181 (gx_narrow_r rfl _).1 (gx_narrow_r rfl _).2 q1129 dX10_advance_71 ?_
    refine gx_goto (tgt := 289) C dX10_advance_74 rfl ?_
    obtain rfl := Option.some.inj hf
    exact gx_vret C dX10_advance_289
  · refine gx_icmp_ne_t (tgt := 77) C dX10_advance_64 rfl c19 ?_
    refine gx_iload_n C dX10_advance_77 0 rfl ?_
    refine gx_i2l C dX10_advance_78 ?_
    refine gx_ldc2 C q988 dX10_advance_79 ?_
    refine gx_ldc2 C q989 dX10_advance_82 ?_
    replace hf := gx_bs hf
    obtain ⟨b23, g22, hf⟩ := hf
    refine gx_callSN (st := []) C (w_X1_isWithin hlt g22) q990 q954 q121 q955 gz_121 (by decide) rfl rfl (gx_catn (Nat.le_of_ble_eq_true rfl)) dX10_advance_85 ?_
    replace hf := gx_ite hf
    rcases hf with ⟨c24, hf⟩ | ⟨c24, hf⟩
    · refine gx_ifz_eq_f (tgt := 168) C dX10_advance_88 rfl c24 ?_
      refine gx_aload_n C dX10_advance_91 1 rfl ?_
      refine gx_aload_n C dX10_advance_92 1 rfl ?_
      refine gx_aload_n C dX10_advance_93 1 rfl ?_
      replace hf := gx_bs hf
      obtain ⟨x25, g51, hf⟩ := hf
      refine gx_gi C g51 gz_177 q1125 dX10_advance_94 ?_
      refine gx_bipush (v := 97) C dX10_advance_97 rfl ?_
      refine gx_bipush (v := 122) C dX10_advance_99 rfl ?_
      replace hf := gx_bs hf
      obtain ⟨x27, g26, hf⟩ := hf
      refine gx_callU (st := [(va_rf (some v0))]) C (w_X10_endOfRun hlt g26) (is_X10_endOfRun g26) q991 q3271 (va_Decl.of (C.hts _ q993) (C.hts _ q994)) ⟨by decide, by decide⟩ (gx_cis1 gz_129 (gx_priv C 2 rfl) (gx_cis1 gz_128 (gx_priv C 3 rfl) gx_cis0)) q993 q152 q994 gz_182 (by decide) rfl rfl (gx_catn (Nat.le_of_ble_eq_true rfl)) dX10_advance_101 ?_
      replace hf := gx_bs hf
      obtain ⟨h28, g50, hf⟩ := hf
      refine gx_putv C g50 gz_176 gz_1 rfl rfl q1126 dX10_advance_104 ?_
      refine gx_aload_n C dX10_advance_107 1 rfl ?_
      refine gx_aload_n C dX10_advance_108 1 rfl ?_
      replace hf := gx_bs hf
      obtain ⟨x29, g49, hf⟩ := hf
      refine gx_gi C g49 gz_176 q1126 dX10_advance_109 ?_
      refine gx_aload_n C dX10_advance_112 1 rfl ?_
      replace hf := gx_bs hf
      obtain ⟨x30, g48, hf⟩ := hf
      refine gx_gi C g48 gz_177 q1125 dX10_advance_113 ?_
      refine gx_isub C dX10_advance_116 ?_
      refine gx_bipush (v := 8) C dX10_advance_117 rfl ?_
      replace hf := gx_ite hf
      rcases hf with ⟨c31, hf⟩ | ⟨c31, hf⟩
      · refine gx_icmp_gt_t (tgt := 128) C dX10_advance_119 rfl c31 ?_
        refine gx_statk C 13 rfl q997 dX10_advance_128 ?_
        refine gx_sub [1] rfl ?_
        exact w_X10_advance_b131 hlt C hx hf
      · refine gx_icmp_gt_f (tgt := 128) C dX10_advance_119 rfl c31 ?_
        refine gx_statk C 9 rfl q995 dX10_advance_122 ?_
        refine gx_goto (tgt := 131) C dX10_advance_125 rfl ?_
        refine gx_sub [1] rfl ?_
        exact w_X10_advance_b131 hlt C hx hf
    · refine gx_ifz_eq_t (tgt := 168) C dX10_advance_88 rfl c24 ?_
      refine gx_iload_n C dX10_advance_168 0 rfl ?_
      refine gx_i2l C dX10_advance_169 ?_
      refine gx_ldc2 C q1028 dX10_advance_170 ?_
      refine gx_ldc2 C q1029 dX10_advance_173 ?_
      replace hf := gx_bs hf
      obtain ⟨b53, g52, hf⟩ := hf
      refine gx_callSN (st := []) C (w_X1_isWithin hlt g52) q990 q954 q121 q955 gz_121 (by decide) rfl rfl (gx_catn (Nat.le_of_ble_eq_true rfl)) dX10_advance_176 ?_
      replace hf := gx_ite hf
      rcases hf with ⟨c54, hf⟩ | ⟨c54, hf⟩
      · refine gx_ifz_eq_f (tgt := 260) C dX10_advance_179 rfl c54 ?_
        refine gx_aload_n C dX10_advance_182 1 rfl ?_
        refine gx_aload_n C dX10_advance_183 1 rfl ?_
        refine gx_aload_n C dX10_advance_184 1 rfl ?_
        replace hf := gx_bs hf
        obtain ⟨x55, g83, hf⟩ := hf
        refine gx_gi C g83 gz_177 q1125 dX10_advance_185 ?_
        refine gx_bipush (v := 48) C dX10_advance_188 rfl ?_
        refine gx_bipush (v := 57) C dX10_advance_190 rfl ?_
        replace hf := gx_bs hf
        obtain ⟨x57, g56, hf⟩ := hf
        refine gx_callU (st := [(va_rf (some v0))]) C (w_X10_endOfRun hlt g56) (is_X10_endOfRun g56) q991 q3271 (va_Decl.of (C.hts _ q993) (C.hts _ q994)) ⟨by decide, by decide⟩ (gx_cis1 gz_129 (gx_priv C 2 rfl) (gx_cis1 gz_128 (gx_priv C 3 rfl) gx_cis0)) q993 q152 q994 gz_182 (by decide) rfl rfl (gx_catn (Nat.le_of_ble_eq_true rfl)) dX10_advance_192 ?_
        replace hf := gx_bs hf
        obtain ⟨h58, g82, hf⟩ := hf
        refine gx_putv C g82 gz_176 gz_1 rfl rfl q1126 dX10_advance_195 ?_
        refine gx_aload_n C dX10_advance_198 1 rfl ?_
        refine gx_aload_n C dX10_advance_199 1 rfl ?_
        replace hf := gx_bs hf
        obtain ⟨x59, g81, hf⟩ := hf
        refine gx_gi C g81 gz_176 q1126 dX10_advance_200 ?_
        refine gx_aload_n C dX10_advance_203 1 rfl ?_
        replace hf := gx_bs hf
        obtain ⟨x60, g80, hf⟩ := hf
        refine gx_gi C g80 gz_177 q1125 dX10_advance_204 ?_
        refine gx_isub C dX10_advance_207 ?_
        refine gx_iconst (v := 3) C dX10_advance_208 rfl ?_
        replace hf := gx_ite hf
        rcases hf with ⟨c61, hf⟩ | ⟨c61, hf⟩
        · refine gx_icmp_gt_t (tgt := 218) C dX10_advance_209 rfl c61 ?_
          refine gx_statk C 13 rfl q997 dX10_advance_218 ?_
          refine gx_sub [1] rfl ?_
          exact w_X10_advance_b221 hlt C hx hf
        · refine gx_icmp_gt_f (tgt := 218) C dX10_advance_209 rfl c61 ?_
          refine gx_statk C 10 rfl q1030 dX10_advance_212 ?_
          refine gx_goto (tgt := 221) C dX10_advance_215 rfl ?_
          refine gx_sub [1] rfl ?_
          exact w_X10_advance_b221 hlt C hx hf
      · refine gx_ifz_eq_t (tgt := 260) C dX10_advance_179 rfl c54 ?_
        refine gx_aload_n C dX10_advance_260 1 rfl ?_
        refine gx_iload_n C dX10_advance_261 0 rfl ?_
        refine gx_bipush (v := 59) C dX10_advance_262 rfl ?_
        replace hf := gx_ite hf
        rcases hf with ⟨c84, hf⟩ | ⟨c84, hf⟩
        · refine gx_icmp_ne_f (tgt := 273) C dX10_advance_264 rfl c84 ?_
          refine gx_statk C 11 rfl q1115 dX10_advance_267 ?_
          refine gx_goto (tgt := 276) C dX10_advance_270 rfl ?_
          refine gx_sub [1] rfl ?_
          exact w_X10_advance_b276 hlt C hx hf
        · refine gx_icmp_ne_t (tgt := 273) C dX10_advance_264 rfl c84 ?_
          refine gx_statk C 13 rfl q997 dX10_advance_273 ?_
          refine gx_sub [1] rfl ?_
          exact w_X10_advance_b276 hlt C hx hf
theorem le_X10_advance_b39 {D : gx_D} {hz : HX} {h : HX} {v0 : Nat} (hf : f_X10_advance_b39 D h v0 = some hz) : gx_le h hz := by
  unfold f_X10_advance_b39 at hf
  replace hf := gx_bs hf
  obtain ⟨x13, g95, hf⟩ := hf
  replace hf := gx_bs hf
  obtain ⟨h14, g94, hf⟩ := hf
  refine (hx_le_pv g94).tr ?_
  replace hf := gx_bs hf
  obtain ⟨h15, g93, hf⟩ := hf
  refine (hx_le_pv g93).tr ?_
  replace hf := gx_bs hf
  obtain ⟨x16, g92, hf⟩ := hf
  replace hf := gx_bs hf
  obtain ⟨x18, g17, hf⟩ := hf
  replace hf := gx_ite hf
  rcases hf with ⟨c19, hf⟩ | ⟨c19, hf⟩
  · replace hf := gx_bs hf
    obtain ⟨h20, g21, hf⟩ := hf
    refine (hx_le_pv g21).tr ?_
    obtain rfl := Option.some.inj hf
    exact gx_le.rf
  · replace hf := gx_bs hf
    obtain ⟨b23, g22, hf⟩ := hf
    replace hf := gx_ite hf
    rcases hf with ⟨c24, hf⟩ | ⟨c24, hf⟩
    · replace hf := gx_bs hf
      obtain ⟨x25, g51, hf⟩ := hf
      replace hf := gx_bs hf
      obtain ⟨x27, g26, hf⟩ := hf
      replace hf := gx_bs hf
      obtain ⟨h28, g50, hf⟩ := hf
      refine (hx_le_pv g50).tr ?_
      replace hf := gx_bs hf
      obtain ⟨x29, g49, hf⟩ := hf
      replace hf := gx_bs hf
      obtain ⟨x30, g48, hf⟩ := hf
      replace hf := gx_ite hf
      rcases hf with ⟨c31, hf⟩ | ⟨c31, hf⟩
      · exact le_X10_advance_b131 hf
      · exact le_X10_advance_b131 hf
    · replace hf := gx_bs hf
      obtain ⟨b53, g52, hf⟩ := hf
      replace hf := gx_ite hf
      rcases hf with ⟨c54, hf⟩ | ⟨c54, hf⟩
      · replace hf := gx_bs hf
        obtain ⟨x55, g83, hf⟩ := hf
        replace hf := gx_bs hf
        obtain ⟨x57, g56, hf⟩ := hf
        replace hf := gx_bs hf
        obtain ⟨h58, g82, hf⟩ := hf
        refine (hx_le_pv g82).tr ?_
        replace hf := gx_bs hf
        obtain ⟨x59, g81, hf⟩ := hf
        replace hf := gx_bs hf
        obtain ⟨x60, g80, hf⟩ := hf
        replace hf := gx_ite hf
        rcases hf with ⟨c61, hf⟩ | ⟨c61, hf⟩
        · exact le_X10_advance_b221 hf
        · exact le_X10_advance_b221 hf
      · replace hf := gx_ite hf
        rcases hf with ⟨c84, hf⟩ | ⟨c84, hf⟩
        · exact le_X10_advance_b276 hf
        · exact le_X10_advance_b276 hf
def f_X10_advance_b0 (D : gx_D) : Nat → HX → Nat → Option HX
  | 0, _, _ => none
  | n + 1, h, v0 =>
  (hx_gi h v0 [16, 18] 1).bind fun x1 =>
  (f_X10_at D h v0 x1).bind fun x3 =>
  if x3 = (32 : Int32) then
  f_X10_advance_b26 D (f_X10_advance_b0 D n) h v0
  else
  (hx_gi h v0 [16, 18] 1).bind fun x9 =>
  (f_X10_at D h v0 x9).bind fun x11 =>
  if x11 = (10 : Int32) then
  f_X10_advance_b26 D (f_X10_advance_b0 D n) h v0
  else
  f_X10_advance_b39 D h v0
theorem w_X10_advance_b0 {l : Launch} (hlt : l.stackTraces = false) {p : Program} {e : Env} {R : Room} {s : State} {m : MethodId} {args : Array Value} {below : List Frame} {meth : Method} {c : Code} {D : gx_D} {h0 : HX} {hz : HX} (C : gx_Ctx p R s m args meth c "ContractMachine$Parser" cX10_advance 2 none 8 199 D h0 hz) (hx : meth.name = "advance")  : ∀ (n : Nat) ⦃h : HX⦄ ⦃v0 : Nat⦄, f_X10_advance_b0 D n h v0 = some hz → gx_G p l e R s m args below meth c D h0 hz 2 (gx_MQ below args s D h0 hz none) 0 [(0, (va_rf (some v0)))] [] h := by
  intro n
  induction n with
  | zero => intro h v0 hf; unfold f_X10_advance_b0 at hf; cases hf
  | succ n wk0 =>
    intro h v0 hf
    unfold f_X10_advance_b0 at hf
    refine gx_aload_n C dX10_advance_0 0 rfl ?_
    refine gx_aload_n C dX10_advance_1 0 rfl ?_
    replace hf := gx_bs hf
    obtain ⟨x1, g97, hf⟩ := hf
    refine gx_gi C g97 gz_176 q1126 dX10_advance_2 ?_
    replace hf := gx_bs hf
    obtain ⟨x3, g2, hf⟩ := hf
    refine gx_callU (st := []) C (w_X10_at hlt g2) (is_X10_at g2) q981 q3270 (va_Decl.of (C.hts _ q983) (C.hts _ q985)) ⟨by decide, by decide⟩ (gx_cis1 gz_129 (gx_priv C 0 rfl) (gx_cis1 gz_128 (gx_priv C 1 rfl) gx_cis0)) q983 q152 q985 gz_127 (by decide) rfl rfl (gx_catn (Nat.le_of_ble_eq_true rfl)) dX10_advance_5 ?_
    refine gx_bipush (v := 32) C dX10_advance_8 rfl ?_
    replace hf := gx_ite hf
    rcases hf with ⟨c4, hf⟩ | ⟨c4, hf⟩
    · refine gx_icmp_eq_t (tgt := 26) C dX10_advance_10 rfl c4 ?_
      refine gx_sub [0] rfl ?_
      exact w_X10_advance_b26 hlt C hx wk0 hf
    · refine gx_icmp_eq_f (tgt := 26) C dX10_advance_10 rfl c4 ?_
      refine gx_aload_n C dX10_advance_13 0 rfl ?_
      refine gx_aload_n C dX10_advance_14 0 rfl ?_
      replace hf := gx_bs hf
      obtain ⟨x9, g96, hf⟩ := hf
      refine gx_gi C g96 gz_176 q1126 dX10_advance_15 ?_
      replace hf := gx_bs hf
      obtain ⟨x11, g10, hf⟩ := hf
      refine gx_callU (st := []) C (w_X10_at hlt g10) (is_X10_at g10) q981 q3270 (va_Decl.of (C.hts _ q983) (C.hts _ q985)) ⟨by decide, by decide⟩ (gx_cis1 gz_129 (gx_priv C 0 rfl) (gx_cis1 gz_128 (gx_priv C 1 rfl) gx_cis0)) q983 q152 q985 gz_127 (by decide) rfl rfl (gx_catn (Nat.le_of_ble_eq_true rfl)) dX10_advance_18 ?_
      refine gx_bipush (v := 10) C dX10_advance_21 rfl ?_
      replace hf := gx_ite hf
      rcases hf with ⟨c12, hf⟩ | ⟨c12, hf⟩
      · refine gx_icmp_ne_f (tgt := 39) C dX10_advance_23 rfl c12 ?_
        refine gx_sub [0] rfl ?_
        exact w_X10_advance_b26 hlt C hx wk0 hf
      · refine gx_icmp_ne_t (tgt := 39) C dX10_advance_23 rfl c12 ?_
        refine gx_sub [0] rfl ?_
        exact w_X10_advance_b39 hlt C hx hf
theorem le_X10_advance_b0 {D : gx_D} {hz : HX} : ∀ (n : Nat) ⦃h : HX⦄ ⦃v0 : Nat⦄, f_X10_advance_b0 D n h v0 = some hz → gx_le h hz := by
  intro n
  induction n with
  | zero => intro h v0 hf; unfold f_X10_advance_b0 at hf; cases hf
  | succ n lek0 =>
    intro h v0 hf
    unfold f_X10_advance_b0 at hf
    replace hf := gx_bs hf
    obtain ⟨x1, g97, hf⟩ := hf
    replace hf := gx_bs hf
    obtain ⟨x3, g2, hf⟩ := hf
    replace hf := gx_ite hf
    rcases hf with ⟨c4, hf⟩ | ⟨c4, hf⟩
    · exact le_X10_advance_b26 lek0 hf
    · replace hf := gx_bs hf
      obtain ⟨x9, g96, hf⟩ := hf
      replace hf := gx_bs hf
      obtain ⟨x11, g10, hf⟩ := hf
      replace hf := gx_ite hf
      rcases hf with ⟨c12, hf⟩ | ⟨c12, hf⟩
      · exact le_X10_advance_b26 lek0 hf
      · exact le_X10_advance_b39 hf
def f_X10_advance (D : gx_D) (h : HX) (a0 : Nat) : Option HX :=
  (hx_is h a0 [16, 18]).bind fun _ =>
  f_X10_advance_b0 D gx_fuel h a0
theorem is_X10_advance {D : gx_D} {h : HX} {a0 : Nat} {z} (hf : f_X10_advance D h a0 = some z) : gx_isC h a0 [16, 18] := by
  unfold f_X10_advance at hf
  obtain ⟨_, g, -⟩ := gx_bs hf
  exact hx_is_of g
theorem w_X10_advance_b {l : Launch} (hlt : l.stackTraces = false) {p : Program} {e : Env} {R : Room} {s : State} {m : MethodId} {args : Array Value} {below : List Frame} {meth : Method} {c : Code} {D : gx_D} {h0 : HX} {hz : HX} (C : gx_Ctx p R s m args meth c "ContractMachine$Parser" cX10_advance 2 none 8 199 D h0 hz) (hx : meth.name = "advance") {a0 : Nat} (hf : f_X10_advance D h0 a0 = some hz) : gx_G p l e R s m args below meth c D h0 hz 2 (gx_MQ below args s D h0 hz none) 0 [(0, (va_rf (some a0)))] [] h0 := by
  unfold f_X10_advance at hf
  replace hf := gx_bs hf
  obtain ⟨_, -, hf⟩ := hf
  refine gx_sub [0] rfl ?_
  exact w_X10_advance_b0 hlt C hx gx_fuel hf
theorem le_X10_advance {D : gx_D} {hz : HX} {h : HX} {a0 : Nat} (hf : f_X10_advance D h a0 = some hz) : gx_le h hz := by
  unfold f_X10_advance at hf
  replace hf := gx_bs hf
  obtain ⟨_, -, hf⟩ := hf
  exact le_X10_advance_b0 gx_fuel hf
theorem w_X10_advance {l : Launch} (hlt : l.stackTraces = false) {D : gx_D} {h : HX} {a0 : Nat} {hz : HX} (hf : f_X10_advance D h a0 = some hz) : gx_Met l yX10_advance cX10_advance 2 none 8 199 D [(va_rf (some a0))] h none hz :=
  gx_ofG gz_126 (by simp only [gx_lsr, gx_lsi, gx_lsj, gx_ls0]; decide) (le_X10_advance hf) (fun p e R s m args below meth c C hx => by
    simp only [gx_lar, gx_lai, gx_laj, gx_la0, Nat.reduceAdd]
    exact w_X10_advance_b hlt C hx hf)
def f_X10_init (D : gx_D) (h : HX) (a0 : Nat) (p1 : Option Nat) : Option HX :=
  (hx_pr h a0 [16, 18] 5 p1).bind fun h1 =>
  (hx_pr h1 a0 [16, 18] 3 (some (D.2.2.1 8))).bind fun h2 =>
  (f_X10_advance D h2 a0).bind fun h4 =>
  some h4
theorem w_X10_init_b {l : Launch} (hlt : l.stackTraces = false) {p : Program} {e : Env} {R : Room} {s : State} {m : MethodId} {args : Array Value} {below : List Frame} {meth : Method} {c : Code} {D : gx_D} {h0 : HX} {hz : HX} (C : gx_Ctx p R s m args meth c "ContractMachine$Parser" cX10_init 2 none 9 220 D h0 hz) (hx : meth.name = "<init>") {a0 : Nat} {p1 : Option Nat} (hf : f_X10_init D h0 a0 p1 = some hz) : gx_G p l e R s m args below meth c D h0 hz 2 (gx_MQ below args s D h0 hz none) 0 [(0, (va_rf (some a0))), (1, (va_rf p1))] [] h0 := by
  unfold f_X10_init at hf
  refine gx_aload_n C dX10_init_0 0 rfl ?_
  refine gx_aload_n C dX10_init_1 1 rfl ?_
  replace hf := gx_bs hf
  obtain ⟨h1, g6, hf⟩ := hf
  refine gx_putvF C hx g6 gz_125 gz_186 (gx_narrow_r rfl _).1 (gx_narrow_r rfl _).2 q1130 dX10_init_2 ?_
  refine gx_aload_n C dX10_init_5 0 rfl ?_
  refine gx_objInit (st := []) C q973 q188 q189 (by decide) (by decide) dX10_init_6 ?_
  refine gx_aload_n C dX10_init_9 0 rfl ?_
  refine gx_ldcS C 8 rfl dX10_init_10 ?_
  replace hf := gx_bs hf
  obtain ⟨h2, g5, hf⟩ := hf
  refine gx_putv C g5 gz_178 gz_179 (gx_narrow_r rfl _).1 (gx_narrow_r rfl _).2 q1128 dX10_init_12 ?_
  refine gx_aload_n C dX10_init_15 0 rfl ?_
  replace hf := gx_bs hf
  obtain ⟨h4, g3, hf⟩ := hf
  refine gx_callU (st := []) C (w_X10_advance hlt g3) (is_X10_advance g3) q975 q977 (gx_decl C q1283) ⟨by decide, by decide⟩ (gx_cis1 gz_129 (C.hts _ q979) (gx_cis1 gz_128 (C.hts _ q978) gx_cis0)) q976 q152 q980 gz_187 (by decide) rfl rfl (gx_catn (Nat.le_of_ble_eq_true rfl)) dX10_init_16 ?_
  obtain rfl := Option.some.inj hf
  exact gx_vret C dX10_init_19
theorem le_X10_init {D : gx_D} {hz : HX} {h : HX} {a0 : Nat} {p1 : Option Nat} (hf : f_X10_init D h a0 p1 = some hz) : gx_le h hz := by
  unfold f_X10_init at hf
  replace hf := gx_bs hf
  obtain ⟨h1, g6, hf⟩ := hf
  refine (hx_le_pv g6).tr ?_
  replace hf := gx_bs hf
  obtain ⟨h2, g5, hf⟩ := hf
  refine (hx_le_pv g5).tr ?_
  replace hf := gx_bs hf
  obtain ⟨h4, g3, hf⟩ := hf
  refine (le_X10_advance g3).tr ?_
  obtain rfl := Option.some.inj hf
  exact gx_le.rf
theorem w_X10_init {l : Launch} (hlt : l.stackTraces = false) {D : gx_D} {h : HX} {a0 : Nat} {p1 : Option Nat} {hz : HX} (hf : f_X10_init D h a0 p1 = some hz) : gx_Met l yX10_init cX10_init 2 none 9 220 D [(va_rf (some a0)), (va_rf p1)] h none hz :=
  gx_ofG gz_126 (by simp only [gx_lsr, gx_lsi, gx_lsj, gx_ls0]; decide) (le_X10_init hf) (fun p e R s m args below meth c C hx => by
    simp only [gx_lar, gx_lai, gx_laj, gx_la0, Nat.reduceAdd]
    exact w_X10_init_b hlt C hx hf)
def f_X11_init (D : gx_D) (h : HX) (a0 : Nat) (p1 : Option Nat) : Option HX :=
  (hx_pr h a0 [16] 8 p1).bind fun h1 =>
  (f_X10_init D h1 a0 p1).bind fun h3 =>
  gx_b2 (hx_new h3 5 10 gx_df10) fun a4 h5 =>
  (f_X3_init D h5 a4).bind fun h7 =>
  (hx_pr h7 a0 [16] 6 (some a4)).bind fun h8 =>
  gx_b2 (hx_new h8 9 11 gx_df11) fun a9 h10 =>
  (f_X4_init D h10 a9).bind fun h12 =>
  (hx_pr h12 a0 [16] 7 (some a9)).bind fun h13 =>
  some h13
theorem w_X11_init_b {l : Launch} (hlt : l.stackTraces = false) {p : Program} {e : Env} {R : Room} {s : State} {m : MethodId} {args : Array Value} {below : List Frame} {meth : Method} {c : Code} {D : gx_D} {h0 : HX} {hz : HX} (C : gx_Ctx p R s m args meth c "ContractMachine$SetupParser" cX11_init 2 none 10 241 D h0 hz) (hx : meth.name = "<init>") {a0 : Nat} {p1 : Option Nat} (hf : f_X11_init D h0 a0 p1 = some hz) : gx_G p l e R s m args below meth c D h0 hz 2 (gx_MQ below args s D h0 hz none) 0 [(0, (va_rf (some a0))), (1, (va_rf p1))] [] h0 := by
  unfold f_X11_init at hf
  refine gx_aload_n C dX11_init_0 0 rfl ?_
  refine gx_aload_n C dX11_init_1 1 rfl ?_
  replace hf := gx_bs hf
  obtain ⟨h1, g18, hf⟩ := hf
  refine gx_putvF C hx g18 gz_188 gz_186 (gx_narrow_r rfl _).1 (gx_narrow_r rfl _).2 q1124 dX11_init_2 ?_
  refine gx_aload_n C dX11_init_5 0 rfl ?_
  refine gx_aload_n C dX11_init_6 1 rfl ?_
  replace hf := gx_bs hf
  obtain ⟨h3, g2, hf⟩ := hf
  refine gx_callI (st := []) C (w_X10_init hlt g2) q970 q971 q152 q972 rfl gz_191 (by decide) rfl rfl (gx_catn (Nat.le_of_ble_eq_true rfl)) dX11_init_7 ?_
  refine gx_aload_n C dX11_init_10 0 rfl ?_
  replace hf := gx_b2s hf
  obtain ⟨a4, h5, g17, hf⟩ := hf
  refine gx_newN C g17 gz_111 tyX3_ok gx_df10_ok q1117 q204 q124 dX11_init_11 rfl ?_
  refine gx_dup C dX11_init_14 rfl ?_
  replace hf := gx_bs hf
  obtain ⟨h7, g6, hf⟩ := hf
  refine gx_callIN (st := [(va_rf (some a4)), (va_rf (some a0))]) C (w_X3_init hlt g6) q1118 q206 q124 q207 rfl gz_117 (by decide) rfl rfl (gx_catn (Nat.le_of_ble_eq_true rfl)) dX11_init_15 ?_
  replace hf := gx_bs hf
  obtain ⟨h8, g16, hf⟩ := hf
  refine gx_putvF C hx g16 gz_189 gz_83 (gx_narrow_r rfl _).1 (gx_narrow_r rfl _).2 q1121 dX11_init_18 ?_
  refine gx_aload_n C dX11_init_21 0 rfl ?_
  replace hf := gx_b2s hf
  obtain ⟨a9, h10, g15, hf⟩ := hf
  refine gx_newN C g15 gz_13 tyX4_ok gx_df11_ok q1119 q588 q144 dX11_init_22 rfl ?_
  refine gx_dup C dX11_init_25 rfl ?_
  replace hf := gx_bs hf
  obtain ⟨h12, g11, hf⟩ := hf
  refine gx_callIN (st := [(va_rf (some a9)), (va_rf (some a0))]) C (w_X4_init hlt g11) q1120 q590 q144 q591 rfl gz_116 (by decide) rfl rfl (gx_catn (Nat.le_of_ble_eq_true rfl)) dX11_init_26 ?_
  replace hf := gx_bs hf
  obtain ⟨h13, g14, hf⟩ := hf
  refine gx_putvF C hx g14 gz_190 gz_86 (gx_narrow_r rfl _).1 (gx_narrow_r rfl _).2 q1123 dX11_init_29 ?_
  obtain rfl := Option.some.inj hf
  exact gx_vret C dX11_init_32
theorem le_X11_init {D : gx_D} {hz : HX} {h : HX} {a0 : Nat} {p1 : Option Nat} (hf : f_X11_init D h a0 p1 = some hz) : gx_le h hz := by
  unfold f_X11_init at hf
  replace hf := gx_bs hf
  obtain ⟨h1, g18, hf⟩ := hf
  refine (hx_le_pv g18).tr ?_
  replace hf := gx_bs hf
  obtain ⟨h3, g2, hf⟩ := hf
  refine (le_X10_init g2).tr ?_
  replace hf := gx_b2s hf
  obtain ⟨a4, h5, g17, hf⟩ := hf
  refine (hx_le_new g17).tr ?_
  replace hf := gx_bs hf
  obtain ⟨h7, g6, hf⟩ := hf
  refine (le_X3_init g6).tr ?_
  replace hf := gx_bs hf
  obtain ⟨h8, g16, hf⟩ := hf
  refine (hx_le_pv g16).tr ?_
  replace hf := gx_b2s hf
  obtain ⟨a9, h10, g15, hf⟩ := hf
  refine (hx_le_new g15).tr ?_
  replace hf := gx_bs hf
  obtain ⟨h12, g11, hf⟩ := hf
  refine (le_X4_init g11).tr ?_
  replace hf := gx_bs hf
  obtain ⟨h13, g14, hf⟩ := hf
  refine (hx_le_pv g14).tr ?_
  obtain rfl := Option.some.inj hf
  exact gx_le.rf
theorem w_X11_init {l : Launch} (hlt : l.stackTraces = false) {D : gx_D} {h : HX} {a0 : Nat} {p1 : Option Nat} {hz : HX} (hf : f_X11_init D h a0 p1 = some hz) : gx_Met l yX11_init cX11_init 2 none 10 241 D [(va_rf (some a0)), (va_rf p1)] h none hz :=
  gx_ofG gz_192 (by simp only [gx_lsr, gx_lsi, gx_lsj, gx_ls0]; decide) (le_X11_init hf) (fun p e R s m args below meth c C hx => by
    simp only [gx_lar, gx_lai, gx_laj, gx_la0, Nat.reduceAdd]
    exact w_X11_init_b hlt C hx hf)
def f_X3_isComplete (D : gx_D) (h : HX) (a0 : Nat) : Option Bool :=
  (hx_is h a0 [10]).bind fun _ =>
  (hx_gr h a0 [10] 0).bind fun r1 =>
  r1.bind fun a2 =>
  (f_J2_isEmpty D h a2).bind fun b4 =>
  if b4 = true then
  some false
  else
  (hx_gr h a0 [10] 1).bind fun r6 =>
  r6.bind fun a7 =>
  (f_J2_isEmpty D h a7).bind fun b9 =>
  if b9 = true then
  some false
  else
  (hx_gr h a0 [10] 2).bind fun r11 =>
  r11.bind fun a12 =>
  (f_J2_isEmpty D h a12).bind fun b14 =>
  if b14 = true then
  some false
  else
  some true
theorem is_X3_isComplete {D : gx_D} {h : HX} {a0 : Nat} {z} (hf : f_X3_isComplete D h a0 = some z) : gx_isC h a0 [10] := by
  unfold f_X3_isComplete at hf
  obtain ⟨_, g, -⟩ := gx_bs hf
  exact hx_is_of g
theorem w_X3_isComplete_b {l : Launch} (hlt : l.stackTraces = false) {p : Program} {e : Env} {R : Room} {s : State} {m : MethodId} {args : Array Value} {below : List Frame} {meth : Method} {c : Code} {D : gx_D} {h0 : HX} {r : Bool} (C : gx_Ctx p R s m args meth c "ContractMachine$Definition" cX3_isComplete 1 (some .boolean) 2 44 D h0 h0) (hx : meth.name = "isComplete") {a0 : Nat} (hf : f_X3_isComplete D h0 a0 = some r) : gx_G p l e R s m args below meth c D h0 h0 1 (gx_MQ below args s D h0 h0 (some (.int (b2i r)))) 0 [(0, (va_rf (some a0)))] [] h0 := by
  unfold f_X3_isComplete at hf
  replace hf := gx_bs hf
  obtain ⟨_, -, hf⟩ := hf
  refine gx_aload_n C dX3_isComplete_0 0 rfl ?_
  replace hf := gx_bs hf
  obtain ⟨r1, g18, hf⟩ := hf
  refine gx_gr C g18 gz_28 q558 dX3_isComplete_1 ?_
  replace hf := gx_bs hf
  obtain ⟨a2, rfl, hf⟩ := hf
  replace hf := gx_bs hf
  obtain ⟨b4, g3, hf⟩ := hf
  refine gx_callF (st := []) C (w_J2_isEmpty hlt g3) (is_J2_isEmpty g3) q1422 (gx_cis1 gz_19 ⟨gz_194, q1425⟩ gx_cis0) q1427 q127 q1429 gz_193 (by decide) rfl rfl (gx_catn (Nat.le_of_ble_eq_true rfl)) dX3_isComplete_4 ?_
  replace hf := gx_ite hf
  rcases hf with ⟨c5, hf⟩ | ⟨c5, hf⟩
  · refine gx_ifz_ne_t (tgt := 40) C dX3_isComplete_9 rfl c5 ?_
    refine gx_iconst (v := 0) C dX3_isComplete_40 rfl ?_
    obtain rfl := Option.some.inj hf
    exact gx_zret (b := false) C dX3_isComplete_41
  · refine gx_ifz_ne_f (tgt := 40) C dX3_isComplete_9 rfl c5 ?_
    refine gx_aload_n C dX3_isComplete_12 0 rfl ?_
    replace hf := gx_bs hf
    obtain ⟨r6, g17, hf⟩ := hf
    refine gx_gr C g17 gz_27 q561 dX3_isComplete_13 ?_
    replace hf := gx_bs hf
    obtain ⟨a7, rfl, hf⟩ := hf
    replace hf := gx_bs hf
    obtain ⟨b9, g8, hf⟩ := hf
    refine gx_callF (st := []) C (w_J2_isEmpty hlt g8) (is_J2_isEmpty g8) q1422 (gx_cis1 gz_19 ⟨gz_194, q1425⟩ gx_cis0) q1427 q127 q1429 gz_193 (by decide) rfl rfl (gx_catn (Nat.le_of_ble_eq_true rfl)) dX3_isComplete_16 ?_
    replace hf := gx_ite hf
    rcases hf with ⟨c10, hf⟩ | ⟨c10, hf⟩
    · refine gx_ifz_ne_t (tgt := 40) C dX3_isComplete_21 rfl c10 ?_
      refine gx_iconst (v := 0) C dX3_isComplete_40 rfl ?_
      obtain rfl := Option.some.inj hf
      exact gx_zret (b := false) C dX3_isComplete_41
    · refine gx_ifz_ne_f (tgt := 40) C dX3_isComplete_21 rfl c10 ?_
      refine gx_aload_n C dX3_isComplete_24 0 rfl ?_
      replace hf := gx_bs hf
      obtain ⟨r11, g16, hf⟩ := hf
      refine gx_gr C g16 gz_46 q566 dX3_isComplete_25 ?_
      replace hf := gx_bs hf
      obtain ⟨a12, rfl, hf⟩ := hf
      replace hf := gx_bs hf
      obtain ⟨b14, g13, hf⟩ := hf
      refine gx_callF (st := []) C (w_J2_isEmpty hlt g13) (is_J2_isEmpty g13) q1422 (gx_cis1 gz_19 ⟨gz_194, q1425⟩ gx_cis0) q1427 q127 q1429 gz_193 (by decide) rfl rfl (gx_catn (Nat.le_of_ble_eq_true rfl)) dX3_isComplete_28 ?_
      replace hf := gx_ite hf
      rcases hf with ⟨c15, hf⟩ | ⟨c15, hf⟩
      · refine gx_ifz_ne_t (tgt := 40) C dX3_isComplete_33 rfl c15 ?_
        refine gx_iconst (v := 0) C dX3_isComplete_40 rfl ?_
        obtain rfl := Option.some.inj hf
        exact gx_zret (b := false) C dX3_isComplete_41
      · refine gx_ifz_ne_f (tgt := 40) C dX3_isComplete_33 rfl c15 ?_
        refine gx_iconst (v := 1) C dX3_isComplete_36 rfl ?_
        refine gx_goto (tgt := 41) C dX3_isComplete_37 rfl ?_
        obtain rfl := Option.some.inj hf
        exact gx_zret (b := true) C dX3_isComplete_41
theorem w_X3_isComplete {l : Launch} (hlt : l.stackTraces = false) {D : gx_D} {h : HX} {a0 : Nat} {r : Bool} (hf : f_X3_isComplete D h a0 = some r) : gx_Met l yX3_isComplete cX3_isComplete 1 (some .boolean) 2 44 D [(va_rf (some a0))] h (some (.int (b2i r))) h :=
  gx_ofG gz_48 (by simp only [gx_lsr, gx_lsi, gx_lsj, gx_ls0]; decide) gx_le.rf (fun p e R s m args below meth c C hx => by
    simp only [gx_lar, gx_lai, gx_laj, gx_la0, Nat.reduceAdd]
    exact w_X3_isComplete_b hlt C hx hf)
def f_X12_init (D : gx_D) (h : HX) (a0 : Nat) (p1 : Int32) (p2 : Int32) : Option HX :=
  (f_J4_init_2 D h a0 none none false false).bind fun h2 =>
  (hx_pi h2 a0 [17] 6 p1).bind fun h3 =>
  (hx_pi h3 a0 [17] 7 p2).bind fun h4 =>
  some h4
theorem w_X12_init_b {l : Launch} (hlt : l.stackTraces = false) {p : Program} {e : Env} {R : Room} {s : State} {m : MethodId} {args : Array Value} {below : List Frame} {meth : Method} {c : Code} {D : gx_D} {h0 : HX} {hz : HX} (C : gx_Ctx p R s m args meth c "ContractMachine$ParseException" cX12_init 3 none 3 72 D h0 hz) (hx : meth.name = "<init>") {a0 : Nat} {p1 : Int32} {p2 : Int32} (hf : f_X12_init D h0 a0 p1 p2 = some hz) : gx_G p l e R s m args below meth c D h0 hz 3 (gx_MQ below args s D h0 hz none) 0 [(0, (va_rf (some a0))), (1, (.int p1)), (2, (.int p2))] [] h0 := by
  unfold f_X12_init at hf
  refine gx_aload_n C dX12_init_0 0 rfl ?_
  refine gx_null C dX12_init_1 ?_
  refine gx_null C dX12_init_2 ?_
  refine gx_iconst (v := 0) C dX12_init_3 rfl ?_
  refine gx_iconst (v := 0) C dX12_init_4 rfl ?_
  replace hf := gx_bs hf
  obtain ⟨h2, g1, hf⟩ := hf
  refine gx_callI (st := []) C (w_J4_init_2 hlt g1) q1265 q1266 q129 q1267 rfl gz_204 (by decide) rfl rfl (gx_catn (Nat.le_of_ble_eq_true rfl)) dX12_init_5 ?_
  refine gx_aload_n C dX12_init_8 0 rfl ?_
  refine gx_iload_n C dX12_init_9 1 rfl ?_
  replace hf := gx_bs hf
  obtain ⟨h3, g6, hf⟩ := hf
  refine gx_putvF C hx g6 gz_123 gz_1 rfl rfl q1271 dX12_init_10 ?_
  refine gx_aload_n C dX12_init_13 0 rfl ?_
  refine gx_iload_n C dX12_init_14 2 rfl ?_
  replace hf := gx_bs hf
  obtain ⟨h4, g5, hf⟩ := hf
  refine gx_putvF C hx g5 gz_124 gz_1 rfl rfl q1273 dX12_init_15 ?_
  obtain rfl := Option.some.inj hf
  exact gx_vret C dX12_init_18
theorem le_X12_init {D : gx_D} {hz : HX} {h : HX} {a0 : Nat} {p1 : Int32} {p2 : Int32} (hf : f_X12_init D h a0 p1 p2 = some hz) : gx_le h hz := by
  unfold f_X12_init at hf
  replace hf := gx_bs hf
  obtain ⟨h2, g1, hf⟩ := hf
  refine (le_J4_init_2 g1).tr ?_
  replace hf := gx_bs hf
  obtain ⟨h3, g6, hf⟩ := hf
  refine (hx_le_pv g6).tr ?_
  replace hf := gx_bs hf
  obtain ⟨h4, g5, hf⟩ := hf
  refine (hx_le_pv g5).tr ?_
  obtain rfl := Option.some.inj hf
  exact gx_le.rf
theorem w_X12_init {l : Launch} (hlt : l.stackTraces = false) {D : gx_D} {h : HX} {a0 : Nat} {p1 : Int32} {p2 : Int32} {hz : HX} (hf : f_X12_init D h a0 p1 p2 = some hz) : gx_Met l yX12_init cX12_init 3 none 3 72 D [(va_rf (some a0)), (.int p1), (.int p2)] h none hz :=
  gx_ofG gz_205 (by simp only [gx_lsr, gx_lsi, gx_lsj, gx_ls0]; decide) (le_X12_init hf) (fun p e R s m args below meth c C hx => by
    simp only [gx_lar, gx_lai, gx_laj, gx_la0, Nat.reduceAdd]
    exact w_X12_init_b hlt C hx hf)
def f_X10_expect (D : gx_D) (h : HX) (a0 : Nat) (p1 : Bool) (p2 : Int32) : Option ((Unit ⊕ (String × Nat)) × HX) :=
  (hx_is h a0 [16, 18]).bind fun _ =>
  if p1 = true then
  some (.inl (), h)
  else
  gx_b2 (hx_new h 8 17 gx_df17) fun a2 h3 =>
  (hx_gi h3 a0 [16, 18] 0).bind fun x4 =>
  (f_X12_init D h3 a2 p2 x4).bind fun h6 =>
  (hx_is h6 a2 [17]).bind fun u7 =>
  some (.inr ("ContractMachine$ParseException", a2), h6)
theorem is_X10_expect {D : gx_D} {h : HX} {a0 : Nat} {p1 : Bool} {p2 : Int32} {z} (hf : f_X10_expect D h a0 p1 p2 = some z) : gx_isC h a0 [16, 18] := by
  unfold f_X10_expect at hf
  obtain ⟨_, g, -⟩ := gx_bs hf
  exact hx_is_of g
theorem w_X10_expect_b {l : Launch} (hlt : l.stackTraces = false) {p : Program} {e : Env} {R : Room} {s : State} {m : MethodId} {args : Array Value} {below : List Frame} {meth : Method} {c : Code} {D : gx_D} {h0 : HX} {r : Unit ⊕ (String × Nat)} {hz : HX} (C : gx_Ctx p R s m args meth c "ContractMachine$Parser" cX10_expect 3 none 4 94 D h0 hz) (hx : ∀ x ∈ c.exceptionTable.toList, False) {a0 : Nat} {p1 : Bool} {p2 : Int32} (hf : f_X10_expect D h0 a0 p1 p2 = some (r, hz)) : gx_G p l e R s m args below meth c D h0 hz 3 (gx_MQX below args s D h0 hz (gx_xv r)) 0 [(0, (va_rf (some a0))), (1, (.int (b2i p1))), (2, (.int p2))] [] h0 := by
  unfold f_X10_expect at hf
  replace hf := gx_bs hf
  obtain ⟨_, -, hf⟩ := hf
  refine gx_iload_n C dX10_expect_0 1 rfl ?_
  replace hf := gx_ite hf
  rcases hf with ⟨c1, hf⟩ | ⟨c1, hf⟩
  · refine gx_ifz_ne_t (tgt := 17) C dX10_expect_1 rfl c1 ?_
    obtain ⟨rfl, rfl⟩ := Prod.mk.inj (Option.some.inj hf)
    exact gx_ret (gx_vret C dX10_expect_17)
  · refine gx_ifz_ne_f (tgt := 17) C dX10_expect_1 rfl c1 ?_
    replace hf := gx_b2s hf
    obtain ⟨a2, h3, g10, hf⟩ := hf
    refine gx_newN C g10 gz_207 tyX12_ok gx_df17_ok q1253 q1254 q159 dX10_expect_4 rfl ?_
    refine gx_dup C dX10_expect_7 rfl ?_
    refine gx_iload_n C dX10_expect_8 2 rfl ?_
    refine gx_aload_n C dX10_expect_9 0 rfl ?_
    replace hf := gx_bs hf
    obtain ⟨x4, g9, hf⟩ := hf
    refine gx_gi C g9 gz_177 q1125 dX10_expect_10 ?_
    replace hf := gx_bs hf
    obtain ⟨h6, g5, hf⟩ := hf
    refine gx_callI (st := [(va_rf (some a2))]) C (w_X12_init hlt g5) q1262 q1263 q159 q1264 rfl gz_208 (by decide) rfl rfl (gx_catn (Nat.le_of_ble_eq_true rfl)) dX10_expect_13 ?_
    replace hf := gx_bs hf
    obtain ⟨u7, g8, hf⟩ := hf
    obtain ⟨rfl, rfl⟩ := Prod.mk.inj (Option.some.inj hf)
    exact gx_athrow C g8 gz_207 dX10_expect_16 (gx_out C hx)
theorem le_X10_expect {D : gx_D} {r : Unit ⊕ (String × Nat)} {hz : HX} {h : HX} {a0 : Nat} {p1 : Bool} {p2 : Int32} (hf : f_X10_expect D h a0 p1 p2 = some (r, hz)) : gx_le h hz := by
  unfold f_X10_expect at hf
  replace hf := gx_bs hf
  obtain ⟨_, -, hf⟩ := hf
  replace hf := gx_ite hf
  rcases hf with ⟨c1, hf⟩ | ⟨c1, hf⟩
  · obtain ⟨rfl, rfl⟩ := Prod.mk.inj (Option.some.inj hf)
    exact gx_le.rf
  · replace hf := gx_b2s hf
    obtain ⟨a2, h3, g10, hf⟩ := hf
    refine (hx_le_new g10).tr ?_
    replace hf := gx_bs hf
    obtain ⟨x4, g9, hf⟩ := hf
    replace hf := gx_bs hf
    obtain ⟨h6, g5, hf⟩ := hf
    refine (le_X12_init g5).tr ?_
    replace hf := gx_bs hf
    obtain ⟨u7, g8, hf⟩ := hf
    obtain ⟨rfl, rfl⟩ := Prod.mk.inj (Option.some.inj hf)
    exact gx_le.rf
theorem w_X10_expect {l : Launch} (hlt : l.stackTraces = false) {D : gx_D} {h : HX} {a0 : Nat} {p1 : Bool} {p2 : Int32} {r : Unit ⊕ (String × Nat)} {hz : HX} (hf : f_X10_expect D h a0 p1 p2 = some (r, hz)) : gx_MetX l yX10_expect (ws_ yX10_expect cX10_expect 3 none) 4 94 D [(va_rf (some a0)), (.int (b2i p1)), (.int p2)] h (gx_xv r) hz :=
  gx_ofGX gz_126 (by simp only [gx_lsr, gx_lsi, gx_lsj, gx_ls0]; decide) (le_X10_expect hf) (fun p e R s m args below meth c C hn hx => by
    simp only [gx_lar, gx_lai, gx_laj, gx_la0, Nat.reduceAdd]
    exact w_X10_expect_b hlt C hx hf)
def f_X10_isOver (D : gx_D) (h : HX) (a0 : Nat) : Option Bool :=
  (hx_is h a0 [16, 18]).bind fun _ =>
  (hx_gr h a0 [16, 18] 4).bind fun r1 =>
  if r1 = (some (D.2.2.1 123)) then
  some true
  else
  some false
theorem is_X10_isOver {D : gx_D} {h : HX} {a0 : Nat} {z} (hf : f_X10_isOver D h a0 = some z) : gx_isC h a0 [16, 18] := by
  unfold f_X10_isOver at hf
  obtain ⟨_, g, -⟩ := gx_bs hf
  exact hx_is_of g
theorem w_X10_isOver_b {l : Launch} (hlt : l.stackTraces = false) {p : Program} {e : Env} {R : Room} {s : State} {m : MethodId} {args : Array Value} {below : List Frame} {meth : Method} {c : Code} {D : gx_D} {h0 : HX} {r : Bool} (C : gx_Ctx p R s m args meth c "ContractMachine$Parser" cX10_isOver 1 (some .boolean) 1 24 D h0 h0) (hx : meth.name = "isOver") {a0 : Nat} (hf : f_X10_isOver D h0 a0 = some r) : gx_G p l e R s m args below meth c D h0 h0 1 (gx_MQ below args s D h0 h0 (some (.int (b2i r)))) 0 [(0, (va_rf (some a0)))] [] h0 := by
  unfold f_X10_isOver at hf
  replace hf := gx_bs hf
  obtain ⟨_, -, hf⟩ := hf
  refine gx_aload_n C dX10_isOver_0 0 rfl ?_
  replace hf := gx_bs hf
  obtain ⟨r1, g3, hf⟩ := hf
  refine gx_gr C g3 gz_180 q1129 dX10_isOver_1 ?_
  refine gx_statk C 12 rfl q986 dX10_isOver_4 ?_
  replace hf := gx_ite hf
  rcases hf with ⟨c2, hf⟩ | ⟨c2, hf⟩
  · refine gx_acmp_ne_f (tgt := 14) C dX10_isOver_7 rfl c2 ?_
    refine gx_iconst (v := 1) C dX10_isOver_10 rfl ?_
    refine gx_goto (tgt := 15) C dX10_isOver_11 rfl ?_
    obtain rfl := Option.some.inj hf
    exact gx_zret (b := true) C dX10_isOver_15
  · refine gx_acmp_ne_t (tgt := 14) C dX10_isOver_7 rfl c2 ?_
    refine gx_iconst (v := 0) C dX10_isOver_14 rfl ?_
    obtain rfl := Option.some.inj hf
    exact gx_zret (b := false) C dX10_isOver_15
theorem w_X10_isOver {l : Launch} (hlt : l.stackTraces = false) {D : gx_D} {h : HX} {a0 : Nat} {r : Bool} (hf : f_X10_isOver D h a0 = some r) : gx_Met l yX10_isOver cX10_isOver 1 (some .boolean) 1 24 D [(va_rf (some a0))] h (some (.int (b2i r))) h :=
  gx_ofG gz_126 (by simp only [gx_lsr, gx_lsi, gx_lsj, gx_ls0]; decide) gx_le.rf (fun p e R s m args below meth c C hx => by
    simp only [gx_lar, gx_lai, gx_laj, gx_la0, Nat.reduceAdd]
    exact w_X10_isOver_b hlt C hx hf)
def f_X10_word (D : gx_D) (h : HX) (a0 : Nat) : Option (Option Nat) :=
  (hx_is h a0 [16, 18]).bind fun _ =>
  (hx_gr h a0 [16, 18] 3).bind fun r1 =>
  some r1
theorem is_X10_word {D : gx_D} {h : HX} {a0 : Nat} {z} (hf : f_X10_word D h a0 = some z) : gx_isC h a0 [16, 18] := by
  unfold f_X10_word at hf
  obtain ⟨_, g, -⟩ := gx_bs hf
  exact hx_is_of g
theorem w_X10_word_b {l : Launch} (hlt : l.stackTraces = false) {p : Program} {e : Env} {R : Room} {s : State} {m : MethodId} {args : Array Value} {below : List Frame} {meth : Method} {c : Code} {D : gx_D} {h0 : HX} {r : Option Nat} (C : gx_Ctx p R s m args meth c "ContractMachine$Parser" cX10_word 1 (some (.object "java/lang/String")) 1 24 D h0 h0) (hx : meth.name = "word") {a0 : Nat} (hf : f_X10_word D h0 a0 = some r) : gx_G p l e R s m args below meth c D h0 h0 1 (gx_MQ below args s D h0 h0 (some (va_rf r))) 0 [(0, (va_rf (some a0)))] [] h0 := by
  unfold f_X10_word at hf
  replace hf := gx_bs hf
  obtain ⟨_, -, hf⟩ := hf
  refine gx_aload_n C dX10_word_0 0 rfl ?_
  replace hf := gx_bs hf
  obtain ⟨r1, g2, hf⟩ := hf
  refine gx_gr C g2 gz_178 q1128 dX10_word_1 ?_
  obtain rfl := Option.some.inj hf
  exact gx_aret C rfl rfl dX10_word_4
theorem w_X10_word {l : Launch} (hlt : l.stackTraces = false) {D : gx_D} {h : HX} {a0 : Nat} {r : Option Nat} (hf : f_X10_word D h a0 = some r) : gx_Met l yX10_word cX10_word 1 (some (.object "java/lang/String")) 1 24 D [(va_rf (some a0))] h (some (va_rf r)) h :=
  gx_ofG gz_126 (by simp only [gx_lsr, gx_lsi, gx_lsj, gx_ls0]; decide) gx_le.rf (fun p e R s m args below meth c C hx => by
    simp only [gx_lar, gx_lai, gx_laj, gx_la0, Nat.reduceAdd]
    exact w_X10_word_b hlt C hx hf)
def f_X1_valueIn (D : gx_D) (h : HX) (p0 : Int32) (p1 : Int32) : Option Int32 :=
  (f_X1_weight D h p1).bind fun x2 =>
  if x2 = 0 then none else
  some (((p0 / x2) - (p0 / x2) / (10 : Int32) * (10 : Int32)))
theorem w_X1_valueIn_b {l : Launch} (hlt : l.stackTraces = false) {p : Program} {e : Env} {R : Room} {s : State} {m : MethodId} {args : Array Value} {below : List Frame} {meth : Method} {c : Code} {D : gx_D} {h0 : HX} {r : Int32} (C : gx_Ctx p R s m args meth c "ContractMachine" cX1_valueIn 2 (some .int) 2 44 D h0 h0) (hx : meth.name = "valueIn") {p0 : Int32} {p1 : Int32} (hf : f_X1_valueIn D h0 p0 p1 = some r) : gx_G p l e R s m args below meth c D h0 h0 2 (gx_MQ below args s D h0 h0 (some (.int r))) 0 [(0, (.int p0)), (1, (.int p1))] [] h0 := by
  unfold f_X1_valueIn at hf
  refine gx_iload_n C dX1_valueIn_0 0 rfl ?_
  refine gx_iload_n C dX1_valueIn_1 1 rfl ?_
  replace hf := gx_bs hf
  obtain ⟨x2, g1, hf⟩ := hf
  refine gx_callS (st := [(.int p0)]) C (w_X1_weight hlt g1) (lw_S q1450 q776 q121 q777) gz_52 (by decide) rfl rfl (gx_catn (Nat.le_of_ble_eq_true rfl)) dX1_valueIn_2 ?_
  replace hf := gx_ite hf
  rcases hf with ⟨c3, hf⟩ | ⟨c3, hf⟩
  · cases hf
  refine gx_idiv C dX1_valueIn_5 c3 ?_
  refine gx_bipush (v := 10) C dX1_valueIn_6 rfl ?_
  refine gx_irem C dX1_valueIn_8 (by decide) ?_
  obtain rfl := Option.some.inj hf
  exact gx_iret C dX1_valueIn_9
theorem w_X1_valueIn {l : Launch} (hlt : l.stackTraces = false) {D : gx_D} {h : HX} {p0 : Int32} {p1 : Int32} {r : Int32} (hf : f_X1_valueIn D h p0 p1 = some r) : gx_Met l yX1_valueIn cX1_valueIn 2 (some .int) 2 44 D [(.int p0), (.int p1)] h (some (.int r)) h :=
  gx_ofG gz_26 (by simp only [gx_lsr, gx_lsi, gx_lsj, gx_ls0]; decide) gx_le.rf (fun p e R s m args below meth c C hx => by
    simp only [gx_lar, gx_lai, gx_laj, gx_la0, Nat.reduceAdd]
    exact w_X1_valueIn_b hlt C hx hf)
def f_X31_holds (D : gx_D) (h : HX) (a0 : Nat) (p1 : Int32) (p2 : Int32) : Option Bool :=
  if p2 ≤ p1 then
  some false
  else
  some true
theorem w_X31_holds_b {l : Launch} (hlt : l.stackTraces = false) {p : Program} {e : Env} {R : Room} {s : State} {m : MethodId} {args : Array Value} {below : List Frame} {meth : Method} {c : Code} {D : gx_D} {h0 : HX} {r : Bool} (C : gx_Ctx p R s m args meth c "ContractMachine$Operator$1" cX31_holds 3 (some .boolean) 1 24 D h0 h0) (hx : meth.name = "holds") {a0 : Nat} {p1 : Int32} {p2 : Int32} (hf : f_X31_holds D h0 a0 p1 p2 = some r) : gx_G p l e R s m args below meth c D h0 h0 3 (gx_MQ below args s D h0 h0 (some (.int (b2i r)))) 0 [(0, (va_rf (some a0))), (1, (.int p1)), (2, (.int p2))] [] h0 := by
  unfold f_X31_holds at hf
  refine gx_iload_n C dX31_holds_0 1 rfl ?_
  refine gx_iload_n C dX31_holds_1 2 rfl ?_
  replace hf := gx_ite hf
  rcases hf with ⟨c1, hf⟩ | ⟨c1, hf⟩
  · refine gx_icmp_ge_t (tgt := 9) C dX31_holds_2 rfl c1 ?_
    refine gx_iconst (v := 0) C dX31_holds_9 rfl ?_
    obtain rfl := Option.some.inj hf
    exact gx_zret (b := false) C dX31_holds_10
  · refine gx_icmp_ge_f (tgt := 9) C dX31_holds_2 rfl c1 ?_
    refine gx_iconst (v := 1) C dX31_holds_5 rfl ?_
    refine gx_goto (tgt := 10) C dX31_holds_6 rfl ?_
    obtain rfl := Option.some.inj hf
    exact gx_zret (b := true) C dX31_holds_10
theorem w_X31_holds {l : Launch} (hlt : l.stackTraces = false) {D : gx_D} {h : HX} {a0 : Nat} {p1 : Int32} {p2 : Int32} {r : Bool} (hf : f_X31_holds D h a0 p1 p2 = some r) : gx_NMet l yX31_holds cX31_holds 3 (some .boolean) 1 24 D [(va_rf (some a0)), (.int p1), (.int p2)] h (some (.int (b2i r))) h :=
  gx_ofGN gz_209 (by simp only [gx_lsr, gx_lsi, gx_lsj, gx_ls0]; decide) gx_le.rf (fun p e R s m args below meth c C hx => by
    simp only [gx_lar, gx_lai, gx_laj, gx_la0, Nat.reduceAdd]
    exact w_X31_holds_b hlt C hx hf)
def f_X32_holds (D : gx_D) (h : HX) (a0 : Nat) (p1 : Int32) (p2 : Int32) : Option Bool :=
  if p2 < p1 then
  some false
  else
  some true
theorem w_X32_holds_b {l : Launch} (hlt : l.stackTraces = false) {p : Program} {e : Env} {R : Room} {s : State} {m : MethodId} {args : Array Value} {below : List Frame} {meth : Method} {c : Code} {D : gx_D} {h0 : HX} {r : Bool} (C : gx_Ctx p R s m args meth c "ContractMachine$Operator$2" cX32_holds 3 (some .boolean) 1 24 D h0 h0) (hx : meth.name = "holds") {a0 : Nat} {p1 : Int32} {p2 : Int32} (hf : f_X32_holds D h0 a0 p1 p2 = some r) : gx_G p l e R s m args below meth c D h0 h0 3 (gx_MQ below args s D h0 h0 (some (.int (b2i r)))) 0 [(0, (va_rf (some a0))), (1, (.int p1)), (2, (.int p2))] [] h0 := by
  unfold f_X32_holds at hf
  refine gx_iload_n C dX32_holds_0 1 rfl ?_
  refine gx_iload_n C dX32_holds_1 2 rfl ?_
  replace hf := gx_ite hf
  rcases hf with ⟨c1, hf⟩ | ⟨c1, hf⟩
  · refine gx_icmp_gt_t (tgt := 9) C dX32_holds_2 rfl c1 ?_
    refine gx_iconst (v := 0) C dX32_holds_9 rfl ?_
    obtain rfl := Option.some.inj hf
    exact gx_zret (b := false) C dX32_holds_10
  · refine gx_icmp_gt_f (tgt := 9) C dX32_holds_2 rfl c1 ?_
    refine gx_iconst (v := 1) C dX32_holds_5 rfl ?_
    refine gx_goto (tgt := 10) C dX32_holds_6 rfl ?_
    obtain rfl := Option.some.inj hf
    exact gx_zret (b := true) C dX32_holds_10
theorem w_X32_holds {l : Launch} (hlt : l.stackTraces = false) {D : gx_D} {h : HX} {a0 : Nat} {p1 : Int32} {p2 : Int32} {r : Bool} (hf : f_X32_holds D h a0 p1 p2 = some r) : gx_NMet l yX32_holds cX32_holds 3 (some .boolean) 1 24 D [(va_rf (some a0)), (.int p1), (.int p2)] h (some (.int (b2i r))) h :=
  gx_ofGN gz_210 (by simp only [gx_lsr, gx_lsi, gx_lsj, gx_ls0]; decide) gx_le.rf (fun p e R s m args below meth c C hx => by
    simp only [gx_lar, gx_lai, gx_laj, gx_la0, Nat.reduceAdd]
    exact w_X32_holds_b hlt C hx hf)
def f_X33_holds (D : gx_D) (h : HX) (a0 : Nat) (p1 : Int32) (p2 : Int32) : Option Bool :=
  if p1 = p2 then
  some true
  else
  some false
theorem w_X33_holds_b {l : Launch} (hlt : l.stackTraces = false) {p : Program} {e : Env} {R : Room} {s : State} {m : MethodId} {args : Array Value} {below : List Frame} {meth : Method} {c : Code} {D : gx_D} {h0 : HX} {r : Bool} (C : gx_Ctx p R s m args meth c "ContractMachine$Operator$3" cX33_holds 3 (some .boolean) 1 24 D h0 h0) (hx : meth.name = "holds") {a0 : Nat} {p1 : Int32} {p2 : Int32} (hf : f_X33_holds D h0 a0 p1 p2 = some r) : gx_G p l e R s m args below meth c D h0 h0 3 (gx_MQ below args s D h0 h0 (some (.int (b2i r)))) 0 [(0, (va_rf (some a0))), (1, (.int p1)), (2, (.int p2))] [] h0 := by
  unfold f_X33_holds at hf
  refine gx_iload_n C dX33_holds_0 1 rfl ?_
  refine gx_iload_n C dX33_holds_1 2 rfl ?_
  replace hf := gx_ite hf
  rcases hf with ⟨c1, hf⟩ | ⟨c1, hf⟩
  · refine gx_icmp_ne_f (tgt := 9) C dX33_holds_2 rfl c1 ?_
    refine gx_iconst (v := 1) C dX33_holds_5 rfl ?_
    refine gx_goto (tgt := 10) C dX33_holds_6 rfl ?_
    obtain rfl := Option.some.inj hf
    exact gx_zret (b := true) C dX33_holds_10
  · refine gx_icmp_ne_t (tgt := 9) C dX33_holds_2 rfl c1 ?_
    refine gx_iconst (v := 0) C dX33_holds_9 rfl ?_
    obtain rfl := Option.some.inj hf
    exact gx_zret (b := false) C dX33_holds_10
theorem w_X33_holds {l : Launch} (hlt : l.stackTraces = false) {D : gx_D} {h : HX} {a0 : Nat} {p1 : Int32} {p2 : Int32} {r : Bool} (hf : f_X33_holds D h a0 p1 p2 = some r) : gx_NMet l yX33_holds cX33_holds 3 (some .boolean) 1 24 D [(va_rf (some a0)), (.int p1), (.int p2)] h (some (.int (b2i r))) h :=
  gx_ofGN gz_211 (by simp only [gx_lsr, gx_lsi, gx_lsj, gx_ls0]; decide) gx_le.rf (fun p e R s m args below meth c C hx => by
    simp only [gx_lar, gx_lai, gx_laj, gx_la0, Nat.reduceAdd]
    exact w_X33_holds_b hlt C hx hf)
def f_X34_holds (D : gx_D) (h : HX) (a0 : Nat) (p1 : Int32) (p2 : Int32) : Option Bool :=
  if p1 = p2 then
  some false
  else
  some true
theorem w_X34_holds_b {l : Launch} (hlt : l.stackTraces = false) {p : Program} {e : Env} {R : Room} {s : State} {m : MethodId} {args : Array Value} {below : List Frame} {meth : Method} {c : Code} {D : gx_D} {h0 : HX} {r : Bool} (C : gx_Ctx p R s m args meth c "ContractMachine$Operator$4" cX34_holds 3 (some .boolean) 1 24 D h0 h0) (hx : meth.name = "holds") {a0 : Nat} {p1 : Int32} {p2 : Int32} (hf : f_X34_holds D h0 a0 p1 p2 = some r) : gx_G p l e R s m args below meth c D h0 h0 3 (gx_MQ below args s D h0 h0 (some (.int (b2i r)))) 0 [(0, (va_rf (some a0))), (1, (.int p1)), (2, (.int p2))] [] h0 := by
  unfold f_X34_holds at hf
  refine gx_iload_n C dX34_holds_0 1 rfl ?_
  refine gx_iload_n C dX34_holds_1 2 rfl ?_
  replace hf := gx_ite hf
  rcases hf with ⟨c1, hf⟩ | ⟨c1, hf⟩
  · refine gx_icmp_eq_t (tgt := 9) C dX34_holds_2 rfl c1 ?_
    refine gx_iconst (v := 0) C dX34_holds_9 rfl ?_
    obtain rfl := Option.some.inj hf
    exact gx_zret (b := false) C dX34_holds_10
  · refine gx_icmp_eq_f (tgt := 9) C dX34_holds_2 rfl c1 ?_
    refine gx_iconst (v := 1) C dX34_holds_5 rfl ?_
    refine gx_goto (tgt := 10) C dX34_holds_6 rfl ?_
    obtain rfl := Option.some.inj hf
    exact gx_zret (b := true) C dX34_holds_10
theorem w_X34_holds {l : Launch} (hlt : l.stackTraces = false) {D : gx_D} {h : HX} {a0 : Nat} {p1 : Int32} {p2 : Int32} {r : Bool} (hf : f_X34_holds D h a0 p1 p2 = some r) : gx_NMet l yX34_holds cX34_holds 3 (some .boolean) 1 24 D [(va_rf (some a0)), (.int p1), (.int p2)] h (some (.int (b2i r))) h :=
  gx_ofGN gz_212 (by simp only [gx_lsr, gx_lsi, gx_lsj, gx_ls0]; decide) gx_le.rf (fun p e R s m args below meth c C hx => by
    simp only [gx_lar, gx_lai, gx_laj, gx_la0, Nat.reduceAdd]
    exact w_X34_holds_b hlt C hx hf)
def f_X35_holds (D : gx_D) (h : HX) (a0 : Nat) (p1 : Int32) (p2 : Int32) : Option Bool :=
  if p1 < p2 then
  some false
  else
  some true
theorem w_X35_holds_b {l : Launch} (hlt : l.stackTraces = false) {p : Program} {e : Env} {R : Room} {s : State} {m : MethodId} {args : Array Value} {below : List Frame} {meth : Method} {c : Code} {D : gx_D} {h0 : HX} {r : Bool} (C : gx_Ctx p R s m args meth c "ContractMachine$Operator$5" cX35_holds 3 (some .boolean) 1 24 D h0 h0) (hx : meth.name = "holds") {a0 : Nat} {p1 : Int32} {p2 : Int32} (hf : f_X35_holds D h0 a0 p1 p2 = some r) : gx_G p l e R s m args below meth c D h0 h0 3 (gx_MQ below args s D h0 h0 (some (.int (b2i r)))) 0 [(0, (va_rf (some a0))), (1, (.int p1)), (2, (.int p2))] [] h0 := by
  unfold f_X35_holds at hf
  refine gx_iload_n C dX35_holds_0 1 rfl ?_
  refine gx_iload_n C dX35_holds_1 2 rfl ?_
  replace hf := gx_ite hf
  rcases hf with ⟨c1, hf⟩ | ⟨c1, hf⟩
  · refine gx_icmp_lt_t (tgt := 9) C dX35_holds_2 rfl c1 ?_
    refine gx_iconst (v := 0) C dX35_holds_9 rfl ?_
    obtain rfl := Option.some.inj hf
    exact gx_zret (b := false) C dX35_holds_10
  · refine gx_icmp_lt_f (tgt := 9) C dX35_holds_2 rfl c1 ?_
    refine gx_iconst (v := 1) C dX35_holds_5 rfl ?_
    refine gx_goto (tgt := 10) C dX35_holds_6 rfl ?_
    obtain rfl := Option.some.inj hf
    exact gx_zret (b := true) C dX35_holds_10
theorem w_X35_holds {l : Launch} (hlt : l.stackTraces = false) {D : gx_D} {h : HX} {a0 : Nat} {p1 : Int32} {p2 : Int32} {r : Bool} (hf : f_X35_holds D h a0 p1 p2 = some r) : gx_NMet l yX35_holds cX35_holds 3 (some .boolean) 1 24 D [(va_rf (some a0)), (.int p1), (.int p2)] h (some (.int (b2i r))) h :=
  gx_ofGN gz_213 (by simp only [gx_lsr, gx_lsi, gx_lsj, gx_ls0]; decide) gx_le.rf (fun p e R s m args below meth c C hx => by
    simp only [gx_lar, gx_lai, gx_laj, gx_la0, Nat.reduceAdd]
    exact w_X35_holds_b hlt C hx hf)
def f_X36_holds (D : gx_D) (h : HX) (a0 : Nat) (p1 : Int32) (p2 : Int32) : Option Bool :=
  if p1 ≤ p2 then
  some false
  else
  some true
theorem w_X36_holds_b {l : Launch} (hlt : l.stackTraces = false) {p : Program} {e : Env} {R : Room} {s : State} {m : MethodId} {args : Array Value} {below : List Frame} {meth : Method} {c : Code} {D : gx_D} {h0 : HX} {r : Bool} (C : gx_Ctx p R s m args meth c "ContractMachine$Operator$6" cX36_holds 3 (some .boolean) 1 24 D h0 h0) (hx : meth.name = "holds") {a0 : Nat} {p1 : Int32} {p2 : Int32} (hf : f_X36_holds D h0 a0 p1 p2 = some r) : gx_G p l e R s m args below meth c D h0 h0 3 (gx_MQ below args s D h0 h0 (some (.int (b2i r)))) 0 [(0, (va_rf (some a0))), (1, (.int p1)), (2, (.int p2))] [] h0 := by
  unfold f_X36_holds at hf
  refine gx_iload_n C dX36_holds_0 1 rfl ?_
  refine gx_iload_n C dX36_holds_1 2 rfl ?_
  replace hf := gx_ite hf
  rcases hf with ⟨c1, hf⟩ | ⟨c1, hf⟩
  · refine gx_icmp_le_t (tgt := 9) C dX36_holds_2 rfl c1 ?_
    refine gx_iconst (v := 0) C dX36_holds_9 rfl ?_
    obtain rfl := Option.some.inj hf
    exact gx_zret (b := false) C dX36_holds_10
  · refine gx_icmp_le_f (tgt := 9) C dX36_holds_2 rfl c1 ?_
    refine gx_iconst (v := 1) C dX36_holds_5 rfl ?_
    refine gx_goto (tgt := 10) C dX36_holds_6 rfl ?_
    obtain rfl := Option.some.inj hf
    exact gx_zret (b := true) C dX36_holds_10
theorem w_X36_holds {l : Launch} (hlt : l.stackTraces = false) {D : gx_D} {h : HX} {a0 : Nat} {p1 : Int32} {p2 : Int32} {r : Bool} (hf : f_X36_holds D h a0 p1 p2 = some r) : gx_NMet l yX36_holds cX36_holds 3 (some .boolean) 1 24 D [(va_rf (some a0)), (.int p1), (.int p2)] h (some (.int (b2i r))) h :=
  gx_ofGN gz_214 (by simp only [gx_lsr, gx_lsi, gx_lsj, gx_ls0]; decide) gx_le.rf (fun p e R s m args below meth c C hx => by
    simp only [gx_lar, gx_lai, gx_laj, gx_la0, Nat.reduceAdd]
    exact w_X36_holds_b hlt C hx hf)
def f_X7_holds (D : gx_D) (h : HX) (a0 : Nat) (p1 : Int32) : Option Bool :=
  (hx_is h a0 [14]).bind fun _ =>
  (hx_gr h a0 [14] 2).bind fun r1 =>
  (hx_gi h a0 [14] 0).bind fun x2 =>
  (f_X1_valueIn D h p1 x2).bind fun x4 =>
  (hx_gi h a0 [14] 1).bind fun x5 =>
  r1.bind fun a6 =>
  if a6 = D.2.2.1 100 then
  (f_X31_holds D h (D.2.2.1 100) x4 x5).bind fun b9 =>
  some b9
  else
  if a6 = D.2.2.1 101 then
  (f_X32_holds D h (D.2.2.1 101) x4 x5).bind fun b12 =>
  some b12
  else
  if a6 = D.2.2.1 102 then
  (f_X33_holds D h (D.2.2.1 102) x4 x5).bind fun b15 =>
  some b15
  else
  if a6 = D.2.2.1 103 then
  (f_X34_holds D h (D.2.2.1 103) x4 x5).bind fun b18 =>
  some b18
  else
  if a6 = D.2.2.1 104 then
  (f_X35_holds D h (D.2.2.1 104) x4 x5).bind fun b21 =>
  some b21
  else
  if a6 = D.2.2.1 105 then
  (f_X36_holds D h (D.2.2.1 105) x4 x5).bind fun b24 =>
  some b24
  else
  none
theorem is_X7_holds {D : gx_D} {h : HX} {a0 : Nat} {p1 : Int32} {z} (hf : f_X7_holds D h a0 p1 = some z) : gx_isC h a0 [14] := by
  unfold f_X7_holds at hf
  obtain ⟨_, g, -⟩ := gx_bs hf
  exact hx_is_of g
theorem w_X7_holds_b {l : Launch} (hlt : l.stackTraces = false) {p : Program} {e : Env} {R : Room} {s : State} {m : MethodId} {args : Array Value} {below : List Frame} {meth : Method} {c : Code} {D : gx_D} {h0 : HX} {r : Bool} (C : gx_Ctx p R s m args meth c "ContractMachine$Comparison" cX7_holds 2 (some .boolean) 3 65 D h0 h0) (hx : meth.name = "holds") {a0 : Nat} {p1 : Int32} (hf : f_X7_holds D h0 a0 p1 = some r) : gx_G p l e R s m args below meth c D h0 h0 2 (gx_MQ below args s D h0 h0 (some (.int (b2i r)))) 0 [(0, (va_rf (some a0))), (1, (.int p1))] [] h0 := by
  unfold f_X7_holds at hf
  replace hf := gx_bs hf
  obtain ⟨_, -, hf⟩ := hf
  refine gx_aload_n C dX7_holds_0 0 rfl ?_
  replace hf := gx_bs hf
  obtain ⟨r1, g27, hf⟩ := hf
  refine gx_gr C g27 gz_35 q842 dX7_holds_1 ?_
  refine gx_iload_n C dX7_holds_4 1 rfl ?_
  refine gx_aload_n C dX7_holds_5 0 rfl ?_
  replace hf := gx_bs hf
  obtain ⟨x2, g26, hf⟩ := hf
  refine gx_gi C g26 gz_34 q840 dX7_holds_6 ?_
  replace hf := gx_bs hf
  obtain ⟨x4, g3, hf⟩ := hf
  refine gx_callSN (st := [(va_rf r1)]) C (w_X1_valueIn hlt g3) q1447 q1448 q121 q1449 gz_216 (by decide) rfl rfl (gx_catn (Nat.le_of_ble_eq_true rfl)) dX7_holds_9 ?_
  refine gx_aload_n C dX7_holds_12 0 rfl ?_
  replace hf := gx_bs hf
  obtain ⟨x5, g25, hf⟩ := hf
  refine gx_gi C g25 gz_37 q841 dX7_holds_13 ?_
  replace hf := gx_bs hf
  obtain ⟨a6, rfl, hf⟩ := hf
  replace hf := gx_ite hf
  rcases hf with ⟨c7, hf⟩ | ⟨c7, hf⟩
  · subst c7
    replace hf := gx_bs hf
    obtain ⟨b9, g8, hf⟩ := hf
    refine gx_callEN (st := []) C 0 rfl (w_X31_holds hlt g8) q1451 q1453 q1452 ⟨by decide, by decide⟩ q1454 q1455 q1456 gz_215 (by decide) rfl rfl (gx_catn (Nat.le_of_ble_eq_true rfl)) dX7_holds_16 ?_
    obtain rfl := Option.some.inj hf
    exact gx_zret (b := _) C dX7_holds_19
  replace hf := gx_ite hf
  rcases hf with ⟨c10, hf⟩ | ⟨c10, hf⟩
  · subst c10
    replace hf := gx_bs hf
    obtain ⟨b12, g11, hf⟩ := hf
    refine gx_callEN (st := []) C 1 rfl (w_X32_holds hlt g11) q1451 q1453 q1452 ⟨by decide, by decide⟩ q1457 q1458 q1459 gz_215 (by decide) rfl rfl (gx_catn (Nat.le_of_ble_eq_true rfl)) dX7_holds_16 ?_
    obtain rfl := Option.some.inj hf
    exact gx_zret (b := _) C dX7_holds_19
  replace hf := gx_ite hf
  rcases hf with ⟨c13, hf⟩ | ⟨c13, hf⟩
  · subst c13
    replace hf := gx_bs hf
    obtain ⟨b15, g14, hf⟩ := hf
    refine gx_callEN (st := []) C 2 rfl (w_X33_holds hlt g14) q1451 q1453 q1452 ⟨by decide, by decide⟩ q1460 q1461 q1462 gz_215 (by decide) rfl rfl (gx_catn (Nat.le_of_ble_eq_true rfl)) dX7_holds_16 ?_
    obtain rfl := Option.some.inj hf
    exact gx_zret (b := _) C dX7_holds_19
  replace hf := gx_ite hf
  rcases hf with ⟨c16, hf⟩ | ⟨c16, hf⟩
  · subst c16
    replace hf := gx_bs hf
    obtain ⟨b18, g17, hf⟩ := hf
    refine gx_callEN (st := []) C 3 rfl (w_X34_holds hlt g17) q1451 q1453 q1452 ⟨by decide, by decide⟩ q1463 q1464 q1465 gz_215 (by decide) rfl rfl (gx_catn (Nat.le_of_ble_eq_true rfl)) dX7_holds_16 ?_
    obtain rfl := Option.some.inj hf
    exact gx_zret (b := _) C dX7_holds_19
  replace hf := gx_ite hf
  rcases hf with ⟨c19, hf⟩ | ⟨c19, hf⟩
  · subst c19
    replace hf := gx_bs hf
    obtain ⟨b21, g20, hf⟩ := hf
    refine gx_callEN (st := []) C 4 rfl (w_X35_holds hlt g20) q1451 q1453 q1452 ⟨by decide, by decide⟩ q1466 q1467 q1468 gz_215 (by decide) rfl rfl (gx_catn (Nat.le_of_ble_eq_true rfl)) dX7_holds_16 ?_
    obtain rfl := Option.some.inj hf
    exact gx_zret (b := _) C dX7_holds_19
  replace hf := gx_ite hf
  rcases hf with ⟨c22, hf⟩ | ⟨c22, hf⟩
  · subst c22
    replace hf := gx_bs hf
    obtain ⟨b24, g23, hf⟩ := hf
    refine gx_callEN (st := []) C 5 rfl (w_X36_holds hlt g23) q1451 q1453 q1452 ⟨by decide, by decide⟩ q1469 q1470 q1471 gz_215 (by decide) rfl rfl (gx_catn (Nat.le_of_ble_eq_true rfl)) dX7_holds_16 ?_
    obtain rfl := Option.some.inj hf
    exact gx_zret (b := _) C dX7_holds_19
  cases hf
theorem w_X7_holds {l : Launch} (hlt : l.stackTraces = false) {D : gx_D} {h : HX} {a0 : Nat} {p1 : Int32} {r : Bool} (hf : f_X7_holds D h a0 p1 = some r) : gx_Met l yX7_holds cX7_holds 2 (some .boolean) 3 65 D [(va_rf (some a0)), (.int p1)] h (some (.int (b2i r))) h :=
  gx_ofG gz_38 (by simp only [gx_lsr, gx_lsi, gx_lsj, gx_ls0]; decide) gx_le.rf (fun p e R s m args below meth c C hx => by
    simp only [gx_lar, gx_lai, gx_laj, gx_la0, Nat.reduceAdd]
    exact w_X7_holds_b hlt C hx hf)
def f_X8_isBrokenBy_b25 (D : gx_D) (h : HX) (v0 : Nat) (v1 : Int32) (s0 : Bool) : Option Bool :=
  if s0 = true then
  (hx_gr h v0 [15] 1).bind fun r4 =>
  r4.bind fun a5 =>
  (f_X7_holds D h a5 (v1 - v1 / (1000 : Int32) * (1000 : Int32))).bind fun b7 =>
  if b7 = true then
  some false
  else
  some true
  else
  some false
theorem w_X8_isBrokenBy_b25 {l : Launch} (hlt : l.stackTraces = false) {p : Program} {e : Env} {R : Room} {s : State} {m : MethodId} {args : Array Value} {below : List Frame} {meth : Method} {c : Code} {D : gx_D} {h0 : HX} {r : Bool} (C : gx_Ctx p R s m args meth c "ContractMachine$Invariant" cX8_isBrokenBy 3 (some .boolean) 4 86 D h0 h0) (hx : meth.name = "isBrokenBy")  {v0 : Nat} {v1 : Int32} {s0 : Bool} (hf : f_X8_isBrokenBy_b25 D h0 v0 v1 s0 = some r) : gx_G p l e R s m args below meth c D h0 h0 3 (gx_MQ below args s D h0 h0 (some (.int (b2i r)))) 25 [(0, (va_rf (some v0))), (1, (.int v1))] [(.int (b2i s0))] h0 := by
  unfold f_X8_isBrokenBy_b25 at hf
  refine gx_istn C dX8_isBrokenBy_25 2 rfl (by decide) [0, 1]  rfl (gx_okn rfl rfl (gx_okr rfl gx_catv_i gx_ok0)) ?_
  refine gx_iload_n C dX8_isBrokenBy_26 0 rfl ?_
  replace hf := gx_ite hf
  rcases hf with ⟨c3, hf⟩ | ⟨c3, hf⟩
  · refine gx_ifz_eq_f (tgt := 49) C dX8_isBrokenBy_27 rfl c3 ?_
    refine gx_aload_n C dX8_isBrokenBy_30 1 rfl ?_
    replace hf := gx_bs hf
    obtain ⟨r4, g9, hf⟩ := hf
    refine gx_gr C g9 gz_54 q866 dX8_isBrokenBy_31 ?_
    refine gx_iload_n C dX8_isBrokenBy_34 2 rfl ?_
    refine gx_sipush (v := 1000) C dX8_isBrokenBy_35 rfl ?_
    refine gx_irem C dX8_isBrokenBy_38 (by decide) ?_
    replace hf := gx_bs hf
    obtain ⟨a5, rfl, hf⟩ := hf
    replace hf := gx_bs hf
    obtain ⟨b7, g6, hf⟩ := hf
    refine gx_callV (st := []) C (w_X7_holds hlt g6) (is_X7_holds g6) gz_107 rfl (lw_V q1443 q1444 q1445 q149 q1446) gz_217 (by decide) rfl rfl (gx_catn (Nat.le_of_ble_eq_true rfl)) dX8_isBrokenBy_39 ?_
    replace hf := gx_ite hf
    rcases hf with ⟨c8, hf⟩ | ⟨c8, hf⟩
    · refine gx_ifz_ne_t (tgt := 49) C dX8_isBrokenBy_42 rfl c8 ?_
      refine gx_iconst (v := 0) C dX8_isBrokenBy_49 rfl ?_
      obtain rfl := Option.some.inj hf
      exact gx_zret (b := false) C dX8_isBrokenBy_50
    · refine gx_ifz_ne_f (tgt := 49) C dX8_isBrokenBy_42 rfl c8 ?_
      refine gx_iconst (v := 1) C dX8_isBrokenBy_45 rfl ?_
      refine gx_goto (tgt := 50) C dX8_isBrokenBy_46 rfl ?_
      obtain rfl := Option.some.inj hf
      exact gx_zret (b := true) C dX8_isBrokenBy_50
  · refine gx_ifz_eq_t (tgt := 49) C dX8_isBrokenBy_27 rfl c3 ?_
    refine gx_iconst (v := 0) C dX8_isBrokenBy_49 rfl ?_
    obtain rfl := Option.some.inj hf
    exact gx_zret (b := false) C dX8_isBrokenBy_50
def f_X8_isBrokenBy_b20 (D : gx_D) (h : HX) (v0 : Nat) (v1 : Int32) : Option Bool :=
  f_X8_isBrokenBy_b25 D h v0 v1 true
theorem w_X8_isBrokenBy_b20 {l : Launch} (hlt : l.stackTraces = false) {p : Program} {e : Env} {R : Room} {s : State} {m : MethodId} {args : Array Value} {below : List Frame} {meth : Method} {c : Code} {D : gx_D} {h0 : HX} {r : Bool} (C : gx_Ctx p R s m args meth c "ContractMachine$Invariant" cX8_isBrokenBy 3 (some .boolean) 4 86 D h0 h0) (hx : meth.name = "isBrokenBy")  {v0 : Nat} {v1 : Int32} (hf : f_X8_isBrokenBy_b20 D h0 v0 v1 = some r) : gx_G p l e R s m args below meth c D h0 h0 3 (gx_MQ below args s D h0 h0 (some (.int (b2i r)))) 20 [(0, (va_rf (some v0))), (1, (.int v1))] [] h0 := by
  unfold f_X8_isBrokenBy_b20 at hf
  refine gx_iconst (v := 1) C dX8_isBrokenBy_20 rfl ?_
  refine gx_goto (tgt := 25) C dX8_isBrokenBy_21 rfl ?_
  refine gx_sub [0, 1] rfl ?_
  exact w_X8_isBrokenBy_b25 hlt C hx hf
def f_X8_isBrokenBy (D : gx_D) (h : HX) (a0 : Nat) (p1 : Int32) : Option Bool :=
  (hx_is h a0 [15]).bind fun _ =>
  (hx_gi h a0 [15] 0).bind fun x1 =>
  if x1 = (-1 : Int32) then
  f_X8_isBrokenBy_b20 D h a0 p1
  else
  (hx_gi h a0 [15] 0).bind fun x10 =>
  if (p1 / (1000 : Int32)) = x10 then
  f_X8_isBrokenBy_b20 D h a0 p1
  else
  f_X8_isBrokenBy_b25 D h a0 p1 false
theorem is_X8_isBrokenBy {D : gx_D} {h : HX} {a0 : Nat} {p1 : Int32} {z} (hf : f_X8_isBrokenBy D h a0 p1 = some z) : gx_isC h a0 [15] := by
  unfold f_X8_isBrokenBy at hf
  obtain ⟨_, g, -⟩ := gx_bs hf
  exact hx_is_of g
theorem w_X8_isBrokenBy_b {l : Launch} (hlt : l.stackTraces = false) {p : Program} {e : Env} {R : Room} {s : State} {m : MethodId} {args : Array Value} {below : List Frame} {meth : Method} {c : Code} {D : gx_D} {h0 : HX} {r : Bool} (C : gx_Ctx p R s m args meth c "ContractMachine$Invariant" cX8_isBrokenBy 3 (some .boolean) 4 86 D h0 h0) (hx : meth.name = "isBrokenBy") {a0 : Nat} {p1 : Int32} (hf : f_X8_isBrokenBy D h0 a0 p1 = some r) : gx_G p l e R s m args below meth c D h0 h0 3 (gx_MQ below args s D h0 h0 (some (.int (b2i r)))) 0 [(0, (va_rf (some a0))), (1, (.int p1))] [] h0 := by
  unfold f_X8_isBrokenBy at hf
  replace hf := gx_bs hf
  obtain ⟨_, -, hf⟩ := hf
  refine gx_aload_n C dX8_isBrokenBy_0 0 rfl ?_
  replace hf := gx_bs hf
  obtain ⟨x1, g13, hf⟩ := hf
  refine gx_gi C g13 gz_53 q864 dX8_isBrokenBy_1 ?_
  refine gx_iconst (v := -1) C dX8_isBrokenBy_4 rfl ?_
  replace hf := gx_ite hf
  rcases hf with ⟨c2, hf⟩ | ⟨c2, hf⟩
  · refine gx_icmp_eq_t (tgt := 20) C dX8_isBrokenBy_5 rfl c2 ?_
    refine gx_sub [0, 1] rfl ?_
    exact w_X8_isBrokenBy_b20 hlt C hx hf
  · refine gx_icmp_eq_f (tgt := 20) C dX8_isBrokenBy_5 rfl c2 ?_
    refine gx_iload_n C dX8_isBrokenBy_8 1 rfl ?_
    refine gx_sipush (v := 1000) C dX8_isBrokenBy_9 rfl ?_
    refine gx_idiv C dX8_isBrokenBy_12 (by decide) ?_
    refine gx_aload_n C dX8_isBrokenBy_13 0 rfl ?_
    replace hf := gx_bs hf
    obtain ⟨x10, g12, hf⟩ := hf
    refine gx_gi C g12 gz_53 q864 dX8_isBrokenBy_14 ?_
    replace hf := gx_ite hf
    rcases hf with ⟨c11, hf⟩ | ⟨c11, hf⟩
    · refine gx_icmp_ne_f (tgt := 24) C dX8_isBrokenBy_17 rfl c11 ?_
      refine gx_sub [0, 1] rfl ?_
      exact w_X8_isBrokenBy_b20 hlt C hx hf
    · refine gx_icmp_ne_t (tgt := 24) C dX8_isBrokenBy_17 rfl c11 ?_
      refine gx_iconst (v := 0) C dX8_isBrokenBy_24 rfl ?_
      refine gx_sub [0, 1] rfl ?_
      exact w_X8_isBrokenBy_b25 hlt C hx hf
theorem w_X8_isBrokenBy {l : Launch} (hlt : l.stackTraces = false) {D : gx_D} {h : HX} {a0 : Nat} {p1 : Int32} {r : Bool} (hf : f_X8_isBrokenBy D h a0 p1 = some r) : gx_Met l yX8_isBrokenBy cX8_isBrokenBy 3 (some .boolean) 4 86 D [(va_rf (some a0)), (.int p1)] h (some (.int (b2i r))) h :=
  gx_ofG gz_55 (by simp only [gx_lsr, gx_lsi, gx_lsj, gx_ls0]; decide) gx_le.rf (fun p e R s m args below meth c C hx => by
    simp only [gx_lar, gx_lai, gx_laj, gx_la0, Nat.reduceAdd]
    exact w_X8_isBrokenBy_b hlt C hx hf)
def f_X4_broken_b2 (D : gx_D) : Nat → HX → Nat → Int32 → Int32 → Option Int32
  | 0, _, _, _, _ => none
  | n + 1, h, v0, v1, v2 =>
  (hx_gr h v0 [11] 0).bind fun r1 =>
  r1.bind fun a2 =>
  (f_J2_size D h a2).bind fun x4 =>
  if x4 ≤ v2 then
  some ((-1 : Int32))
  else
  (hx_gr h v0 [11] 0).bind fun r6 =>
  r6.bind fun a7 =>
  (f_J2_get D h a7 v2).bind fun r9 =>
  (hx_cast h r9 [15]).bind fun u10 =>
  r9.bind fun a11 =>
  (f_X8_isBrokenBy D h a11 v1).bind fun b13 =>
  if b13 = true then
  some v2
  else
  (f_X4_broken_b2 D n) h v0 v1 ((v2 + (1 : Int32)))
theorem w_X4_broken_b2 {l : Launch} (hlt : l.stackTraces = false) {p : Program} {e : Env} {R : Room} {s : State} {m : MethodId} {args : Array Value} {below : List Frame} {meth : Method} {c : Code} {D : gx_D} {h0 : HX} {r : Int32} (C : gx_Ctx p R s m args meth c "ContractMachine$Run" cX4_broken 3 (some .int) 5 108 D h0 h0) (hx : meth.name = "broken")  : ∀ (n : Nat) ⦃v0 : Nat⦄ ⦃v1 : Int32⦄ ⦃v2 : Int32⦄, f_X4_broken_b2 D n h0 v0 v1 v2 = some r → gx_G p l e R s m args below meth c D h0 h0 3 (gx_MQ below args s D h0 h0 (some (.int r))) 2 [(0, (va_rf (some v0))), (1, (.int v1)), (2, (.int v2))] [] h0 := by
  intro n
  induction n with
  | zero => intro v0 v1 v2 hf; unfold f_X4_broken_b2 at hf; cases hf
  | succ n wk2 =>
    intro v0 v1 v2 hf
    unfold f_X4_broken_b2 at hf
    refine gx_iload_n C dX4_broken_2 2 rfl ?_
    refine gx_aload_n C dX4_broken_3 0 rfl ?_
    replace hf := gx_bs hf
    obtain ⟨r1, g17, hf⟩ := hf
    refine gx_gr C g17 gz_57 q595 dX4_broken_4 ?_
    replace hf := gx_bs hf
    obtain ⟨a2, rfl, hf⟩ := hf
    replace hf := gx_bs hf
    obtain ⟨x4, g3, hf⟩ := hf
    refine gx_callF (st := [(.int v2)]) C (w_J2_size hlt g3) (is_J2_size g3) q1435 (gx_cis1 gz_19 ⟨gz_51, q770⟩ gx_cis0) q772 q127 q774 gz_50 (by decide) rfl rfl (gx_catn (Nat.le_of_ble_eq_true rfl)) dX4_broken_7 ?_
    replace hf := gx_ite hf
    rcases hf with ⟨c5, hf⟩ | ⟨c5, hf⟩
    · refine gx_icmp_ge_t (tgt := 43) C dX4_broken_12 rfl c5 ?_
      refine gx_iconst (v := -1) C dX4_broken_43 rfl ?_
      obtain rfl := Option.some.inj hf
      exact gx_iret C dX4_broken_44
    · refine gx_icmp_ge_f (tgt := 43) C dX4_broken_12 rfl c5 ?_
      refine gx_aload_n C dX4_broken_15 0 rfl ?_
      replace hf := gx_bs hf
      obtain ⟨r6, g16, hf⟩ := hf
      refine gx_gr C g16 gz_57 q595 dX4_broken_16 ?_
      refine gx_iload_n C dX4_broken_19 2 rfl ?_
      replace hf := gx_bs hf
      obtain ⟨a7, rfl, hf⟩ := hf
      replace hf := gx_bs hf
      obtain ⟨r9, g8, hf⟩ := hf
      refine gx_callF (st := []) C (w_J2_get hlt g8) (is_J2_get g8) q1437 (gx_cis1 gz_19 ⟨gz_222, q1307⟩ gx_cis0) q1309 q127 q1311 gz_221 (by decide) rfl rfl (gx_catn (Nat.le_of_ble_eq_true rfl)) dX4_broken_20 ?_
      replace hf := gx_bs hf
      obtain ⟨u10, g15, hf⟩ := hf
      refine gx_cast C g15 gz_223 q1438 dX4_broken_25 ?_
      refine gx_iload_n C dX4_broken_28 1 rfl ?_
      replace hf := gx_bs hf
      obtain ⟨a11, rfl, hf⟩ := hf
      replace hf := gx_bs hf
      obtain ⟨b13, g12, hf⟩ := hf
      refine gx_callV (st := []) C (w_X8_isBrokenBy hlt g12) (is_X8_isBrokenBy g12) gz_11 rfl (lw_V q1439 q1440 q1441 q150 q1442) gz_224 (by decide) rfl rfl (gx_catn (Nat.le_of_ble_eq_true rfl)) dX4_broken_29 ?_
      replace hf := gx_ite hf
      rcases hf with ⟨c14, hf⟩ | ⟨c14, hf⟩
      · refine gx_ifz_eq_f (tgt := 37) C dX4_broken_32 rfl c14 ?_
        refine gx_iload_n C dX4_broken_35 2 rfl ?_
        obtain rfl := Option.some.inj hf
        exact gx_iret C dX4_broken_36
      · refine gx_ifz_eq_t (tgt := 37) C dX4_broken_32 rfl c14 ?_
        refine gx_inc (v := 1) C dX4_broken_37 2 rfl rfl (by decide) [0, 1] rfl (gx_okn rfl rfl (gx_okr rfl gx_catv_i gx_ok0)) ?_
        refine gx_goto (tgt := 2) C dX4_broken_40 rfl ?_
        refine gx_sub [1, 2, 0] rfl ?_
        exact wk2 hf
def f_X4_broken (D : gx_D) (h : HX) (a0 : Nat) (p1 : Int32) : Option Int32 :=
  (hx_is h a0 [11]).bind fun _ =>
  f_X4_broken_b2 D gx_fuel h a0 p1 ((0 : Int32))
theorem is_X4_broken {D : gx_D} {h : HX} {a0 : Nat} {p1 : Int32} {z} (hf : f_X4_broken D h a0 p1 = some z) : gx_isC h a0 [11] := by
  unfold f_X4_broken at hf
  obtain ⟨_, g, -⟩ := gx_bs hf
  exact hx_is_of g
theorem w_X4_broken_b {l : Launch} (hlt : l.stackTraces = false) {p : Program} {e : Env} {R : Room} {s : State} {m : MethodId} {args : Array Value} {below : List Frame} {meth : Method} {c : Code} {D : gx_D} {h0 : HX} {r : Int32} (C : gx_Ctx p R s m args meth c "ContractMachine$Run" cX4_broken 3 (some .int) 5 108 D h0 h0) (hx : meth.name = "broken") {a0 : Nat} {p1 : Int32} (hf : f_X4_broken D h0 a0 p1 = some r) : gx_G p l e R s m args below meth c D h0 h0 3 (gx_MQ below args s D h0 h0 (some (.int r))) 0 [(0, (va_rf (some a0))), (1, (.int p1))] [] h0 := by
  unfold f_X4_broken at hf
  replace hf := gx_bs hf
  obtain ⟨_, -, hf⟩ := hf
  refine gx_iconst (v := 0) C dX4_broken_0 rfl ?_
  refine gx_istn C dX4_broken_1 2 rfl (by decide) [0, 1]  rfl (gx_okn rfl rfl (gx_okr rfl gx_catv_i gx_ok0)) ?_
  refine gx_sub [1, 2, 0] rfl ?_
  exact w_X4_broken_b2 hlt C hx gx_fuel hf
theorem w_X4_broken {l : Launch} (hlt : l.stackTraces = false) {D : gx_D} {h : HX} {a0 : Nat} {p1 : Int32} {r : Int32} (hf : f_X4_broken D h a0 p1 = some r) : gx_Met l yX4_broken cX4_broken 3 (some .int) 5 108 D [(va_rf (some a0)), (.int p1)] h (some (.int r)) h :=
  gx_ofG gz_64 (by simp only [gx_lsr, gx_lsi, gx_lsj, gx_ls0]; decide) gx_le.rf (fun p e R s m args below meth c C hx => by
    simp only [gx_lar, gx_lai, gx_laj, gx_la0, Nat.reduceAdd]
    exact w_X4_broken_b hlt C hx hf)
def f_X10_endStatement_b16 (D : gx_D) (h : HX) (v0 : Nat) (s0 : Bool) (s1 : Option Nat) : Option ((Unit ⊕ (String × Nat)) × HX) :=
  s1.bind fun a3 =>
  gx_bx (f_X10_expect D h a3 s0 (1 : Int32)) (fun u8 h5 =>
  (f_X10_advance D h5 v0).bind fun h10 =>
  some (.inl (), h10)) fun E6 q7 h5 =>
  some (.inr (E6, q7), h5)
theorem w_X10_endStatement_b16 {l : Launch} (hlt : l.stackTraces = false) {p : Program} {e : Env} {R : Room} {s : State} {m : MethodId} {args : Array Value} {below : List Frame} {meth : Method} {c : Code} {D : gx_D} {h0 : HX} {r : Unit ⊕ (String × Nat)} {hz : HX} (C : gx_Ctx p R s m args meth c "ContractMachine$Parser" cX10_endStatement 1 none 9 220 D h0 hz) (hx : ∀ x ∈ c.exceptionTable.toList, False)  {h : HX} {v0 : Nat} {s0 : Bool} {s1 : Option Nat} (hf : f_X10_endStatement_b16 D h v0 s0 s1 = some (r, hz)) : gx_G p l e R s m args below meth c D h0 hz 1 (gx_MQX below args s D h0 hz (gx_xv r)) 16 [(0, (va_rf (some v0)))] [(.int (b2i s0)), (va_rf s1)] h := by
  unfold f_X10_endStatement_b16 at hf
  refine gx_iconst (v := 1) C dX10_endStatement_16 rfl ?_
  replace hf := gx_bs hf
  obtain ⟨a3, rfl, hf⟩ := hf
  replace hf := gx_bxs hf
  rcases hf with ⟨u8, h5, g4, hf⟩ | ⟨E6, q7, h5, g4, hf⟩
  · refine gx_xcallU (st := []) C (w_X10_expect hlt g4) (is_X10_expect g4) q1299 q3274 (gx_decl C q1249) ⟨by decide, by decide⟩ (gx_cis1 gz_129 (C.hts _ q3276) (gx_cis1 gz_128 (C.hts _ q3275) gx_cis0)) q1251 q152 q1252 gz_225 (by decide) rfl rfl (gx_catn (Nat.le_of_ble_eq_true rfl)) dX10_endStatement_17 (gx_k2l ?_)
    refine gx_aload_n C dX10_endStatement_20 0 rfl ?_
    replace hf := gx_bs hf
    obtain ⟨h10, g9, hf⟩ := hf
    refine gx_callU (st := []) C (w_X10_advance hlt g9) (is_X10_advance g9) q975 q977 (gx_decl C q1283) ⟨by decide, by decide⟩ (gx_cis1 gz_129 (C.hts _ q979) (gx_cis1 gz_128 (C.hts _ q978) gx_cis0)) q976 q152 q980 gz_187 (by decide) rfl rfl (gx_catn (Nat.le_of_ble_eq_true rfl)) dX10_endStatement_21 ?_
    obtain ⟨rfl, rfl⟩ := Prod.mk.inj (Option.some.inj hf)
    exact gx_ret (gx_vret C dX10_endStatement_24)
  · refine gx_xcallU (st := []) C (w_X10_expect hlt g4) (is_X10_expect g4) q1299 q3274 (gx_decl C q1249) ⟨by decide, by decide⟩ (gx_cis1 gz_129 (C.hts _ q3276) (gx_cis1 gz_128 (C.hts _ q3275) gx_cis0)) q1251 q152 q1252 gz_225 (by decide) rfl rfl (gx_catn (Nat.le_of_ble_eq_true rfl)) dX10_endStatement_17 (gx_k2r ?_)
    obtain ⟨rfl, rfl⟩ := Prod.mk.inj (Option.some.inj hf)
    exact gx_out C hx
theorem le_X10_endStatement_b16 {D : gx_D} {r : Unit ⊕ (String × Nat)} {hz : HX} {h : HX} {v0 : Nat} {s0 : Bool} {s1 : Option Nat} (hf : f_X10_endStatement_b16 D h v0 s0 s1 = some (r, hz)) : gx_le h hz := by
  unfold f_X10_endStatement_b16 at hf
  replace hf := gx_bs hf
  obtain ⟨a3, rfl, hf⟩ := hf
  replace hf := gx_bxs hf
  rcases hf with ⟨u8, h5, g4, hf⟩ | ⟨E6, q7, h5, g4, hf⟩
  · refine (le_X10_expect g4).tr ?_
    replace hf := gx_bs hf
    obtain ⟨h10, g9, hf⟩ := hf
    refine (le_X10_advance g9).tr ?_
    obtain ⟨rfl, rfl⟩ := Prod.mk.inj (Option.some.inj hf)
    exact gx_le.rf
  · refine (le_X10_expect g4).tr ?_
    obtain ⟨rfl, rfl⟩ := Prod.mk.inj (Option.some.inj hf)
    exact gx_le.rf
def f_X10_endStatement (D : gx_D) (h : HX) (a0 : Nat) : Option ((Unit ⊕ (String × Nat)) × HX) :=
  (hx_is h a0 [16, 18]).bind fun _ =>
  (hx_gr h a0 [16, 18] 4).bind fun r1 =>
  if r1 = (some (D.2.2.1 122)) then
  f_X10_endStatement_b16 D h a0 true (some a0)
  else
  f_X10_endStatement_b16 D h a0 false (some a0)
theorem is_X10_endStatement {D : gx_D} {h : HX} {a0 : Nat} {z} (hf : f_X10_endStatement D h a0 = some z) : gx_isC h a0 [16, 18] := by
  unfold f_X10_endStatement at hf
  obtain ⟨_, g, -⟩ := gx_bs hf
  exact hx_is_of g
theorem w_X10_endStatement_b {l : Launch} (hlt : l.stackTraces = false) {p : Program} {e : Env} {R : Room} {s : State} {m : MethodId} {args : Array Value} {below : List Frame} {meth : Method} {c : Code} {D : gx_D} {h0 : HX} {r : Unit ⊕ (String × Nat)} {hz : HX} (C : gx_Ctx p R s m args meth c "ContractMachine$Parser" cX10_endStatement 1 none 9 220 D h0 hz) (hx : ∀ x ∈ c.exceptionTable.toList, False) {a0 : Nat} (hf : f_X10_endStatement D h0 a0 = some (r, hz)) : gx_G p l e R s m args below meth c D h0 hz 1 (gx_MQX below args s D h0 hz (gx_xv r)) 0 [(0, (va_rf (some a0)))] [] h0 := by
  unfold f_X10_endStatement at hf
  replace hf := gx_bs hf
  obtain ⟨_, -, hf⟩ := hf
  refine gx_aload_n C dX10_endStatement_0 0 rfl ?_
  refine gx_aload_n C dX10_endStatement_1 0 rfl ?_
  replace hf := gx_bs hf
  obtain ⟨r1, g11, hf⟩ := hf
  refine gx_gr C g11 gz_180 q1129 dX10_endStatement_2 ?_
  refine gx_statk C 11 rfl q1115 dX10_endStatement_5 ?_
  replace hf := gx_ite hf
  rcases hf with ⟨c2, hf⟩ | ⟨c2, hf⟩
  · refine gx_acmp_ne_f (tgt := 15) C dX10_endStatement_8 rfl c2 ?_
    refine gx_iconst (v := 1) C dX10_endStatement_11 rfl ?_
    refine gx_goto (tgt := 16) C dX10_endStatement_12 rfl ?_
    refine gx_sub [0] rfl ?_
    exact w_X10_endStatement_b16 hlt C hx hf
  · refine gx_acmp_ne_t (tgt := 15) C dX10_endStatement_8 rfl c2 ?_
    refine gx_iconst (v := 0) C dX10_endStatement_15 rfl ?_
    refine gx_sub [0] rfl ?_
    exact w_X10_endStatement_b16 hlt C hx hf
theorem le_X10_endStatement {D : gx_D} {r : Unit ⊕ (String × Nat)} {hz : HX} {h : HX} {a0 : Nat} (hf : f_X10_endStatement D h a0 = some (r, hz)) : gx_le h hz := by
  unfold f_X10_endStatement at hf
  replace hf := gx_bs hf
  obtain ⟨_, -, hf⟩ := hf
  replace hf := gx_bs hf
  obtain ⟨r1, g11, hf⟩ := hf
  replace hf := gx_ite hf
  rcases hf with ⟨c2, hf⟩ | ⟨c2, hf⟩
  · exact le_X10_endStatement_b16 hf
  · exact le_X10_endStatement_b16 hf
theorem w_X10_endStatement {l : Launch} (hlt : l.stackTraces = false) {D : gx_D} {h : HX} {a0 : Nat} {r : Unit ⊕ (String × Nat)} {hz : HX} (hf : f_X10_endStatement D h a0 = some (r, hz)) : gx_MetX l yX10_endStatement (ws_ yX10_endStatement cX10_endStatement 1 none) 9 220 D [(va_rf (some a0))] h (gx_xv r) hz :=
  gx_ofGX gz_126 (by simp only [gx_lsr, gx_lsi, gx_lsj, gx_ls0]; decide) (le_X10_endStatement hf) (fun p e R s m args below meth c C hn hx => by
    simp only [gx_lar, gx_lai, gx_laj, gx_la0, Nat.reduceAdd]
    exact w_X10_endStatement_b hlt C hx hf)
def f_X3_indexOf_b2 (D : gx_D) : Nat → HX → Option Nat → Option Nat → Int32 → Option Int32
  | 0, _, _, _, _ => none
  | n + 1, h, v0, v1, v2 =>
  v0.bind fun a1 =>
  (f_J2_size D h a1).bind fun x3 =>
  if x3 ≤ v2 then
  some ((-1 : Int32))
  else
  (f_J2_get D h a1 v2).bind fun r6 =>
  (hx_cast h r6 [2]).bind fun u7 =>
  r6.bind fun a8 =>
  (f_J9_equals D h a8 v1).bind fun b10 =>
  if b10 = true then
  some v2
  else
  (f_X3_indexOf_b2 D n) h (some a1) v1 ((v2 + (1 : Int32)))
theorem w_X3_indexOf_b2 {l : Launch} (hlt : l.stackTraces = false) {p : Program} {e : Env} {R : Room} {s : State} {m : MethodId} {args : Array Value} {below : List Frame} {meth : Method} {c : Code} {D : gx_D} {h0 : HX} {r : Int32} (C : gx_Ctx p R s m args meth c "ContractMachine$Definition" cX3_indexOf 3 (some .int) 4 88 D h0 h0) (hx : meth.name = "indexOf")  : ∀ (n : Nat) ⦃v0 : Option Nat⦄ ⦃v1 : Option Nat⦄ ⦃v2 : Int32⦄, f_X3_indexOf_b2 D n h0 v0 v1 v2 = some r → gx_G p l e R s m args below meth c D h0 h0 3 (gx_MQ below args s D h0 h0 (some (.int r))) 2 [(0, (va_rf v0)), (1, (va_rf v1)), (2, (.int v2))] [] h0 := by
  intro n
  induction n with
  | zero => intro v0 v1 v2 hf; unfold f_X3_indexOf_b2 at hf; cases hf
  | succ n wk2 =>
    intro v0 v1 v2 hf
    unfold f_X3_indexOf_b2 at hf
    refine gx_iload_n C dX3_indexOf_2 2 rfl ?_
    refine gx_aload_n C dX3_indexOf_3 0 rfl ?_
    replace hf := gx_bs hf
    obtain ⟨a1, rfl, hf⟩ := hf
    replace hf := gx_bs hf
    obtain ⟨x3, g2, hf⟩ := hf
    refine gx_callF (st := [(.int v2)]) C (w_J2_size hlt g2) (is_J2_size g2) q767 (gx_cis1 gz_19 ⟨gz_51, q770⟩ gx_cis0) q772 q127 q774 gz_50 (by decide) rfl rfl (gx_catn (Nat.le_of_ble_eq_true rfl)) dX3_indexOf_4 ?_
    replace hf := gx_ite hf
    rcases hf with ⟨c4, hf⟩ | ⟨c4, hf⟩
    · refine gx_icmp_ge_t (tgt := 37) C dX3_indexOf_9 rfl c4 ?_
      refine gx_iconst (v := -1) C dX3_indexOf_37 rfl ?_
      obtain rfl := Option.some.inj hf
      exact gx_iret C dX3_indexOf_38
    · refine gx_icmp_ge_f (tgt := 37) C dX3_indexOf_9 rfl c4 ?_
      refine gx_aload_n C dX3_indexOf_12 0 rfl ?_
      refine gx_iload_n C dX3_indexOf_13 2 rfl ?_
      replace hf := gx_bs hf
      obtain ⟨r6, g5, hf⟩ := hf
      refine gx_callF (st := []) C (w_J2_get hlt g5) (is_J2_get g5) q1304 (gx_cis1 gz_19 ⟨gz_222, q1307⟩ gx_cis0) q1309 q127 q1311 gz_221 (by decide) rfl rfl (gx_catn (Nat.le_of_ble_eq_true rfl)) dX3_indexOf_14 ?_
      replace hf := gx_bs hf
      obtain ⟨u7, g12, hf⟩ := hf
      refine gx_cast C g12 gz_96 q1320 dX3_indexOf_19 ?_
      refine gx_aload_n C dX3_indexOf_22 1 rfl ?_
      replace hf := gx_bs hf
      obtain ⟨a8, rfl, hf⟩ := hf
      replace hf := gx_bs hf
      obtain ⟨b10, g9, hf⟩ := hf
      refine gx_callV (st := []) C (w_J9_equals hlt g9) (is_J9_equals g9) gz_10 rfl (lw_V q1321 q1229 q1230 q134 q1231) gz_227 (by decide) rfl rfl (gx_catn (Nat.le_of_ble_eq_true rfl)) dX3_indexOf_23 ?_
      replace hf := gx_ite hf
      rcases hf with ⟨c11, hf⟩ | ⟨c11, hf⟩
      · refine gx_ifz_eq_f (tgt := 31) C dX3_indexOf_26 rfl c11 ?_
        refine gx_iload_n C dX3_indexOf_29 2 rfl ?_
        obtain rfl := Option.some.inj hf
        exact gx_iret C dX3_indexOf_30
      · refine gx_ifz_eq_t (tgt := 31) C dX3_indexOf_26 rfl c11 ?_
        refine gx_inc (v := 1) C dX3_indexOf_31 2 rfl rfl (by decide) [0, 1] rfl (gx_okn rfl rfl (gx_okr rfl gx_catv_r gx_ok0)) ?_
        refine gx_goto (tgt := 2) C dX3_indexOf_34 rfl ?_
        refine gx_sub [1, 2, 0] rfl ?_
        exact wk2 hf
def f_X3_indexOf (D : gx_D) (h : HX) (p0 : Option Nat) (p1 : Option Nat) : Option Int32 :=
  f_X3_indexOf_b2 D gx_fuel h p0 p1 ((0 : Int32))
theorem w_X3_indexOf_b {l : Launch} (hlt : l.stackTraces = false) {p : Program} {e : Env} {R : Room} {s : State} {m : MethodId} {args : Array Value} {below : List Frame} {meth : Method} {c : Code} {D : gx_D} {h0 : HX} {r : Int32} (C : gx_Ctx p R s m args meth c "ContractMachine$Definition" cX3_indexOf 3 (some .int) 4 88 D h0 h0) (hx : meth.name = "indexOf") {p0 : Option Nat} {p1 : Option Nat} (hf : f_X3_indexOf D h0 p0 p1 = some r) : gx_G p l e R s m args below meth c D h0 h0 3 (gx_MQ below args s D h0 h0 (some (.int r))) 0 [(0, (va_rf p0)), (1, (va_rf p1))] [] h0 := by
  unfold f_X3_indexOf at hf
  refine gx_iconst (v := 0) C dX3_indexOf_0 rfl ?_
  refine gx_istn C dX3_indexOf_1 2 rfl (by decide) [0, 1]  rfl (gx_okn rfl rfl (gx_okr rfl gx_catv_r gx_ok0)) ?_
  refine gx_sub [1, 2, 0] rfl ?_
  exact w_X3_indexOf_b2 hlt C hx gx_fuel hf
theorem w_X3_indexOf {l : Launch} (hlt : l.stackTraces = false) {D : gx_D} {h : HX} {p0 : Option Nat} {p1 : Option Nat} {r : Int32} (hf : f_X3_indexOf D h p0 p1 = some r) : gx_Met l yX3_indexOf cX3_indexOf 3 (some .int) 4 88 D [(va_rf p0), (va_rf p1)] h (some (.int r)) h :=
  gx_ofG gz_48 (by simp only [gx_lsr, gx_lsi, gx_lsj, gx_ls0]; decide) gx_le.rf (fun p e R s m args below meth c C hx => by
    simp only [gx_lar, gx_lai, gx_laj, gx_la0, Nat.reduceAdd]
    exact w_X3_indexOf_b hlt C hx hf)
def f_X10_name (D : gx_D) (h : HX) (a0 : Nat) : Option ((Option Nat ⊕ (String × Nat)) × HX) :=
  (hx_is h a0 [16, 18]).bind fun _ =>
  (hx_gr h a0 [16, 18] 3).bind fun r1 =>
  r1.bind fun a2 =>
  (f_J9_length D h a2).bind fun x4 =>
  (f_X1_isWithin D h (Int32.toInt64 x4) (1 : Int64) (6 : Int64)).bind fun b6 =>
  gx_bx (f_X10_expect D h a0 b6 (1 : Int32)) (fun u11 h8 =>
  (hx_gr h8 a0 [16, 18] 3).bind fun r12 =>
  some (.inl r12, h8)) fun E9 q10 h8 =>
  some (.inr (E9, q10), h8)
theorem is_X10_name {D : gx_D} {h : HX} {a0 : Nat} {z} (hf : f_X10_name D h a0 = some z) : gx_isC h a0 [16, 18] := by
  unfold f_X10_name at hf
  obtain ⟨_, g, -⟩ := gx_bs hf
  exact hx_is_of g
theorem w_X10_name_b {l : Launch} (hlt : l.stackTraces = false) {p : Program} {e : Env} {R : Room} {s : State} {m : MethodId} {args : Array Value} {below : List Frame} {meth : Method} {c : Code} {D : gx_D} {h0 : HX} {r : Option Nat ⊕ (String × Nat)} {hz : HX} (C : gx_Ctx p R s m args meth c "ContractMachine$Parser" cX10_name 1 (some (.object "java/lang/String")) 5 116 D h0 hz) (hx : ∀ x ∈ c.exceptionTable.toList, False) {a0 : Nat} (hf : f_X10_name D h0 a0 = some (r, hz)) : gx_G p l e R s m args below meth c D h0 hz 1 (gx_MQX below args s D h0 hz (gx_xa r)) 0 [(0, (va_rf (some a0)))] [] h0 := by
  unfold f_X10_name at hf
  replace hf := gx_bs hf
  obtain ⟨_, -, hf⟩ := hf
  refine gx_aload_n C dX10_name_0 0 rfl ?_
  refine gx_aload_n C dX10_name_1 0 rfl ?_
  replace hf := gx_bs hf
  obtain ⟨r1, g14, hf⟩ := hf
  refine gx_gr C g14 gz_178 q1128 dX10_name_2 ?_
  replace hf := gx_bs hf
  obtain ⟨a2, rfl, hf⟩ := hf
  replace hf := gx_bs hf
  obtain ⟨x4, g3, hf⟩ := hf
  refine gx_callV (st := [(va_rf (some a0))]) C (w_J9_length hlt g3) (is_J9_length g3) gz_10 rfl (lw_V q1297 q381 q382 q134 q383) gz_171 (by decide) rfl rfl (gx_catn (Nat.le_of_ble_eq_true rfl)) dX10_name_5 ?_
  refine gx_i2l C dX10_name_8 ?_
  refine gx_lconst (v := 1) C dX10_name_9 rfl ?_
  refine gx_ldc2 C q1298 dX10_name_10 ?_
  replace hf := gx_bs hf
  obtain ⟨b6, g5, hf⟩ := hf
  refine gx_callSN (st := [(va_rf (some a0))]) C (w_X1_isWithin hlt g5) q990 q954 q121 q955 gz_121 (by decide) rfl rfl (gx_catn (Nat.le_of_ble_eq_true rfl)) dX10_name_13 ?_
  refine gx_iconst (v := 1) C dX10_name_16 rfl ?_
  replace hf := gx_bxs hf
  rcases hf with ⟨u11, h8, g7, hf⟩ | ⟨E9, q10, h8, g7, hf⟩
  · refine gx_xcallU (st := []) C (w_X10_expect hlt g7) (is_X10_expect g7) q1299 q3274 (gx_decl C q1249) ⟨by decide, by decide⟩ (gx_cis1 gz_129 (C.hts _ q3276) (gx_cis1 gz_128 (C.hts _ q3275) gx_cis0)) q1251 q152 q1252 gz_225 (by decide) rfl rfl (gx_catn (Nat.le_of_ble_eq_true rfl)) dX10_name_17 (gx_k2l ?_)
    refine gx_aload_n C dX10_name_20 0 rfl ?_
    replace hf := gx_bs hf
    obtain ⟨r12, g13, hf⟩ := hf
    refine gx_gr C g13 gz_178 q1128 dX10_name_21 ?_
    obtain ⟨rfl, rfl⟩ := Prod.mk.inj (Option.some.inj hf)
    exact gx_ret (gx_aret C rfl rfl dX10_name_24)
  · refine gx_xcallU (st := []) C (w_X10_expect hlt g7) (is_X10_expect g7) q1299 q3274 (gx_decl C q1249) ⟨by decide, by decide⟩ (gx_cis1 gz_129 (C.hts _ q3276) (gx_cis1 gz_128 (C.hts _ q3275) gx_cis0)) q1251 q152 q1252 gz_225 (by decide) rfl rfl (gx_catn (Nat.le_of_ble_eq_true rfl)) dX10_name_17 (gx_k2r ?_)
    obtain ⟨rfl, rfl⟩ := Prod.mk.inj (Option.some.inj hf)
    exact gx_out C hx
theorem le_X10_name {D : gx_D} {r : Option Nat ⊕ (String × Nat)} {hz : HX} {h : HX} {a0 : Nat} (hf : f_X10_name D h a0 = some (r, hz)) : gx_le h hz := by
  unfold f_X10_name at hf
  replace hf := gx_bs hf
  obtain ⟨_, -, hf⟩ := hf
  replace hf := gx_bs hf
  obtain ⟨r1, g14, hf⟩ := hf
  replace hf := gx_bs hf
  obtain ⟨a2, rfl, hf⟩ := hf
  replace hf := gx_bs hf
  obtain ⟨x4, g3, hf⟩ := hf
  replace hf := gx_bs hf
  obtain ⟨b6, g5, hf⟩ := hf
  replace hf := gx_bxs hf
  rcases hf with ⟨u11, h8, g7, hf⟩ | ⟨E9, q10, h8, g7, hf⟩
  · refine (le_X10_expect g7).tr ?_
    replace hf := gx_bs hf
    obtain ⟨r12, g13, hf⟩ := hf
    obtain ⟨rfl, rfl⟩ := Prod.mk.inj (Option.some.inj hf)
    exact gx_le.rf
  · refine (le_X10_expect g7).tr ?_
    obtain ⟨rfl, rfl⟩ := Prod.mk.inj (Option.some.inj hf)
    exact gx_le.rf
theorem w_X10_name {l : Launch} (hlt : l.stackTraces = false) {D : gx_D} {h : HX} {a0 : Nat} {r : Option Nat ⊕ (String × Nat)} {hz : HX} (hf : f_X10_name D h a0 = some (r, hz)) : gx_MetX l yX10_name (ws_ yX10_name cX10_name 1 (some (.object "java/lang/String"))) 5 116 D [(va_rf (some a0))] h (gx_xa r) hz :=
  gx_ofGX gz_126 (by simp only [gx_lsr, gx_lsi, gx_lsj, gx_ls0]; decide) (le_X10_name hf) (fun p e R s m args below meth c C hn hx => by
    simp only [gx_lar, gx_lai, gx_laj, gx_la0, Nat.reduceAdd]
    exact w_X10_name_b hlt C hx hf)
def f_X10_newName_b20 (D : gx_D) (h : HX) (v0 : Nat) (v2 : Option Nat) (s0 : Bool) (s1 : Option Nat) : Option ((Option Nat ⊕ (String × Nat)) × HX) :=
  s1.bind fun a9 =>
  gx_bx (f_X10_expect D h a9 s0 (3 : Int32)) (fun u14 h11 =>
  (f_X10_advance D h11 v0).bind fun h16 =>
  some (.inl v2, h16)) fun E12 q13 h11 =>
  some (.inr (E12, q13), h11)
theorem w_X10_newName_b20 {l : Launch} (hlt : l.stackTraces = false) {p : Program} {e : Env} {R : Room} {s : State} {m : MethodId} {args : Array Value} {below : List Frame} {meth : Method} {c : Code} {D : gx_D} {h0 : HX} {r : Option Nat ⊕ (String × Nat)} {hz : HX} (C : gx_Ctx p R s m args meth c "ContractMachine$Parser" cX10_newName 3 (some (.object "java/lang/String")) 9 220 D h0 hz) (hx : ∀ x ∈ c.exceptionTable.toList, False)  {h : HX} {v0 : Nat} {v2 : Option Nat} {s0 : Bool} {s1 : Option Nat} (hf : f_X10_newName_b20 D h v0 v2 s0 s1 = some (r, hz)) : gx_G p l e R s m args below meth c D h0 hz 3 (gx_MQX below args s D h0 hz (gx_xa r)) 20 [(0, (va_rf (some v0))), (2, (va_rf v2))] [(.int (b2i s0)), (va_rf s1)] h := by
  unfold f_X10_newName_b20 at hf
  refine gx_iconst (v := 3) C dX10_newName_20 rfl ?_
  replace hf := gx_bs hf
  obtain ⟨a9, rfl, hf⟩ := hf
  replace hf := gx_bxs hf
  rcases hf with ⟨u14, h11, g10, hf⟩ | ⟨E12, q13, h11, g10, hf⟩
  · refine gx_xcallU (st := []) C (w_X10_expect hlt g10) (is_X10_expect g10) q1299 q3274 (gx_decl C q1249) ⟨by decide, by decide⟩ (gx_cis1 gz_129 (C.hts _ q3276) (gx_cis1 gz_128 (C.hts _ q3275) gx_cis0)) q1251 q152 q1252 gz_225 (by decide) rfl rfl (gx_catn (Nat.le_of_ble_eq_true rfl)) dX10_newName_21 (gx_k2l ?_)
    refine gx_aload_n C dX10_newName_24 0 rfl ?_
    replace hf := gx_bs hf
    obtain ⟨h16, g15, hf⟩ := hf
    refine gx_callU (st := []) C (w_X10_advance hlt g15) (is_X10_advance g15) q975 q977 (gx_decl C q1283) ⟨by decide, by decide⟩ (gx_cis1 gz_129 (C.hts _ q979) (gx_cis1 gz_128 (C.hts _ q978) gx_cis0)) q976 q152 q980 gz_187 (by decide) rfl rfl (gx_catn (Nat.le_of_ble_eq_true rfl)) dX10_newName_25 ?_
    refine gx_aload_n C dX10_newName_28 1 rfl ?_
    obtain ⟨rfl, rfl⟩ := Prod.mk.inj (Option.some.inj hf)
    exact gx_ret (gx_aret C rfl rfl dX10_newName_29)
  · refine gx_xcallU (st := []) C (w_X10_expect hlt g10) (is_X10_expect g10) q1299 q3274 (gx_decl C q1249) ⟨by decide, by decide⟩ (gx_cis1 gz_129 (C.hts _ q3276) (gx_cis1 gz_128 (C.hts _ q3275) gx_cis0)) q1251 q152 q1252 gz_225 (by decide) rfl rfl (gx_catn (Nat.le_of_ble_eq_true rfl)) dX10_newName_21 (gx_k2r ?_)
    obtain ⟨rfl, rfl⟩ := Prod.mk.inj (Option.some.inj hf)
    exact gx_out C hx
theorem le_X10_newName_b20 {D : gx_D} {r : Option Nat ⊕ (String × Nat)} {hz : HX} {h : HX} {v0 : Nat} {v2 : Option Nat} {s0 : Bool} {s1 : Option Nat} (hf : f_X10_newName_b20 D h v0 v2 s0 s1 = some (r, hz)) : gx_le h hz := by
  unfold f_X10_newName_b20 at hf
  replace hf := gx_bs hf
  obtain ⟨a9, rfl, hf⟩ := hf
  replace hf := gx_bxs hf
  rcases hf with ⟨u14, h11, g10, hf⟩ | ⟨E12, q13, h11, g10, hf⟩
  · refine (le_X10_expect g10).tr ?_
    replace hf := gx_bs hf
    obtain ⟨h16, g15, hf⟩ := hf
    refine (le_X10_advance g15).tr ?_
    obtain ⟨rfl, rfl⟩ := Prod.mk.inj (Option.some.inj hf)
    exact gx_le.rf
  · refine (le_X10_expect g10).tr ?_
    obtain ⟨rfl, rfl⟩ := Prod.mk.inj (Option.some.inj hf)
    exact gx_le.rf
def f_X10_newName (D : gx_D) (h : HX) (a0 : Nat) (p1 : Option Nat) : Option ((Option Nat ⊕ (String × Nat)) × HX) :=
  (hx_is h a0 [16]).bind fun _ =>
  gx_bx (f_X10_name D h a0) (fun r2 h3 =>
  (f_X3_indexOf D h3 p1 r2).bind fun x7 =>
  if x7 = (-1 : Int32) then
  f_X10_newName_b20 D h3 a0 r2 true (some a0)
  else
  f_X10_newName_b20 D h3 a0 r2 false (some a0)) fun E4 q5 h3 =>
  some (.inr (E4, q5), h3)
theorem is_X10_newName {D : gx_D} {h : HX} {a0 : Nat} {p1 : Option Nat} {z} (hf : f_X10_newName D h a0 p1 = some z) : gx_isC h a0 [16] := by
  unfold f_X10_newName at hf
  obtain ⟨_, g, -⟩ := gx_bs hf
  exact hx_is_of g
theorem w_X10_newName_b {l : Launch} (hlt : l.stackTraces = false) {p : Program} {e : Env} {R : Room} {s : State} {m : MethodId} {args : Array Value} {below : List Frame} {meth : Method} {c : Code} {D : gx_D} {h0 : HX} {r : Option Nat ⊕ (String × Nat)} {hz : HX} (C : gx_Ctx p R s m args meth c "ContractMachine$Parser" cX10_newName 3 (some (.object "java/lang/String")) 9 220 D h0 hz) (hx : ∀ x ∈ c.exceptionTable.toList, False) {a0 : Nat} {p1 : Option Nat} (hf : f_X10_newName D h0 a0 p1 = some (r, hz)) : gx_G p l e R s m args below meth c D h0 hz 3 (gx_MQX below args s D h0 hz (gx_xa r)) 0 [(0, (va_rf (some a0))), (1, (va_rf p1))] [] h0 := by
  unfold f_X10_newName at hf
  replace hf := gx_bs hf
  obtain ⟨_, -, hf⟩ := hf
  refine gx_aload_n C dX10_newName_0 0 rfl ?_
  replace hf := gx_bxs hf
  rcases hf with ⟨r2, h3, g1, hf⟩ | ⟨E4, q5, h3, g1, hf⟩
  · refine gx_xcallU (st := []) C (w_X10_name hlt g1) (is_X10_name g1) q1291 q1293 (va_Decl.of (C.hts _ q1292) (C.hts _ q1296)) ⟨by decide, by decide⟩ (gx_cis1 gz_129 (C.hts _ q1295) (gx_cis1 gz_128 (C.hts _ q1294) gx_cis0)) q1292 q152 q1296 gz_228 (by decide) rfl rfl (gx_catn (Nat.le_of_ble_eq_true rfl)) dX10_newName_1 (gx_k2l ?_)
    refine gx_astn C dX10_newName_4 2 rfl (by decide) [0, 1]  rfl (gx_okn rfl rfl (gx_okr rfl gx_catv_r gx_ok0)) ?_
    refine gx_aload_n C dX10_newName_5 1 rfl ?_
    refine gx_aload_n C dX10_newName_6 2 rfl ?_
    refine gx_aload_n C dX10_newName_7 0 rfl ?_
    replace hf := gx_bs hf
    obtain ⟨x7, g6, hf⟩ := hf
    refine gx_callSN (st := [(va_rf (some a0))]) C (w_X3_indexOf hlt g6) q1300 q1301 q124 q1302 gz_229 (by decide) rfl rfl (gx_catn (Nat.le_of_ble_eq_true rfl)) dX10_newName_8 ?_
    refine gx_iconst (v := -1) C dX10_newName_11 rfl ?_
    replace hf := gx_ite hf
    rcases hf with ⟨c8, hf⟩ | ⟨c8, hf⟩
    · refine gx_icmp_ne_f (tgt := 19) C dX10_newName_12 rfl c8 ?_
      refine gx_iconst (v := 1) C dX10_newName_15 rfl ?_
      refine gx_goto (tgt := 20) C dX10_newName_16 rfl ?_
      refine gx_sub [1, 0] rfl ?_
      exact w_X10_newName_b20 hlt C hx hf
    · refine gx_icmp_ne_t (tgt := 19) C dX10_newName_12 rfl c8 ?_
      refine gx_iconst (v := 0) C dX10_newName_19 rfl ?_
      refine gx_sub [1, 0] rfl ?_
      exact w_X10_newName_b20 hlt C hx hf
  · refine gx_xcallU (st := []) C (w_X10_name hlt g1) (is_X10_name g1) q1291 q1293 (va_Decl.of (C.hts _ q1292) (C.hts _ q1296)) ⟨by decide, by decide⟩ (gx_cis1 gz_129 (C.hts _ q1295) (gx_cis1 gz_128 (C.hts _ q1294) gx_cis0)) q1292 q152 q1296 gz_228 (by decide) rfl rfl (gx_catn (Nat.le_of_ble_eq_true rfl)) dX10_newName_1 (gx_k2r ?_)
    obtain ⟨rfl, rfl⟩ := Prod.mk.inj (Option.some.inj hf)
    exact gx_out C hx
theorem le_X10_newName {D : gx_D} {r : Option Nat ⊕ (String × Nat)} {hz : HX} {h : HX} {a0 : Nat} {p1 : Option Nat} (hf : f_X10_newName D h a0 p1 = some (r, hz)) : gx_le h hz := by
  unfold f_X10_newName at hf
  replace hf := gx_bs hf
  obtain ⟨_, -, hf⟩ := hf
  replace hf := gx_bxs hf
  rcases hf with ⟨r2, h3, g1, hf⟩ | ⟨E4, q5, h3, g1, hf⟩
  · refine (le_X10_name g1).tr ?_
    replace hf := gx_bs hf
    obtain ⟨x7, g6, hf⟩ := hf
    replace hf := gx_ite hf
    rcases hf with ⟨c8, hf⟩ | ⟨c8, hf⟩
    · exact le_X10_newName_b20 hf
    · exact le_X10_newName_b20 hf
  · refine (le_X10_name g1).tr ?_
    obtain ⟨rfl, rfl⟩ := Prod.mk.inj (Option.some.inj hf)
    exact gx_le.rf
theorem w_X10_newName {l : Launch} (hlt : l.stackTraces = false) {D : gx_D} {h : HX} {a0 : Nat} {p1 : Option Nat} {r : Option Nat ⊕ (String × Nat)} {hz : HX} (hf : f_X10_newName D h a0 p1 = some (r, hz)) : gx_MetX l yX10_newName (ws_ yX10_newName cX10_newName 3 (some (.object "java/lang/String"))) 9 220 D [(va_rf (some a0)), (va_rf p1)] h (gx_xa r) hz :=
  gx_ofGX gz_126 (by simp only [gx_lsr, gx_lsi, gx_lsj, gx_ls0]; decide) (le_X10_newName hf) (fun p e R s m args below meth c C hn hx => by
    simp only [gx_lar, gx_lai, gx_laj, gx_la0, Nat.reduceAdd]
    exact w_X10_newName_b hlt C hx hf)
def f_X11_declare_b16 (D : gx_D) (h : HX) (v0 : Nat) (v1 : Option Nat) (s0 : Bool) (s1 : Option Nat) : Option ((Unit ⊕ (String × Nat)) × HX) :=
  s1.bind fun a5 =>
  (hx_is h a5 [16]).bind fun _ =>
  gx_bx (f_X10_expect D h a5 s0 (5 : Int32)) (fun u11 h8 =>
  (hx_is h8 v0 [16]).bind fun _ =>
  (f_X10_advance D h8 v0).bind fun h14 =>
  gx_bx (f_X10_newName D h14 v0 v1) (fun r16 h17 =>
  v1.bind fun a20 =>
  gx_b2 (f_J2_add D h17 a20 r16) fun b22 h23 =>
  some (.inl (), h23)) fun E18 q19 h17 =>
  some (.inr (E18, q19), h17)) fun E9 q10 h8 =>
  some (.inr (E9, q10), h8)
theorem w_X11_declare_b16 {l : Launch} (hlt : l.stackTraces = false) {p : Program} {e : Env} {R : Room} {s : State} {m : MethodId} {args : Array Value} {below : List Frame} {meth : Method} {c : Code} {D : gx_D} {h0 : HX} {r : Unit ⊕ (String × Nat)} {hz : HX} (C : gx_Ctx p R s m args meth c "ContractMachine$SetupParser" cX11_declare 4 none 10 242 D h0 hz) (hx : ∀ x ∈ c.exceptionTable.toList, False)  {h : HX} {v0 : Nat} {v1 : Option Nat} {s0 : Bool} {s1 : Option Nat} (hf : f_X11_declare_b16 D h v0 v1 s0 s1 = some (r, hz)) : gx_G p l e R s m args below meth c D h0 hz 4 (gx_MQX below args s D h0 hz (gx_xv r)) 16 [(0, (va_rf (some v0))), (1, (va_rf v1))] [(.int (b2i s0)), (va_rf s1)] h := by
  unfold f_X11_declare_b16 at hf
  refine gx_iconst (v := 5) C dX11_declare_16 rfl ?_
  replace hf := gx_bs hf
  obtain ⟨a5, rfl, hf⟩ := hf
  replace hf := gx_bs hf
  obtain ⟨_, g6, hf⟩ := hf
  replace hf := gx_bxs hf
  rcases hf with ⟨u11, h8, g7, hf⟩ | ⟨E9, q10, h8, g7, hf⟩
  · refine gx_xcallU (st := []) C (w_X10_expect hlt g7) (hx_is_of g6) q1247 q1248 (gx_decl C q1249) ⟨by decide, by decide⟩ (gx_cis1 gz_129 (C.hts _ q1250) gx_cis0) q1251 q152 q1252 gz_230 (by decide) rfl rfl (gx_catn (Nat.le_of_ble_eq_true rfl)) dX11_declare_17 (gx_k2l ?_)
    refine gx_aload_n C dX11_declare_20 0 rfl ?_
    replace hf := gx_bs hf
    obtain ⟨_, g12, hf⟩ := hf
    replace hf := gx_bs hf
    obtain ⟨h14, g13, hf⟩ := hf
    refine gx_callU (st := []) C (w_X10_advance hlt g13) (hx_is_of g12) q1281 q1282 (gx_decl C q1283) ⟨by decide, by decide⟩ (gx_cis1 gz_129 (C.hts _ q1284) gx_cis0) q976 q152 q980 gz_231 (by decide) rfl rfl (gx_catn (Nat.le_of_ble_eq_true rfl)) dX11_declare_21 ?_
    refine gx_aload_n C dX11_declare_24 1 rfl ?_
    refine gx_aload_n C dX11_declare_25 0 rfl ?_
    refine gx_aload_n C dX11_declare_26 1 rfl ?_
    replace hf := gx_bxs hf
    rcases hf with ⟨r16, h17, g15, hf⟩ | ⟨E18, q19, h17, g15, hf⟩
    · refine gx_xcallU (st := [(va_rf v1)]) C (w_X10_newName hlt g15) (is_X10_newName g15) q1285 q1286 (gx_decl C q1287) ⟨by decide, by decide⟩ (gx_cis1 gz_129 (C.hts _ q1288) gx_cis0) q1289 q152 q1290 gz_232 (by decide) rfl rfl (gx_catn (Nat.le_of_ble_eq_true rfl)) dX11_declare_27 (gx_k2l ?_)
      replace hf := gx_bs hf
      obtain ⟨a20, rfl, hf⟩ := hf
      replace hf := gx_b2s hf
      obtain ⟨b22, h23, g21, hf⟩ := hf
      refine gx_callF (st := []) C (w_J2_add hlt g21) (is_J2_add g21) q1323 (gx_cis1 gz_19 ⟨gz_24, q674⟩ gx_cis0) q676 q127 q678 gz_23 (by decide) rfl rfl (gx_catn (Nat.le_of_ble_eq_true rfl)) dX11_declare_30 ?_
      refine gx_istn C dX11_declare_35 3 rfl (by decide) []  rfl gx_ok0 ?_
      obtain ⟨rfl, rfl⟩ := Prod.mk.inj (Option.some.inj hf)
      exact gx_ret (gx_vret C dX11_declare_36)
    · refine gx_xcallU (st := [(va_rf v1)]) C (w_X10_newName hlt g15) (is_X10_newName g15) q1285 q1286 (gx_decl C q1287) ⟨by decide, by decide⟩ (gx_cis1 gz_129 (C.hts _ q1288) gx_cis0) q1289 q152 q1290 gz_232 (by decide) rfl rfl (gx_catn (Nat.le_of_ble_eq_true rfl)) dX11_declare_27 (gx_k2r ?_)
      obtain ⟨rfl, rfl⟩ := Prod.mk.inj (Option.some.inj hf)
      exact gx_out C hx
  · refine gx_xcallU (st := []) C (w_X10_expect hlt g7) (hx_is_of g6) q1247 q1248 (gx_decl C q1249) ⟨by decide, by decide⟩ (gx_cis1 gz_129 (C.hts _ q1250) gx_cis0) q1251 q152 q1252 gz_230 (by decide) rfl rfl (gx_catn (Nat.le_of_ble_eq_true rfl)) dX11_declare_17 (gx_k2r ?_)
    obtain ⟨rfl, rfl⟩ := Prod.mk.inj (Option.some.inj hf)
    exact gx_out C hx
theorem le_X11_declare_b16 {D : gx_D} {r : Unit ⊕ (String × Nat)} {hz : HX} {h : HX} {v0 : Nat} {v1 : Option Nat} {s0 : Bool} {s1 : Option Nat} (hf : f_X11_declare_b16 D h v0 v1 s0 s1 = some (r, hz)) : gx_le h hz := by
  unfold f_X11_declare_b16 at hf
  replace hf := gx_bs hf
  obtain ⟨a5, rfl, hf⟩ := hf
  replace hf := gx_bs hf
  obtain ⟨_, g6, hf⟩ := hf
  replace hf := gx_bxs hf
  rcases hf with ⟨u11, h8, g7, hf⟩ | ⟨E9, q10, h8, g7, hf⟩
  · refine (le_X10_expect g7).tr ?_
    replace hf := gx_bs hf
    obtain ⟨_, g12, hf⟩ := hf
    replace hf := gx_bs hf
    obtain ⟨h14, g13, hf⟩ := hf
    refine (le_X10_advance g13).tr ?_
    replace hf := gx_bxs hf
    rcases hf with ⟨r16, h17, g15, hf⟩ | ⟨E18, q19, h17, g15, hf⟩
    · refine (le_X10_newName g15).tr ?_
      replace hf := gx_bs hf
      obtain ⟨a20, rfl, hf⟩ := hf
      replace hf := gx_b2s hf
      obtain ⟨b22, h23, g21, hf⟩ := hf
      refine (le_J2_add g21).tr ?_
      obtain ⟨rfl, rfl⟩ := Prod.mk.inj (Option.some.inj hf)
      exact gx_le.rf
    · refine (le_X10_newName g15).tr ?_
      obtain ⟨rfl, rfl⟩ := Prod.mk.inj (Option.some.inj hf)
      exact gx_le.rf
  · refine (le_X10_expect g7).tr ?_
    obtain ⟨rfl, rfl⟩ := Prod.mk.inj (Option.some.inj hf)
    exact gx_le.rf
def f_X11_declare (D : gx_D) (h : HX) (a0 : Nat) (p1 : Option Nat) (p2 : Int32) : Option ((Unit ⊕ (String × Nat)) × HX) :=
  (hx_is h a0 [16]).bind fun _ =>
  p1.bind fun a1 =>
  (f_J2_size D h a1).bind fun x3 =>
  if p2 ≤ x3 then
  f_X11_declare_b16 D h a0 (some a1) false (some a0)
  else
  f_X11_declare_b16 D h a0 (some a1) true (some a0)
theorem is_X11_declare {D : gx_D} {h : HX} {a0 : Nat} {p1 : Option Nat} {p2 : Int32} {z} (hf : f_X11_declare D h a0 p1 p2 = some z) : gx_isC h a0 [16] := by
  unfold f_X11_declare at hf
  obtain ⟨_, g, -⟩ := gx_bs hf
  exact hx_is_of g
theorem w_X11_declare_b {l : Launch} (hlt : l.stackTraces = false) {p : Program} {e : Env} {R : Room} {s : State} {m : MethodId} {args : Array Value} {below : List Frame} {meth : Method} {c : Code} {D : gx_D} {h0 : HX} {r : Unit ⊕ (String × Nat)} {hz : HX} (C : gx_Ctx p R s m args meth c "ContractMachine$SetupParser" cX11_declare 4 none 10 242 D h0 hz) (hx : ∀ x ∈ c.exceptionTable.toList, False) {a0 : Nat} {p1 : Option Nat} {p2 : Int32} (hf : f_X11_declare D h0 a0 p1 p2 = some (r, hz)) : gx_G p l e R s m args below meth c D h0 hz 4 (gx_MQX below args s D h0 hz (gx_xv r)) 0 [(0, (va_rf (some a0))), (1, (va_rf p1)), (2, (.int p2))] [] h0 := by
  unfold f_X11_declare at hf
  replace hf := gx_bs hf
  obtain ⟨_, -, hf⟩ := hf
  refine gx_aload_n C dX11_declare_0 0 rfl ?_
  refine gx_aload_n C dX11_declare_1 1 rfl ?_
  replace hf := gx_bs hf
  obtain ⟨a1, rfl, hf⟩ := hf
  replace hf := gx_bs hf
  obtain ⟨x3, g2, hf⟩ := hf
  refine gx_callF (st := [(va_rf (some a0))]) C (w_J2_size hlt g2) (is_J2_size g2) q1246 (gx_cis1 gz_19 ⟨gz_51, q770⟩ gx_cis0) q772 q127 q774 gz_50 (by decide) rfl rfl (gx_catn (Nat.le_of_ble_eq_true rfl)) dX11_declare_2 ?_
  refine gx_iload_n C dX11_declare_7 2 rfl ?_
  replace hf := gx_ite hf
  rcases hf with ⟨c4, hf⟩ | ⟨c4, hf⟩
  · refine gx_icmp_ge_t (tgt := 15) C dX11_declare_8 rfl c4 ?_
    refine gx_iconst (v := 0) C dX11_declare_15 rfl ?_
    refine gx_sub [0, 1] rfl ?_
    exact w_X11_declare_b16 hlt C hx hf
  · refine gx_icmp_ge_f (tgt := 15) C dX11_declare_8 rfl c4 ?_
    refine gx_iconst (v := 1) C dX11_declare_11 rfl ?_
    refine gx_goto (tgt := 16) C dX11_declare_12 rfl ?_
    refine gx_sub [0, 1] rfl ?_
    exact w_X11_declare_b16 hlt C hx hf
theorem le_X11_declare {D : gx_D} {r : Unit ⊕ (String × Nat)} {hz : HX} {h : HX} {a0 : Nat} {p1 : Option Nat} {p2 : Int32} (hf : f_X11_declare D h a0 p1 p2 = some (r, hz)) : gx_le h hz := by
  unfold f_X11_declare at hf
  replace hf := gx_bs hf
  obtain ⟨_, -, hf⟩ := hf
  replace hf := gx_bs hf
  obtain ⟨a1, rfl, hf⟩ := hf
  replace hf := gx_bs hf
  obtain ⟨x3, g2, hf⟩ := hf
  replace hf := gx_ite hf
  rcases hf with ⟨c4, hf⟩ | ⟨c4, hf⟩
  · exact le_X11_declare_b16 hf
  · exact le_X11_declare_b16 hf
theorem w_X11_declare {l : Launch} (hlt : l.stackTraces = false) {D : gx_D} {h : HX} {a0 : Nat} {p1 : Option Nat} {p2 : Int32} {r : Unit ⊕ (String × Nat)} {hz : HX} (hf : f_X11_declare D h a0 p1 p2 = some (r, hz)) : gx_MetX l yX11_declare (ws_ yX11_declare cX11_declare 4 none) 10 242 D [(va_rf (some a0)), (va_rf p1), (.int p2)] h (gx_xv r) hz :=
  gx_ofGX gz_192 (by simp only [gx_lsr, gx_lsi, gx_lsj, gx_ls0]; decide) (le_X11_declare hf) (fun p e R s m args below meth c C hn hx => by
    simp only [gx_lar, gx_lai, gx_laj, gx_la0, Nat.reduceAdd]
    exact w_X11_declare_b hlt C hx hf)
def f_X10_known_b20 (D : gx_D) (h : HX) (v0 : Nat) (v2 : Int32) (s0 : Bool) (s1 : Option Nat) : Option ((Int32 ⊕ (String × Nat)) × HX) :=
  s1.bind fun a9 =>
  gx_bx (f_X10_expect D h a9 s0 (4 : Int32)) (fun u14 h11 =>
  (f_X10_advance D h11 v0).bind fun h16 =>
  some (.inl v2, h16)) fun E12 q13 h11 =>
  some (.inr (E12, q13), h11)
theorem w_X10_known_b20 {l : Launch} (hlt : l.stackTraces = false) {p : Program} {e : Env} {R : Room} {s : State} {m : MethodId} {args : Array Value} {below : List Frame} {meth : Method} {c : Code} {D : gx_D} {h0 : HX} {r : Int32 ⊕ (String × Nat)} {hz : HX} (C : gx_Ctx p R s m args meth c "ContractMachine$Parser" cX10_known 3 (some .int) 9 220 D h0 hz) (hx : ∀ x ∈ c.exceptionTable.toList, False)  {h : HX} {v0 : Nat} {v2 : Int32} {s0 : Bool} {s1 : Option Nat} (hf : f_X10_known_b20 D h v0 v2 s0 s1 = some (r, hz)) : gx_G p l e R s m args below meth c D h0 hz 3 (gx_MQX below args s D h0 hz (gx_xi r)) 20 [(0, (va_rf (some v0))), (2, (.int v2))] [(.int (b2i s0)), (va_rf s1)] h := by
  unfold f_X10_known_b20 at hf
  refine gx_iconst (v := 4) C dX10_known_20 rfl ?_
  replace hf := gx_bs hf
  obtain ⟨a9, rfl, hf⟩ := hf
  replace hf := gx_bxs hf
  rcases hf with ⟨u14, h11, g10, hf⟩ | ⟨E12, q13, h11, g10, hf⟩
  · refine gx_xcallU (st := []) C (w_X10_expect hlt g10) (is_X10_expect g10) q1299 q3274 (gx_decl C q1249) ⟨by decide, by decide⟩ (gx_cis1 gz_129 (C.hts _ q3276) (gx_cis1 gz_128 (C.hts _ q3275) gx_cis0)) q1251 q152 q1252 gz_225 (by decide) rfl rfl (gx_catn (Nat.le_of_ble_eq_true rfl)) dX10_known_21 (gx_k2l ?_)
    refine gx_aload_n C dX10_known_24 0 rfl ?_
    replace hf := gx_bs hf
    obtain ⟨h16, g15, hf⟩ := hf
    refine gx_callU (st := []) C (w_X10_advance hlt g15) (is_X10_advance g15) q975 q977 (gx_decl C q1283) ⟨by decide, by decide⟩ (gx_cis1 gz_129 (C.hts _ q979) (gx_cis1 gz_128 (C.hts _ q978) gx_cis0)) q976 q152 q980 gz_187 (by decide) rfl rfl (gx_catn (Nat.le_of_ble_eq_true rfl)) dX10_known_25 ?_
    refine gx_iload_n C dX10_known_28 1 rfl ?_
    obtain ⟨rfl, rfl⟩ := Prod.mk.inj (Option.some.inj hf)
    exact gx_ret (gx_iret C dX10_known_29)
  · refine gx_xcallU (st := []) C (w_X10_expect hlt g10) (is_X10_expect g10) q1299 q3274 (gx_decl C q1249) ⟨by decide, by decide⟩ (gx_cis1 gz_129 (C.hts _ q3276) (gx_cis1 gz_128 (C.hts _ q3275) gx_cis0)) q1251 q152 q1252 gz_225 (by decide) rfl rfl (gx_catn (Nat.le_of_ble_eq_true rfl)) dX10_known_21 (gx_k2r ?_)
    obtain ⟨rfl, rfl⟩ := Prod.mk.inj (Option.some.inj hf)
    exact gx_out C hx
theorem le_X10_known_b20 {D : gx_D} {r : Int32 ⊕ (String × Nat)} {hz : HX} {h : HX} {v0 : Nat} {v2 : Int32} {s0 : Bool} {s1 : Option Nat} (hf : f_X10_known_b20 D h v0 v2 s0 s1 = some (r, hz)) : gx_le h hz := by
  unfold f_X10_known_b20 at hf
  replace hf := gx_bs hf
  obtain ⟨a9, rfl, hf⟩ := hf
  replace hf := gx_bxs hf
  rcases hf with ⟨u14, h11, g10, hf⟩ | ⟨E12, q13, h11, g10, hf⟩
  · refine (le_X10_expect g10).tr ?_
    replace hf := gx_bs hf
    obtain ⟨h16, g15, hf⟩ := hf
    refine (le_X10_advance g15).tr ?_
    obtain ⟨rfl, rfl⟩ := Prod.mk.inj (Option.some.inj hf)
    exact gx_le.rf
  · refine (le_X10_expect g10).tr ?_
    obtain ⟨rfl, rfl⟩ := Prod.mk.inj (Option.some.inj hf)
    exact gx_le.rf
def f_X10_known (D : gx_D) (h : HX) (a0 : Nat) (p1 : Option Nat) : Option ((Int32 ⊕ (String × Nat)) × HX) :=
  (hx_is h a0 [16, 18]).bind fun _ =>
  gx_bx (f_X10_name D h a0) (fun r2 h3 =>
  (f_X3_indexOf D h3 p1 r2).bind fun x7 =>
  if x7 = (-1 : Int32) then
  f_X10_known_b20 D h3 a0 x7 false (some a0)
  else
  f_X10_known_b20 D h3 a0 x7 true (some a0)) fun E4 q5 h3 =>
  some (.inr (E4, q5), h3)
theorem is_X10_known {D : gx_D} {h : HX} {a0 : Nat} {p1 : Option Nat} {z} (hf : f_X10_known D h a0 p1 = some z) : gx_isC h a0 [16, 18] := by
  unfold f_X10_known at hf
  obtain ⟨_, g, -⟩ := gx_bs hf
  exact hx_is_of g
theorem w_X10_known_b {l : Launch} (hlt : l.stackTraces = false) {p : Program} {e : Env} {R : Room} {s : State} {m : MethodId} {args : Array Value} {below : List Frame} {meth : Method} {c : Code} {D : gx_D} {h0 : HX} {r : Int32 ⊕ (String × Nat)} {hz : HX} (C : gx_Ctx p R s m args meth c "ContractMachine$Parser" cX10_known 3 (some .int) 9 220 D h0 hz) (hx : ∀ x ∈ c.exceptionTable.toList, False) {a0 : Nat} {p1 : Option Nat} (hf : f_X10_known D h0 a0 p1 = some (r, hz)) : gx_G p l e R s m args below meth c D h0 hz 3 (gx_MQX below args s D h0 hz (gx_xi r)) 0 [(0, (va_rf (some a0))), (1, (va_rf p1))] [] h0 := by
  unfold f_X10_known at hf
  replace hf := gx_bs hf
  obtain ⟨_, -, hf⟩ := hf
  refine gx_aload_n C dX10_known_0 1 rfl ?_
  refine gx_aload_n C dX10_known_1 0 rfl ?_
  replace hf := gx_bxs hf
  rcases hf with ⟨r2, h3, g1, hf⟩ | ⟨E4, q5, h3, g1, hf⟩
  · refine gx_xcallU (st := [(va_rf p1)]) C (w_X10_name hlt g1) (is_X10_name g1) q1291 q1293 (va_Decl.of (C.hts _ q1292) (C.hts _ q1296)) ⟨by decide, by decide⟩ (gx_cis1 gz_129 (C.hts _ q1295) (gx_cis1 gz_128 (C.hts _ q1294) gx_cis0)) q1292 q152 q1296 gz_228 (by decide) rfl rfl (gx_catn (Nat.le_of_ble_eq_true rfl)) dX10_known_2 (gx_k2l ?_)
    replace hf := gx_bs hf
    obtain ⟨x7, g6, hf⟩ := hf
    refine gx_callSN (st := []) C (w_X3_indexOf hlt g6) q1300 q1301 q124 q1302 gz_229 (by decide) rfl rfl (gx_catn (Nat.le_of_ble_eq_true rfl)) dX10_known_5 ?_
    refine gx_istn C dX10_known_8 2 rfl (by decide) [0]  rfl (gx_okn rfl rfl gx_ok0) ?_
    refine gx_aload_n C dX10_known_9 1 rfl ?_
    refine gx_iload_n C dX10_known_10 0 rfl ?_
    refine gx_iconst (v := -1) C dX10_known_11 rfl ?_
    replace hf := gx_ite hf
    rcases hf with ⟨c8, hf⟩ | ⟨c8, hf⟩
    · refine gx_icmp_eq_t (tgt := 19) C dX10_known_12 rfl c8 ?_
      refine gx_iconst (v := 0) C dX10_known_19 rfl ?_
      refine gx_sub [1, 0] rfl ?_
      exact w_X10_known_b20 hlt C hx hf
    · refine gx_icmp_eq_f (tgt := 19) C dX10_known_12 rfl c8 ?_
      refine gx_iconst (v := 1) C dX10_known_15 rfl ?_
      refine gx_goto (tgt := 20) C dX10_known_16 rfl ?_
      refine gx_sub [1, 0] rfl ?_
      exact w_X10_known_b20 hlt C hx hf
  · refine gx_xcallU (st := [(va_rf p1)]) C (w_X10_name hlt g1) (is_X10_name g1) q1291 q1293 (va_Decl.of (C.hts _ q1292) (C.hts _ q1296)) ⟨by decide, by decide⟩ (gx_cis1 gz_129 (C.hts _ q1295) (gx_cis1 gz_128 (C.hts _ q1294) gx_cis0)) q1292 q152 q1296 gz_228 (by decide) rfl rfl (gx_catn (Nat.le_of_ble_eq_true rfl)) dX10_known_2 (gx_k2r ?_)
    obtain ⟨rfl, rfl⟩ := Prod.mk.inj (Option.some.inj hf)
    exact gx_out C hx
theorem le_X10_known {D : gx_D} {r : Int32 ⊕ (String × Nat)} {hz : HX} {h : HX} {a0 : Nat} {p1 : Option Nat} (hf : f_X10_known D h a0 p1 = some (r, hz)) : gx_le h hz := by
  unfold f_X10_known at hf
  replace hf := gx_bs hf
  obtain ⟨_, -, hf⟩ := hf
  replace hf := gx_bxs hf
  rcases hf with ⟨r2, h3, g1, hf⟩ | ⟨E4, q5, h3, g1, hf⟩
  · refine (le_X10_name g1).tr ?_
    replace hf := gx_bs hf
    obtain ⟨x7, g6, hf⟩ := hf
    replace hf := gx_ite hf
    rcases hf with ⟨c8, hf⟩ | ⟨c8, hf⟩
    · exact le_X10_known_b20 hf
    · exact le_X10_known_b20 hf
  · refine (le_X10_name g1).tr ?_
    obtain ⟨rfl, rfl⟩ := Prod.mk.inj (Option.some.inj hf)
    exact gx_le.rf
theorem w_X10_known {l : Launch} (hlt : l.stackTraces = false) {D : gx_D} {h : HX} {a0 : Nat} {p1 : Option Nat} {r : Int32 ⊕ (String × Nat)} {hz : HX} (hf : f_X10_known D h a0 p1 = some (r, hz)) : gx_MetX l yX10_known (ws_ yX10_known cX10_known 3 (some .int)) 9 220 D [(va_rf (some a0)), (va_rf p1)] h (gx_xi r) hz :=
  gx_ofGX gz_126 (by simp only [gx_lsr, gx_lsi, gx_lsj, gx_ls0]; decide) (le_X10_known hf) (fun p e R s m args below meth c C hn hx => by
    simp only [gx_lar, gx_lai, gx_laj, gx_la0, Nat.reduceAdd]
    exact w_X10_known_b hlt C hx hf)
def f_X10_number_b16 (D : gx_D) (h : HX) (v0 : Nat) (v1 : Int32) (v2 : Int32) (s0 : Bool) (s1 : Option Nat) : Option ((Int32 ⊕ (String × Nat)) × HX) :=
  s1.bind fun a3 =>
  gx_bx (f_X10_expect D h a3 s0 (1 : Int32)) (fun u8 h5 =>
  (hx_gi h5 v0 [16, 18] 2).bind fun x9 =>
  (f_X1_isWithin D h5 (Int32.toInt64 x9) (Int32.toInt64 v1) (Int32.toInt64 v2)).bind fun b11 =>
  gx_bx (f_X10_expect D h5 v0 b11 (2 : Int32)) (fun u16 h13 =>
  (hx_gi h13 v0 [16, 18] 2).bind fun x17 =>
  (f_X10_advance D h13 v0).bind fun h19 =>
  some (.inl x17, h19)) fun E14 q15 h13 =>
  some (.inr (E14, q15), h13)) fun E6 q7 h5 =>
  some (.inr (E6, q7), h5)
theorem w_X10_number_b16 {l : Launch} (hlt : l.stackTraces = false) {p : Program} {e : Env} {R : Room} {s : State} {m : MethodId} {args : Array Value} {below : List Frame} {meth : Method} {c : Code} {D : gx_D} {h0 : HX} {r : Int32 ⊕ (String × Nat)} {hz : HX} (C : gx_Ctx p R s m args meth c "ContractMachine$Parser" cX10_number 4 (some .int) 9 220 D h0 hz) (hx : ∀ x ∈ c.exceptionTable.toList, False)  {h : HX} {v0 : Nat} {v1 : Int32} {v2 : Int32} {s0 : Bool} {s1 : Option Nat} (hf : f_X10_number_b16 D h v0 v1 v2 s0 s1 = some (r, hz)) : gx_G p l e R s m args below meth c D h0 hz 4 (gx_MQX below args s D h0 hz (gx_xi r)) 16 [(0, (va_rf (some v0))), (1, (.int v1)), (2, (.int v2))] [(.int (b2i s0)), (va_rf s1)] h := by
  unfold f_X10_number_b16 at hf
  refine gx_iconst (v := 1) C dX10_number_16 rfl ?_
  replace hf := gx_bs hf
  obtain ⟨a3, rfl, hf⟩ := hf
  replace hf := gx_bxs hf
  rcases hf with ⟨u8, h5, g4, hf⟩ | ⟨E6, q7, h5, g4, hf⟩
  · refine gx_xcallU (st := []) C (w_X10_expect hlt g4) (is_X10_expect g4) q1299 q3274 (gx_decl C q1249) ⟨by decide, by decide⟩ (gx_cis1 gz_129 (C.hts _ q3276) (gx_cis1 gz_128 (C.hts _ q3275) gx_cis0)) q1251 q152 q1252 gz_225 (by decide) rfl rfl (gx_catn (Nat.le_of_ble_eq_true rfl)) dX10_number_17 (gx_k2l ?_)
    refine gx_aload_n C dX10_number_20 0 rfl ?_
    refine gx_aload_n C dX10_number_21 0 rfl ?_
    replace hf := gx_bs hf
    obtain ⟨x9, g21, hf⟩ := hf
    refine gx_gi C g21 gz_184 q1127 dX10_number_22 ?_
    refine gx_i2l C dX10_number_25 ?_
    refine gx_iload_n C dX10_number_26 1 rfl ?_
    refine gx_i2l C dX10_number_27 ?_
    refine gx_iload_n C dX10_number_28 2 rfl ?_
    refine gx_i2l C dX10_number_29 ?_
    replace hf := gx_bs hf
    obtain ⟨b11, g10, hf⟩ := hf
    refine gx_callSN (st := [(va_rf (some v0))]) C (w_X1_isWithin hlt g10) q990 q954 q121 q955 gz_121 (by decide) rfl rfl (gx_catn (Nat.le_of_ble_eq_true rfl)) dX10_number_30 ?_
    refine gx_iconst (v := 2) C dX10_number_33 rfl ?_
    replace hf := gx_bxs hf
    rcases hf with ⟨u16, h13, g12, hf⟩ | ⟨E14, q15, h13, g12, hf⟩
    · refine gx_xcallU (st := []) C (w_X10_expect hlt g12) (is_X10_expect g12) q1299 q3274 (gx_decl C q1249) ⟨by decide, by decide⟩ (gx_cis1 gz_129 (C.hts _ q3276) (gx_cis1 gz_128 (C.hts _ q3275) gx_cis0)) q1251 q152 q1252 gz_225 (by decide) rfl rfl (gx_catn (Nat.le_of_ble_eq_true rfl)) dX10_number_34 (gx_k2l ?_)
      refine gx_aload_n C dX10_number_37 0 rfl ?_
      replace hf := gx_bs hf
      obtain ⟨x17, g20, hf⟩ := hf
      refine gx_gi C g20 gz_184 q1127 dX10_number_38 ?_
      refine gx_istn C dX10_number_41 3 rfl (by decide) [0]  rfl (gx_okn rfl rfl gx_ok0) ?_
      refine gx_aload_n C dX10_number_42 1 rfl ?_
      replace hf := gx_bs hf
      obtain ⟨h19, g18, hf⟩ := hf
      refine gx_callU (st := []) C (w_X10_advance hlt g18) (is_X10_advance g18) q975 q977 (gx_decl C q1283) ⟨by decide, by decide⟩ (gx_cis1 gz_129 (C.hts _ q979) (gx_cis1 gz_128 (C.hts _ q978) gx_cis0)) q976 q152 q980 gz_187 (by decide) rfl rfl (gx_catn (Nat.le_of_ble_eq_true rfl)) dX10_number_43 ?_
      refine gx_iload_n C dX10_number_46 0 rfl ?_
      obtain ⟨rfl, rfl⟩ := Prod.mk.inj (Option.some.inj hf)
      exact gx_ret (gx_iret C dX10_number_47)
    · refine gx_xcallU (st := []) C (w_X10_expect hlt g12) (is_X10_expect g12) q1299 q3274 (gx_decl C q1249) ⟨by decide, by decide⟩ (gx_cis1 gz_129 (C.hts _ q3276) (gx_cis1 gz_128 (C.hts _ q3275) gx_cis0)) q1251 q152 q1252 gz_225 (by decide) rfl rfl (gx_catn (Nat.le_of_ble_eq_true rfl)) dX10_number_34 (gx_k2r ?_)
      obtain ⟨rfl, rfl⟩ := Prod.mk.inj (Option.some.inj hf)
      exact gx_out C hx
  · refine gx_xcallU (st := []) C (w_X10_expect hlt g4) (is_X10_expect g4) q1299 q3274 (gx_decl C q1249) ⟨by decide, by decide⟩ (gx_cis1 gz_129 (C.hts _ q3276) (gx_cis1 gz_128 (C.hts _ q3275) gx_cis0)) q1251 q152 q1252 gz_225 (by decide) rfl rfl (gx_catn (Nat.le_of_ble_eq_true rfl)) dX10_number_17 (gx_k2r ?_)
    obtain ⟨rfl, rfl⟩ := Prod.mk.inj (Option.some.inj hf)
    exact gx_out C hx
theorem le_X10_number_b16 {D : gx_D} {r : Int32 ⊕ (String × Nat)} {hz : HX} {h : HX} {v0 : Nat} {v1 : Int32} {v2 : Int32} {s0 : Bool} {s1 : Option Nat} (hf : f_X10_number_b16 D h v0 v1 v2 s0 s1 = some (r, hz)) : gx_le h hz := by
  unfold f_X10_number_b16 at hf
  replace hf := gx_bs hf
  obtain ⟨a3, rfl, hf⟩ := hf
  replace hf := gx_bxs hf
  rcases hf with ⟨u8, h5, g4, hf⟩ | ⟨E6, q7, h5, g4, hf⟩
  · refine (le_X10_expect g4).tr ?_
    replace hf := gx_bs hf
    obtain ⟨x9, g21, hf⟩ := hf
    replace hf := gx_bs hf
    obtain ⟨b11, g10, hf⟩ := hf
    replace hf := gx_bxs hf
    rcases hf with ⟨u16, h13, g12, hf⟩ | ⟨E14, q15, h13, g12, hf⟩
    · refine (le_X10_expect g12).tr ?_
      replace hf := gx_bs hf
      obtain ⟨x17, g20, hf⟩ := hf
      replace hf := gx_bs hf
      obtain ⟨h19, g18, hf⟩ := hf
      refine (le_X10_advance g18).tr ?_
      obtain ⟨rfl, rfl⟩ := Prod.mk.inj (Option.some.inj hf)
      exact gx_le.rf
    · refine (le_X10_expect g12).tr ?_
      obtain ⟨rfl, rfl⟩ := Prod.mk.inj (Option.some.inj hf)
      exact gx_le.rf
  · refine (le_X10_expect g4).tr ?_
    obtain ⟨rfl, rfl⟩ := Prod.mk.inj (Option.some.inj hf)
    exact gx_le.rf
def f_X10_number (D : gx_D) (h : HX) (a0 : Nat) (p1 : Int32) (p2 : Int32) : Option ((Int32 ⊕ (String × Nat)) × HX) :=
  (hx_is h a0 [16, 18]).bind fun _ =>
  (hx_gr h a0 [16, 18] 4).bind fun r1 =>
  if r1 = (some (D.2.2.1 121)) then
  f_X10_number_b16 D h a0 p1 p2 true (some a0)
  else
  f_X10_number_b16 D h a0 p1 p2 false (some a0)
theorem is_X10_number {D : gx_D} {h : HX} {a0 : Nat} {p1 : Int32} {p2 : Int32} {z} (hf : f_X10_number D h a0 p1 p2 = some z) : gx_isC h a0 [16, 18] := by
  unfold f_X10_number at hf
  obtain ⟨_, g, -⟩ := gx_bs hf
  exact hx_is_of g
theorem w_X10_number_b {l : Launch} (hlt : l.stackTraces = false) {p : Program} {e : Env} {R : Room} {s : State} {m : MethodId} {args : Array Value} {below : List Frame} {meth : Method} {c : Code} {D : gx_D} {h0 : HX} {r : Int32 ⊕ (String × Nat)} {hz : HX} (C : gx_Ctx p R s m args meth c "ContractMachine$Parser" cX10_number 4 (some .int) 9 220 D h0 hz) (hx : ∀ x ∈ c.exceptionTable.toList, False) {a0 : Nat} {p1 : Int32} {p2 : Int32} (hf : f_X10_number D h0 a0 p1 p2 = some (r, hz)) : gx_G p l e R s m args below meth c D h0 hz 4 (gx_MQX below args s D h0 hz (gx_xi r)) 0 [(0, (va_rf (some a0))), (1, (.int p1)), (2, (.int p2))] [] h0 := by
  unfold f_X10_number at hf
  replace hf := gx_bs hf
  obtain ⟨_, -, hf⟩ := hf
  refine gx_aload_n C dX10_number_0 0 rfl ?_
  refine gx_aload_n C dX10_number_1 0 rfl ?_
  replace hf := gx_bs hf
  obtain ⟨r1, g22, hf⟩ := hf
  refine gx_gr C g22 gz_180 q1129 dX10_number_2 ?_
  refine gx_statk C 10 rfl q1030 dX10_number_5 ?_
  replace hf := gx_ite hf
  rcases hf with ⟨c2, hf⟩ | ⟨c2, hf⟩
  · refine gx_acmp_ne_f (tgt := 15) C dX10_number_8 rfl c2 ?_
    refine gx_iconst (v := 1) C dX10_number_11 rfl ?_
    refine gx_goto (tgt := 16) C dX10_number_12 rfl ?_
    refine gx_sub [0, 1, 2] rfl ?_
    exact w_X10_number_b16 hlt C hx hf
  · refine gx_acmp_ne_t (tgt := 15) C dX10_number_8 rfl c2 ?_
    refine gx_iconst (v := 0) C dX10_number_15 rfl ?_
    refine gx_sub [0, 1, 2] rfl ?_
    exact w_X10_number_b16 hlt C hx hf
theorem le_X10_number {D : gx_D} {r : Int32 ⊕ (String × Nat)} {hz : HX} {h : HX} {a0 : Nat} {p1 : Int32} {p2 : Int32} (hf : f_X10_number D h a0 p1 p2 = some (r, hz)) : gx_le h hz := by
  unfold f_X10_number at hf
  replace hf := gx_bs hf
  obtain ⟨_, -, hf⟩ := hf
  replace hf := gx_bs hf
  obtain ⟨r1, g22, hf⟩ := hf
  replace hf := gx_ite hf
  rcases hf with ⟨c2, hf⟩ | ⟨c2, hf⟩
  · exact le_X10_number_b16 hf
  · exact le_X10_number_b16 hf
theorem w_X10_number {l : Launch} (hlt : l.stackTraces = false) {D : gx_D} {h : HX} {a0 : Nat} {p1 : Int32} {p2 : Int32} {r : Int32 ⊕ (String × Nat)} {hz : HX} (hf : f_X10_number D h a0 p1 p2 = some (r, hz)) : gx_MetX l yX10_number (ws_ yX10_number cX10_number 4 (some .int)) 9 220 D [(va_rf (some a0)), (.int p1), (.int p2)] h (gx_xi r) hz :=
  gx_ofGX gz_126 (by simp only [gx_lsr, gx_lsi, gx_lsj, gx_ls0]; decide) (le_X10_number hf) (fun p e R s m args below meth c C hn hx => by
    simp only [gx_lar, gx_lai, gx_laj, gx_la0, Nat.reduceAdd]
    exact w_X10_number_b hlt C hx hf)
def f_X10_digit (D : gx_D) (h : HX) (a0 : Nat) : Option ((Int32 ⊕ (String × Nat)) × HX) :=
  (hx_is h a0 [16, 18]).bind fun _ =>
  gx_bx (f_X10_number D h a0 (0 : Int32) (9 : Int32)) (fun x2 h3 =>
  some (.inl x2, h3)) fun E4 q5 h3 =>
  some (.inr (E4, q5), h3)
theorem is_X10_digit {D : gx_D} {h : HX} {a0 : Nat} {z} (hf : f_X10_digit D h a0 = some z) : gx_isC h a0 [16, 18] := by
  unfold f_X10_digit at hf
  obtain ⟨_, g, -⟩ := gx_bs hf
  exact hx_is_of g
theorem w_X10_digit_b {l : Launch} (hlt : l.stackTraces = false) {p : Program} {e : Env} {R : Room} {s : State} {m : MethodId} {args : Array Value} {below : List Frame} {meth : Method} {c : Code} {D : gx_D} {h0 : HX} {r : Int32 ⊕ (String × Nat)} {hz : HX} (C : gx_Ctx p R s m args meth c "ContractMachine$Parser" cX10_digit 1 (some .int) 10 243 D h0 hz) (hx : ∀ x ∈ c.exceptionTable.toList, False) {a0 : Nat} (hf : f_X10_digit D h0 a0 = some (r, hz)) : gx_G p l e R s m args below meth c D h0 hz 1 (gx_MQX below args s D h0 hz (gx_xi r)) 0 [(0, (va_rf (some a0)))] [] h0 := by
  unfold f_X10_digit at hf
  replace hf := gx_bs hf
  obtain ⟨_, -, hf⟩ := hf
  refine gx_aload_n C dX10_digit_0 0 rfl ?_
  refine gx_iconst (v := 0) C dX10_digit_1 rfl ?_
  refine gx_bipush (v := 9) C dX10_digit_2 rfl ?_
  replace hf := gx_bxs hf
  rcases hf with ⟨x2, h3, g1, hf⟩ | ⟨E4, q5, h3, g1, hf⟩
  · refine gx_xcallU (st := []) C (w_X10_number hlt g1) (is_X10_number g1) q1334 q1336 (va_Decl.of (C.hts _ q1335) (C.hts _ q1339)) ⟨by decide, by decide⟩ (gx_cis1 gz_129 (C.hts _ q1338) (gx_cis1 gz_128 (C.hts _ q1337) gx_cis0)) q1335 q152 q1339 gz_233 (by decide) rfl rfl (gx_catn (Nat.le_of_ble_eq_true rfl)) dX10_digit_4 (gx_k2l ?_)
    obtain ⟨rfl, rfl⟩ := Prod.mk.inj (Option.some.inj hf)
    exact gx_ret (gx_iret C dX10_digit_7)
  · refine gx_xcallU (st := []) C (w_X10_number hlt g1) (is_X10_number g1) q1334 q1336 (va_Decl.of (C.hts _ q1335) (C.hts _ q1339)) ⟨by decide, by decide⟩ (gx_cis1 gz_129 (C.hts _ q1338) (gx_cis1 gz_128 (C.hts _ q1337) gx_cis0)) q1335 q152 q1339 gz_233 (by decide) rfl rfl (gx_catn (Nat.le_of_ble_eq_true rfl)) dX10_digit_4 (gx_k2r ?_)
    obtain ⟨rfl, rfl⟩ := Prod.mk.inj (Option.some.inj hf)
    exact gx_out C hx
theorem le_X10_digit {D : gx_D} {r : Int32 ⊕ (String × Nat)} {hz : HX} {h : HX} {a0 : Nat} (hf : f_X10_digit D h a0 = some (r, hz)) : gx_le h hz := by
  unfold f_X10_digit at hf
  replace hf := gx_bs hf
  obtain ⟨_, -, hf⟩ := hf
  replace hf := gx_bxs hf
  rcases hf with ⟨x2, h3, g1, hf⟩ | ⟨E4, q5, h3, g1, hf⟩
  · refine (le_X10_number g1).tr ?_
    obtain ⟨rfl, rfl⟩ := Prod.mk.inj (Option.some.inj hf)
    exact gx_le.rf
  · refine (le_X10_number g1).tr ?_
    obtain ⟨rfl, rfl⟩ := Prod.mk.inj (Option.some.inj hf)
    exact gx_le.rf
theorem w_X10_digit {l : Launch} (hlt : l.stackTraces = false) {D : gx_D} {h : HX} {a0 : Nat} {r : Int32 ⊕ (String × Nat)} {hz : HX} (hf : f_X10_digit D h a0 = some (r, hz)) : gx_MetX l yX10_digit (ws_ yX10_digit cX10_digit 1 (some .int)) 10 243 D [(va_rf (some a0))] h (gx_xi r) hz :=
  gx_ofGX gz_126 (by simp only [gx_lsr, gx_lsi, gx_lsj, gx_ls0]; decide) (le_X10_digit hf) (fun p e R s m args below meth c C hn hx => by
    simp only [gx_lar, gx_lai, gx_laj, gx_la0, Nat.reduceAdd]
    exact w_X10_digit_b hlt C hx hf)
def f_X10_isWord (D : gx_D) (h : HX) (a0 : Nat) (p1 : Option Nat) : Option Bool :=
  (hx_is h a0 [16, 18]).bind fun _ =>
  (hx_gr h a0 [16, 18] 3).bind fun r1 =>
  r1.bind fun a2 =>
  (f_J9_equals D h a2 p1).bind fun b4 =>
  some b4
theorem is_X10_isWord {D : gx_D} {h : HX} {a0 : Nat} {p1 : Option Nat} {z} (hf : f_X10_isWord D h a0 p1 = some z) : gx_isC h a0 [16, 18] := by
  unfold f_X10_isWord at hf
  obtain ⟨_, g, -⟩ := gx_bs hf
  exact hx_is_of g
theorem w_X10_isWord_b {l : Launch} (hlt : l.stackTraces = false) {p : Program} {e : Env} {R : Room} {s : State} {m : MethodId} {args : Array Value} {below : List Frame} {meth : Method} {c : Code} {D : gx_D} {h0 : HX} {r : Bool} (C : gx_Ctx p R s m args meth c "ContractMachine$Parser" cX10_isWord 2 (some .boolean) 3 68 D h0 h0) (hx : meth.name = "isWord") {a0 : Nat} {p1 : Option Nat} (hf : f_X10_isWord D h0 a0 p1 = some r) : gx_G p l e R s m args below meth c D h0 h0 2 (gx_MQ below args s D h0 h0 (some (.int (b2i r)))) 0 [(0, (va_rf (some a0))), (1, (va_rf p1))] [] h0 := by
  unfold f_X10_isWord at hf
  replace hf := gx_bs hf
  obtain ⟨_, -, hf⟩ := hf
  refine gx_aload_n C dX10_isWord_0 0 rfl ?_
  replace hf := gx_bs hf
  obtain ⟨r1, g5, hf⟩ := hf
  refine gx_gr C g5 gz_178 q1128 dX10_isWord_1 ?_
  refine gx_aload_n C dX10_isWord_4 1 rfl ?_
  replace hf := gx_bs hf
  obtain ⟨a2, rfl, hf⟩ := hf
  replace hf := gx_bs hf
  obtain ⟨b4, g3, hf⟩ := hf
  refine gx_callV (st := []) C (w_J9_equals hlt g3) (is_J9_equals g3) gz_10 rfl (lw_V q1364 q1229 q1230 q134 q1231) gz_227 (by decide) rfl rfl (gx_catn (Nat.le_of_ble_eq_true rfl)) dX10_isWord_5 ?_
  obtain rfl := Option.some.inj hf
  exact gx_zret (b := _) C dX10_isWord_8
theorem w_X10_isWord {l : Launch} (hlt : l.stackTraces = false) {D : gx_D} {h : HX} {a0 : Nat} {p1 : Option Nat} {r : Bool} (hf : f_X10_isWord D h a0 p1 = some r) : gx_Met l yX10_isWord cX10_isWord 2 (some .boolean) 3 68 D [(va_rf (some a0)), (va_rf p1)] h (some (.int (b2i r))) h :=
  gx_ofG gz_126 (by simp only [gx_lsr, gx_lsi, gx_lsj, gx_ls0]; decide) gx_le.rf (fun p e R s m args below meth c C hx => by
    simp only [gx_lar, gx_lai, gx_laj, gx_la0, Nat.reduceAdd]
    exact w_X10_isWord_b hlt C hx hf)
def f_X10_operator_b51 (D : gx_D) (h : HX) (v0 : Nat) : Option ((Option Nat ⊕ (String × Nat)) × HX) :=
  gx_b2 (hx_new h 8 17 gx_df17) fun a7 h8 =>
  (hx_gi h8 v0 [16, 18] 0).bind fun x9 =>
  (f_X12_init D h8 a7 (1 : Int32) x9).bind fun h11 =>
  (hx_is h11 a7 [17]).bind fun u12 =>
  some (.inr ("ContractMachine$ParseException", a7), h11)
theorem w_X10_operator_b51 {l : Launch} (hlt : l.stackTraces = false) {p : Program} {e : Env} {R : Room} {s : State} {m : MethodId} {args : Array Value} {below : List Frame} {meth : Method} {c : Code} {D : gx_D} {h0 : HX} {r : Option Nat ⊕ (String × Nat)} {hz : HX} (C : gx_Ctx p R s m args meth c "ContractMachine$Parser" cX10_operator 5 (some (.object "ContractMachine$Operator")) 9 220 D h0 hz) (hx : ∀ x ∈ c.exceptionTable.toList, False)  {h : HX} {v0 : Nat} (hf : f_X10_operator_b51 D h v0 = some (r, hz)) : gx_G p l e R s m args below meth c D h0 hz 5 (gx_MQX below args s D h0 hz (gx_xa r)) 51 [(0, (va_rf (some v0)))] [] h := by
  unfold f_X10_operator_b51 at hf
  replace hf := gx_b2s hf
  obtain ⟨a7, h8, g15, hf⟩ := hf
  refine gx_newN C g15 gz_207 tyX12_ok gx_df17_ok q1253 q1254 q159 dX10_operator_51 rfl ?_
  refine gx_dup C dX10_operator_54 rfl ?_
  refine gx_iconst (v := 1) C dX10_operator_55 rfl ?_
  refine gx_aload_n C dX10_operator_56 0 rfl ?_
  replace hf := gx_bs hf
  obtain ⟨x9, g14, hf⟩ := hf
  refine gx_gi C g14 gz_177 q1125 dX10_operator_57 ?_
  replace hf := gx_bs hf
  obtain ⟨h11, g10, hf⟩ := hf
  refine gx_callI (st := [(va_rf (some a7))]) C (w_X12_init hlt g10) q1262 q1263 q159 q1264 rfl gz_208 (by decide) rfl rfl (gx_catn (Nat.le_of_ble_eq_true rfl)) dX10_operator_60 ?_
  replace hf := gx_bs hf
  obtain ⟨u12, g13, hf⟩ := hf
  obtain ⟨rfl, rfl⟩ := Prod.mk.inj (Option.some.inj hf)
  exact gx_athrow C g13 gz_207 dX10_operator_63 (gx_out C hx)
theorem le_X10_operator_b51 {D : gx_D} {r : Option Nat ⊕ (String × Nat)} {hz : HX} {h : HX} {v0 : Nat} (hf : f_X10_operator_b51 D h v0 = some (r, hz)) : gx_le h hz := by
  unfold f_X10_operator_b51 at hf
  replace hf := gx_b2s hf
  obtain ⟨a7, h8, g15, hf⟩ := hf
  refine (hx_le_new g15).tr ?_
  replace hf := gx_bs hf
  obtain ⟨x9, g14, hf⟩ := hf
  replace hf := gx_bs hf
  obtain ⟨h11, g10, hf⟩ := hf
  refine (le_X12_init g10).tr ?_
  replace hf := gx_bs hf
  obtain ⟨u12, g13, hf⟩ := hf
  obtain ⟨rfl, rfl⟩ := Prod.mk.inj (Option.some.inj hf)
  exact gx_le.rf
def f_X10_operator_b38 (D : gx_D) (h : HX) (v0 : Nat) (v4 : Option Nat) : Option ((Option Nat ⊕ (String × Nat)) × HX) :=
  (f_X10_advance D h v0).bind fun h24 =>
  some (.inl v4, h24)
theorem w_X10_operator_b38 {l : Launch} (hlt : l.stackTraces = false) {p : Program} {e : Env} {R : Room} {s : State} {m : MethodId} {args : Array Value} {below : List Frame} {meth : Method} {c : Code} {D : gx_D} {h0 : HX} {r : Option Nat ⊕ (String × Nat)} {hz : HX} (C : gx_Ctx p R s m args meth c "ContractMachine$Parser" cX10_operator 5 (some (.object "ContractMachine$Operator")) 9 220 D h0 hz) (hx : ∀ x ∈ c.exceptionTable.toList, False)  {h : HX} {v0 : Nat} {v4 : Option Nat} (hf : f_X10_operator_b38 D h v0 v4 = some (r, hz)) : gx_G p l e R s m args below meth c D h0 hz 5 (gx_MQX below args s D h0 hz (gx_xa r)) 38 [(0, (va_rf (some v0))), (4, (va_rf v4))] [] h := by
  unfold f_X10_operator_b38 at hf
  refine gx_aload_n C dX10_operator_38 0 rfl ?_
  replace hf := gx_bs hf
  obtain ⟨h24, g23, hf⟩ := hf
  refine gx_callU (st := []) C (w_X10_advance hlt g23) (is_X10_advance g23) q975 q977 (gx_decl C q1283) ⟨by decide, by decide⟩ (gx_cis1 gz_129 (C.hts _ q979) (gx_cis1 gz_128 (C.hts _ q978) gx_cis0)) q976 q152 q980 gz_187 (by decide) rfl rfl (gx_catn (Nat.le_of_ble_eq_true rfl)) dX10_operator_39 ?_
  refine gx_aload C dX10_operator_42 1 rfl ?_
  obtain ⟨rfl, rfl⟩ := Prod.mk.inj (Option.some.inj hf)
  exact gx_ret (gx_aret C rfl rfl dX10_operator_44)
theorem le_X10_operator_b38 {D : gx_D} {r : Option Nat ⊕ (String × Nat)} {hz : HX} {h : HX} {v0 : Nat} {v4 : Option Nat} (hf : f_X10_operator_b38 D h v0 v4 = some (r, hz)) : gx_le h hz := by
  unfold f_X10_operator_b38 at hf
  replace hf := gx_bs hf
  obtain ⟨h24, g23, hf⟩ := hf
  refine (le_X10_advance g23).tr ?_
  obtain ⟨rfl, rfl⟩ := Prod.mk.inj (Option.some.inj hf)
  exact gx_le.rf
def f_X10_operator_b13 (D : gx_D) : Nat → HX → Nat → Option Nat → Int32 → Int32 → Option ((Option Nat ⊕ (String × Nat)) × HX)
  | 0, _, _, _, _, _ => none
  | n + 1, h, v0, v1, v2, v3 =>
  if v2 ≤ v3 then
  f_X10_operator_b51 D h v0
  else
  v1.bind fun a16 =>
  (hx_ar h a16 v3).bind fun r17 =>
  r17.bind fun a18 =>
  (gx_ow D a18).bind fun r19 =>
  (f_X10_isWord D h v0 (some r19)).bind fun b21 =>
  if b21 = true then
  f_X10_operator_b38 D h v0 (some a18)
  else
  (f_X10_operator_b13 D n) h v0 (some a16) v2 ((v3 + (1 : Int32)))
theorem w_X10_operator_b13 {l : Launch} (hlt : l.stackTraces = false) {p : Program} {e : Env} {R : Room} {s : State} {m : MethodId} {args : Array Value} {below : List Frame} {meth : Method} {c : Code} {D : gx_D} {h0 : HX} {r : Option Nat ⊕ (String × Nat)} {hz : HX} (C : gx_Ctx p R s m args meth c "ContractMachine$Parser" cX10_operator 5 (some (.object "ContractMachine$Operator")) 9 220 D h0 hz) (hx : ∀ x ∈ c.exceptionTable.toList, False)  : ∀ (n : Nat) ⦃h : HX⦄ ⦃v0 : Nat⦄ ⦃v1 : Option Nat⦄ ⦃v2 : Int32⦄ ⦃v3 : Int32⦄, f_X10_operator_b13 D n h v0 v1 v2 v3 = some (r, hz) → gx_G p l e R s m args below meth c D h0 hz 5 (gx_MQX below args s D h0 hz (gx_xa r)) 13 [(0, (va_rf (some v0))), (1, (va_rf v1)), (2, (.int v2)), (3, (.int v3))] [] h := by
  intro n
  induction n with
  | zero => intro h v0 v1 v2 v3 hf; unfold f_X10_operator_b13 at hf; cases hf
  | succ n wk13 =>
    intro h v0 v1 v2 v3 hf
    unfold f_X10_operator_b13 at hf
    refine gx_iload_n C dX10_operator_13 3 rfl ?_
    refine gx_iload_n C dX10_operator_14 2 rfl ?_
    replace hf := gx_ite hf
    rcases hf with ⟨c6, hf⟩ | ⟨c6, hf⟩
    · refine gx_icmp_ge_t (tgt := 51) C dX10_operator_15 rfl c6 ?_
      refine gx_sub [0] rfl ?_
      exact w_X10_operator_b51 hlt C hx hf
    · refine gx_icmp_ge_f (tgt := 51) C dX10_operator_15 rfl c6 ?_
      refine gx_aload_n C dX10_operator_18 1 rfl ?_
      refine gx_iload_n C dX10_operator_19 3 rfl ?_
      replace hf := gx_bs hf
      obtain ⟨a16, rfl, hf⟩ := hf
      replace hf := gx_bs hf
      obtain ⟨r17, g26, hf⟩ := hf
      refine gx_aald C g26 dX10_operator_20 ?_
      refine gx_ast C dX10_operator_21 (by decide) [0, 1, 2, 3]  rfl (gx_okn rfl rfl (gx_okn rfl rfl (gx_okn rfl rfl (gx_okr rfl gx_catv_i gx_ok0)))) ?_
      refine gx_aload_n C dX10_operator_23 1 rfl ?_
      refine gx_aload C dX10_operator_24 0 rfl ?_
      replace hf := gx_bs hf
      obtain ⟨a18, rfl, hf⟩ := hf
      replace hf := gx_bs hf
      obtain ⟨r19, g25, hf⟩ := hf
      refine gx_getOW C g25 q3360 dX10_operator_26 ?_
      replace hf := gx_bs hf
      obtain ⟨b21, g20, hf⟩ := hf
      refine gx_callU (st := []) C (w_X10_isWord hlt g20) (is_X10_isWord g20) q1358 q1360 (gx_decl C q1372) ⟨by decide, by decide⟩ (gx_cis1 gz_129 (C.hts _ q1362) (gx_cis1 gz_128 (C.hts _ q1361) gx_cis0)) q1359 q152 q1363 gz_234 (by decide) rfl rfl (gx_catn (Nat.le_of_ble_eq_true rfl)) dX10_operator_29 ?_
      replace hf := gx_ite hf
      rcases hf with ⟨c22, hf⟩ | ⟨c22, hf⟩
      · refine gx_ifz_ne_t (tgt := 38) C dX10_operator_32 rfl c22 ?_
        refine gx_sub [1, 0] rfl ?_
        exact w_X10_operator_b38 hlt C hx hf
      · refine gx_ifz_ne_f (tgt := 38) C dX10_operator_32 rfl c22 ?_
        refine gx_goto (tgt := 45) C dX10_operator_35 rfl ?_
        refine gx_inc (v := 1) C dX10_operator_45 4 rfl rfl (by decide) [1, 2, 3] rfl (gx_okn rfl rfl (gx_okn rfl rfl (gx_okr rfl gx_catv_i gx_ok0))) ?_
        refine gx_goto (tgt := 13) C dX10_operator_48 rfl ?_
        refine gx_sub [1, 2, 3, 0] rfl ?_
        exact wk13 hf
theorem le_X10_operator_b13 {D : gx_D} {r : Option Nat ⊕ (String × Nat)} {hz : HX} : ∀ (n : Nat) ⦃h : HX⦄ ⦃v0 : Nat⦄ ⦃v1 : Option Nat⦄ ⦃v2 : Int32⦄ ⦃v3 : Int32⦄, f_X10_operator_b13 D n h v0 v1 v2 v3 = some (r, hz) → gx_le h hz := by
  intro n
  induction n with
  | zero => intro h v0 v1 v2 v3 hf; unfold f_X10_operator_b13 at hf; cases hf
  | succ n lek13 =>
    intro h v0 v1 v2 v3 hf
    unfold f_X10_operator_b13 at hf
    replace hf := gx_ite hf
    rcases hf with ⟨c6, hf⟩ | ⟨c6, hf⟩
    · exact le_X10_operator_b51 hf
    · replace hf := gx_bs hf
      obtain ⟨a16, rfl, hf⟩ := hf
      replace hf := gx_bs hf
      obtain ⟨r17, g26, hf⟩ := hf
      replace hf := gx_bs hf
      obtain ⟨a18, rfl, hf⟩ := hf
      replace hf := gx_bs hf
      obtain ⟨r19, g25, hf⟩ := hf
      replace hf := gx_bs hf
      obtain ⟨b21, g20, hf⟩ := hf
      replace hf := gx_ite hf
      rcases hf with ⟨c22, hf⟩ | ⟨c22, hf⟩
      · exact le_X10_operator_b38 hf
      · exact lek13 hf
def f_X10_operator (D : gx_D) (h : HX) (a0 : Nat) : Option ((Option Nat ⊕ (String × Nat)) × HX) :=
  (hx_is h a0 [16]).bind fun _ =>
  (hx_gr h a0 [16, 18] 5).bind fun r1 =>
  r1.bind fun a2 =>
  (hx_gr h a2 [9] 0).bind fun r3 =>
  r3.bind fun a4 =>
  (hx_len h a4).bind fun x5 =>
  f_X10_operator_b13 D gx_fuel h a0 (some a4) x5 ((0 : Int32))
theorem is_X10_operator {D : gx_D} {h : HX} {a0 : Nat} {z} (hf : f_X10_operator D h a0 = some z) : gx_isC h a0 [16] := by
  unfold f_X10_operator at hf
  obtain ⟨_, g, -⟩ := gx_bs hf
  exact hx_is_of g
theorem w_X10_operator_b {l : Launch} (hlt : l.stackTraces = false) {p : Program} {e : Env} {R : Room} {s : State} {m : MethodId} {args : Array Value} {below : List Frame} {meth : Method} {c : Code} {D : gx_D} {h0 : HX} {r : Option Nat ⊕ (String × Nat)} {hz : HX} (C : gx_Ctx p R s m args meth c "ContractMachine$Parser" cX10_operator 5 (some (.object "ContractMachine$Operator")) 9 220 D h0 hz) (hx : ∀ x ∈ c.exceptionTable.toList, False) {a0 : Nat} (hf : f_X10_operator D h0 a0 = some (r, hz)) : gx_G p l e R s m args below meth c D h0 hz 5 (gx_MQX below args s D h0 hz (gx_xa r)) 0 [(0, (va_rf (some a0)))] [] h0 := by
  unfold f_X10_operator at hf
  replace hf := gx_bs hf
  obtain ⟨_, -, hf⟩ := hf
  refine gx_aload_n C dX10_operator_0 0 rfl ?_
  replace hf := gx_bs hf
  obtain ⟨r1, g29, hf⟩ := hf
  refine gx_gr C g29 gz_125 q1130 dX10_operator_1 ?_
  replace hf := gx_bs hf
  obtain ⟨a2, rfl, hf⟩ := hf
  replace hf := gx_bs hf
  obtain ⟨r3, g28, hf⟩ := hf
  refine gx_grN C g28 gz_78 q882 dX10_operator_4 ?_
  refine gx_astn C dX10_operator_7 1 rfl (by decide) [0]  rfl (gx_okr rfl gx_catv_r gx_ok0) ?_
  refine gx_aload_n C dX10_operator_8 0 rfl ?_
  replace hf := gx_bs hf
  obtain ⟨a4, rfl, hf⟩ := hf
  replace hf := gx_bs hf
  obtain ⟨x5, g27, hf⟩ := hf
  refine gx_alen C g27 dX10_operator_9 ?_
  refine gx_istn C dX10_operator_10 2 rfl (by decide) [0, 1]  rfl (gx_okr rfl gx_catv_r (gx_okn rfl rfl gx_ok0)) ?_
  refine gx_iconst (v := 0) C dX10_operator_11 rfl ?_
  refine gx_istn C dX10_operator_12 3 rfl (by decide) [0, 1, 2]  rfl (gx_okr rfl gx_catv_i (gx_okn rfl rfl (gx_okn rfl rfl gx_ok0))) ?_
  refine gx_sub [3, 2, 1, 0] rfl ?_
  exact w_X10_operator_b13 hlt C hx gx_fuel hf
theorem le_X10_operator {D : gx_D} {r : Option Nat ⊕ (String × Nat)} {hz : HX} {h : HX} {a0 : Nat} (hf : f_X10_operator D h a0 = some (r, hz)) : gx_le h hz := by
  unfold f_X10_operator at hf
  replace hf := gx_bs hf
  obtain ⟨_, -, hf⟩ := hf
  replace hf := gx_bs hf
  obtain ⟨r1, g29, hf⟩ := hf
  replace hf := gx_bs hf
  obtain ⟨a2, rfl, hf⟩ := hf
  replace hf := gx_bs hf
  obtain ⟨r3, g28, hf⟩ := hf
  replace hf := gx_bs hf
  obtain ⟨a4, rfl, hf⟩ := hf
  replace hf := gx_bs hf
  obtain ⟨x5, g27, hf⟩ := hf
  exact le_X10_operator_b13 gx_fuel hf
theorem w_X10_operator {l : Launch} (hlt : l.stackTraces = false) {D : gx_D} {h : HX} {a0 : Nat} {r : Option Nat ⊕ (String × Nat)} {hz : HX} (hf : f_X10_operator D h a0 = some (r, hz)) : gx_MetX l yX10_operator (ws_ yX10_operator cX10_operator 5 (some (.object "ContractMachine$Operator"))) 9 220 D [(va_rf (some a0))] h (gx_xa r) hz :=
  gx_ofGX gz_126 (by simp only [gx_lsr, gx_lsi, gx_lsj, gx_ls0]; decide) (le_X10_operator hf) (fun p e R s m args below meth c C hn hx => by
    simp only [gx_lar, gx_lai, gx_laj, gx_la0, Nat.reduceAdd]
    exact w_X10_operator_b hlt C hx hf)
def f_X11_comparison (D : gx_D) (h : HX) (a0 : Nat) : Option ((Option Nat ⊕ (String × Nat)) × HX) :=
  (hx_is h a0 [16]).bind fun _ =>
  (hx_gr h a0 [16] 6).bind fun r1 =>
  r1.bind fun a2 =>
  (hx_gr h a2 [10] 2).bind fun r3 =>
  (hx_is h a0 [16]).bind fun _ =>
  gx_bx (f_X10_known D h a0 r3) (fun x6 h7 =>
  gx_bx (f_X10_operator D h7 a0) (fun r11 h12 =>
  gx_b2 (hx_new h12 3 14 gx_df14) fun a15 h16 =>
  (hx_is h16 a0 [16]).bind fun _ =>
  gx_bx (f_X10_digit D h16 a0) (fun x19 h20 =>
  (f_X7_init D h20 a15 x6 r11 x19).bind fun h24 =>
  some (.inl (some a15), (hx_fz1 h24 a15))) fun E21 q22 h20 =>
  some (.inr (E21, q22), h20)) fun E13 q14 h12 =>
  some (.inr (E13, q14), h12)) fun E8 q9 h7 =>
  some (.inr (E8, q9), h7)
theorem is_X11_comparison {D : gx_D} {h : HX} {a0 : Nat} {z} (hf : f_X11_comparison D h a0 = some z) : gx_isC h a0 [16] := by
  unfold f_X11_comparison at hf
  obtain ⟨_, g, -⟩ := gx_bs hf
  exact hx_is_of g
theorem w_X11_comparison_b {l : Launch} (hlt : l.stackTraces = false) {p : Program} {e : Env} {R : Room} {s : State} {m : MethodId} {args : Array Value} {below : List Frame} {meth : Method} {c : Code} {D : gx_D} {h0 : HX} {r : Option Nat ⊕ (String × Nat)} {hz : HX} (C : gx_Ctx p R s m args meth c "ContractMachine$SetupParser" cX11_comparison 3 (some (.object "ContractMachine$Comparison")) 11 263 D h0 hz) (hx : ∀ x ∈ c.exceptionTable.toList, False) {a0 : Nat} (hf : f_X11_comparison D h0 a0 = some (r, hz)) : gx_G p l e R s m args below meth c D h0 hz 3 (gx_MQX below args s D h0 hz (gx_xa r)) 0 [(0, (va_rf (some a0)))] [] h0 := by
  unfold f_X11_comparison at hf
  replace hf := gx_bs hf
  obtain ⟨_, -, hf⟩ := hf
  refine gx_aload_n C dX11_comparison_0 0 rfl ?_
  refine gx_aload_n C dX11_comparison_1 0 rfl ?_
  replace hf := gx_bs hf
  obtain ⟨r1, g27, hf⟩ := hf
  refine gx_gr C g27 gz_189 q1121 dX11_comparison_2 ?_
  replace hf := gx_bs hf
  obtain ⟨a2, rfl, hf⟩ := hf
  replace hf := gx_bs hf
  obtain ⟨r3, g26, hf⟩ := hf
  refine gx_grN C g26 gz_46 q567 dX11_comparison_5 ?_
  replace hf := gx_bs hf
  obtain ⟨_, g4, hf⟩ := hf
  replace hf := gx_bxs hf
  rcases hf with ⟨x6, h7, g5, hf⟩ | ⟨E8, q9, h7, g5, hf⟩
  · refine gx_xcallU (st := []) C (w_X10_known hlt g5) (hx_is_of g4) q1345 q1346 (gx_decl C q1347) ⟨by decide, by decide⟩ (gx_cis1 gz_129 (C.hts _ q1348) gx_cis0) q1349 q152 q1350 gz_235 (by decide) rfl rfl (gx_catn (Nat.le_of_ble_eq_true rfl)) dX11_comparison_8 (gx_k2l ?_)
    refine gx_istn C dX11_comparison_11 1 rfl (by decide) [0]  rfl (gx_okr rfl gx_catv_r gx_ok0) ?_
    refine gx_aload_n C dX11_comparison_12 1 rfl ?_
    replace hf := gx_bxs hf
    rcases hf with ⟨r11, h12, g10, hf⟩ | ⟨E13, q14, h12, g10, hf⟩
    · refine gx_xcallU (st := []) C (w_X10_operator hlt g10) (is_X10_operator g10) q1378 q1379 (gx_decl C q1380) ⟨by decide, by decide⟩ (gx_cis1 gz_129 (C.hts _ q1381) gx_cis0) q1382 q152 q1383 gz_236 (by decide) rfl rfl (gx_catn (Nat.le_of_ble_eq_true rfl)) dX11_comparison_13 (gx_k2l ?_)
      refine gx_astn C dX11_comparison_16 2 rfl (by decide) [0, 1]  rfl (gx_okr rfl gx_catv_i (gx_okn rfl rfl gx_ok0)) ?_
      replace hf := gx_b2s hf
      obtain ⟨a15, h16, g25, hf⟩ := hf
      refine gx_newN C g25 gz_107 tyX7_ok gx_df14_ok q1384 q833 q149 dX11_comparison_17 rfl ?_
      refine gx_dup C dX11_comparison_20 rfl ?_
      refine gx_iload_n C dX11_comparison_21 1 rfl ?_
      refine gx_aload_n C dX11_comparison_22 0 rfl ?_
      refine gx_aload_n C dX11_comparison_23 2 rfl ?_
      replace hf := gx_bs hf
      obtain ⟨_, g17, hf⟩ := hf
      replace hf := gx_bxs hf
      rcases hf with ⟨x19, h20, g18, hf⟩ | ⟨E21, q22, h20, g18, hf⟩
      · refine gx_xcallU (st := [(va_rf r11), (.int x6), (va_rf (some a15)), (va_rf (some a15))]) C (w_X10_digit hlt g18) (hx_is_of g17) q1328 q1329 (gx_decl C q1330) ⟨by decide, by decide⟩ (gx_cis1 gz_129 (C.hts _ q1331) gx_cis0) q1332 q152 q1333 gz_237 (by decide) rfl rfl (gx_catn (Nat.le_of_ble_eq_true rfl)) dX11_comparison_24 (gx_k2l ?_)
        replace hf := gx_bs hf
        obtain ⟨h24, g23, hf⟩ := hf
        refine gx_callI (st := [(va_rf (some a15))]) C (w_X7_init hlt g23) q1385 q837 q149 q838 rfl gz_106 (by decide) rfl rfl (gx_catn (Nat.le_of_ble_eq_true rfl)) dX11_comparison_27 ?_
        refine gx_frz1 (a := a15) ?_
        obtain ⟨rfl, rfl⟩ := Prod.mk.inj (Option.some.inj hf)
        exact gx_ret (gx_aret C rfl rfl dX11_comparison_30)
      · refine gx_xcallU (st := [(va_rf r11), (.int x6), (va_rf (some a15)), (va_rf (some a15))]) C (w_X10_digit hlt g18) (hx_is_of g17) q1328 q1329 (gx_decl C q1330) ⟨by decide, by decide⟩ (gx_cis1 gz_129 (C.hts _ q1331) gx_cis0) q1332 q152 q1333 gz_237 (by decide) rfl rfl (gx_catn (Nat.le_of_ble_eq_true rfl)) dX11_comparison_24 (gx_k2r ?_)
        obtain ⟨rfl, rfl⟩ := Prod.mk.inj (Option.some.inj hf)
        exact gx_out C hx
    · refine gx_xcallU (st := []) C (w_X10_operator hlt g10) (is_X10_operator g10) q1378 q1379 (gx_decl C q1380) ⟨by decide, by decide⟩ (gx_cis1 gz_129 (C.hts _ q1381) gx_cis0) q1382 q152 q1383 gz_236 (by decide) rfl rfl (gx_catn (Nat.le_of_ble_eq_true rfl)) dX11_comparison_13 (gx_k2r ?_)
      obtain ⟨rfl, rfl⟩ := Prod.mk.inj (Option.some.inj hf)
      exact gx_out C hx
  · refine gx_xcallU (st := []) C (w_X10_known hlt g5) (hx_is_of g4) q1345 q1346 (gx_decl C q1347) ⟨by decide, by decide⟩ (gx_cis1 gz_129 (C.hts _ q1348) gx_cis0) q1349 q152 q1350 gz_235 (by decide) rfl rfl (gx_catn (Nat.le_of_ble_eq_true rfl)) dX11_comparison_8 (gx_k2r ?_)
    obtain ⟨rfl, rfl⟩ := Prod.mk.inj (Option.some.inj hf)
    exact gx_out C hx
theorem le_X11_comparison {D : gx_D} {r : Option Nat ⊕ (String × Nat)} {hz : HX} {h : HX} {a0 : Nat} (hf : f_X11_comparison D h a0 = some (r, hz)) : gx_le h hz := by
  unfold f_X11_comparison at hf
  replace hf := gx_bs hf
  obtain ⟨_, -, hf⟩ := hf
  replace hf := gx_bs hf
  obtain ⟨r1, g27, hf⟩ := hf
  replace hf := gx_bs hf
  obtain ⟨a2, rfl, hf⟩ := hf
  replace hf := gx_bs hf
  obtain ⟨r3, g26, hf⟩ := hf
  replace hf := gx_bs hf
  obtain ⟨_, g4, hf⟩ := hf
  replace hf := gx_bxs hf
  rcases hf with ⟨x6, h7, g5, hf⟩ | ⟨E8, q9, h7, g5, hf⟩
  · refine (le_X10_known g5).tr ?_
    replace hf := gx_bxs hf
    rcases hf with ⟨r11, h12, g10, hf⟩ | ⟨E13, q14, h12, g10, hf⟩
    · refine (le_X10_operator g10).tr ?_
      replace hf := gx_b2s hf
      obtain ⟨a15, h16, g25, hf⟩ := hf
      refine (hx_le_new g25).tr ?_
      replace hf := gx_bs hf
      obtain ⟨_, g17, hf⟩ := hf
      replace hf := gx_bxs hf
      rcases hf with ⟨x19, h20, g18, hf⟩ | ⟨E21, q22, h20, g18, hf⟩
      · refine (le_X10_digit g18).tr ?_
        replace hf := gx_bs hf
        obtain ⟨h24, g23, hf⟩ := hf
        refine (le_X7_init g23).tr ?_
        refine (gx_le.frz1 (a := a15)).tr ?_
        obtain ⟨rfl, rfl⟩ := Prod.mk.inj (Option.some.inj hf)
        exact gx_le.rf
      · refine (le_X10_digit g18).tr ?_
        obtain ⟨rfl, rfl⟩ := Prod.mk.inj (Option.some.inj hf)
        exact gx_le.rf
    · refine (le_X10_operator g10).tr ?_
      obtain ⟨rfl, rfl⟩ := Prod.mk.inj (Option.some.inj hf)
      exact gx_le.rf
  · refine (le_X10_known g5).tr ?_
    obtain ⟨rfl, rfl⟩ := Prod.mk.inj (Option.some.inj hf)
    exact gx_le.rf
theorem w_X11_comparison {l : Launch} (hlt : l.stackTraces = false) {D : gx_D} {h : HX} {a0 : Nat} {r : Option Nat ⊕ (String × Nat)} {hz : HX} (hf : f_X11_comparison D h a0 = some (r, hz)) : gx_MetX l yX11_comparison (ws_ yX11_comparison cX11_comparison 3 (some (.object "ContractMachine$Comparison"))) 11 263 D [(va_rf (some a0))] h (gx_xa r) hz :=
  gx_ofGX gz_192 (by simp only [gx_lsr, gx_lsi, gx_lsj, gx_ls0]; decide) (le_X11_comparison hf) (fun p e R s m args below meth c C hn hx => by
    simp only [gx_lar, gx_lai, gx_laj, gx_la0, Nat.reduceAdd]
    exact w_X11_comparison_b hlt C hx hf)
def f_X11_invariant_b50 (D : gx_D) (h : HX) (v0 : Nat) (s0 : Int32) : Option ((Unit ⊕ (String × Nat)) × HX) :=
  (hx_gr h v0 [16] 7).bind fun r28 =>
  r28.bind fun a29 =>
  (hx_gr h a29 [11] 0).bind fun r30 =>
  gx_b2 (hx_new h 2 15 gx_df15) fun a31 h32 =>
  gx_bx (f_X11_comparison D h32 v0) (fun r34 h35 =>
  (f_X8_init D h35 a31 s0 r34).bind fun h39 =>
  r30.bind fun a40 =>
  gx_b2 (f_J2_add D ((hx_fz1 h39 a31)) a40 (some a31)) fun b42 h43 =>
  some (.inl (), h43)) fun E36 q37 h35 =>
  some (.inr (E36, q37), h35)
theorem w_X11_invariant_b50 {l : Launch} (hlt : l.stackTraces = false) {p : Program} {e : Env} {R : Room} {s : State} {m : MethodId} {args : Array Value} {below : List Frame} {meth : Method} {c : Code} {D : gx_D} {h0 : HX} {r : Unit ⊕ (String × Nat)} {hz : HX} (C : gx_Ctx p R s m args meth c "ContractMachine$SetupParser" cX11_invariant 4 none 12 285 D h0 hz) (hx : ∀ x ∈ c.exceptionTable.toList, False)  {h : HX} {v0 : Nat} {s0 : Int32} (hf : f_X11_invariant_b50 D h v0 s0 = some (r, hz)) : gx_G p l e R s m args below meth c D h0 hz 4 (gx_MQX below args s D h0 hz (gx_xv r)) 50 [(0, (va_rf (some v0)))] [(.int s0)] h := by
  unfold f_X11_invariant_b50 at hf
  refine gx_istn C dX11_invariant_50 2 rfl (by decide) [0]  rfl (gx_okn rfl rfl gx_ok0) ?_
  refine gx_aload_n C dX11_invariant_51 1 rfl ?_
  replace hf := gx_bs hf
  obtain ⟨r28, g46, hf⟩ := hf
  refine gx_gr C g46 gz_190 q1123 dX11_invariant_52 ?_
  replace hf := gx_bs hf
  obtain ⟨a29, rfl, hf⟩ := hf
  replace hf := gx_bs hf
  obtain ⟨r30, g45, hf⟩ := hf
  refine gx_grN C g45 gz_57 q597 dX11_invariant_55 ?_
  replace hf := gx_b2s hf
  obtain ⟨a31, h32, g44, hf⟩ := hf
  refine gx_newN C g44 gz_11 tyX8_ok gx_df15_ok q1409 q857 q150 dX11_invariant_58 rfl ?_
  refine gx_dup C dX11_invariant_61 rfl ?_
  refine gx_iload_n C dX11_invariant_62 0 rfl ?_
  refine gx_aload_n C dX11_invariant_63 1 rfl ?_
  replace hf := gx_bxs hf
  rcases hf with ⟨r34, h35, g33, hf⟩ | ⟨E36, q37, h35, g33, hf⟩
  · refine gx_xcallV (st := [(.int s0), (va_rf (some a31)), (va_rf (some a31)), (va_rf r30)]) C (w_X11_comparison hlt g33) (is_X11_comparison g33) gz_129 rfl (lw_V q1374 q1376 qs17 q153 q1377) gz_238 (by decide) rfl rfl (gx_catn (Nat.le_of_ble_eq_true rfl)) dX11_invariant_64 (gx_k2l ?_)
    replace hf := gx_bs hf
    obtain ⟨h39, g38, hf⟩ := hf
    refine gx_callI (st := [(va_rf (some a31)), (va_rf r30)]) C (w_X8_init hlt g38) q1410 q861 q150 q862 rfl gz_105 (by decide) rfl rfl (gx_catn (Nat.le_of_ble_eq_true rfl)) dX11_invariant_67 ?_
    refine gx_frz1 (a := a31) ?_
    replace hf := gx_bs hf
    obtain ⟨a40, rfl, hf⟩ := hf
    replace hf := gx_b2s hf
    obtain ⟨b42, h43, g41, hf⟩ := hf
    refine gx_callF (st := []) C (w_J2_add hlt g41) (is_J2_add g41) q1323 (gx_cis1 gz_19 ⟨gz_24, q674⟩ gx_cis0) q676 q127 q678 gz_23 (by decide) rfl rfl (gx_catn (Nat.le_of_ble_eq_true rfl)) dX11_invariant_70 ?_
    refine gx_istn C dX11_invariant_75 3 rfl (by decide) []  rfl gx_ok0 ?_
    obtain ⟨rfl, rfl⟩ := Prod.mk.inj (Option.some.inj hf)
    exact gx_ret (gx_vret C dX11_invariant_76)
  · refine gx_xcallV (st := [(.int s0), (va_rf (some a31)), (va_rf (some a31)), (va_rf r30)]) C (w_X11_comparison hlt g33) (is_X11_comparison g33) gz_129 rfl (lw_V q1374 q1376 qs17 q153 q1377) gz_238 (by decide) rfl rfl (gx_catn (Nat.le_of_ble_eq_true rfl)) dX11_invariant_64 (gx_k2r ?_)
    obtain ⟨rfl, rfl⟩ := Prod.mk.inj (Option.some.inj hf)
    exact gx_out C hx
theorem le_X11_invariant_b50 {D : gx_D} {r : Unit ⊕ (String × Nat)} {hz : HX} {h : HX} {v0 : Nat} {s0 : Int32} (hf : f_X11_invariant_b50 D h v0 s0 = some (r, hz)) : gx_le h hz := by
  unfold f_X11_invariant_b50 at hf
  replace hf := gx_bs hf
  obtain ⟨r28, g46, hf⟩ := hf
  replace hf := gx_bs hf
  obtain ⟨a29, rfl, hf⟩ := hf
  replace hf := gx_bs hf
  obtain ⟨r30, g45, hf⟩ := hf
  replace hf := gx_b2s hf
  obtain ⟨a31, h32, g44, hf⟩ := hf
  refine (hx_le_new g44).tr ?_
  replace hf := gx_bxs hf
  rcases hf with ⟨r34, h35, g33, hf⟩ | ⟨E36, q37, h35, g33, hf⟩
  · refine (le_X11_comparison g33).tr ?_
    replace hf := gx_bs hf
    obtain ⟨h39, g38, hf⟩ := hf
    refine (le_X8_init g38).tr ?_
    refine (gx_le.frz1 (a := a31)).tr ?_
    replace hf := gx_bs hf
    obtain ⟨a40, rfl, hf⟩ := hf
    replace hf := gx_b2s hf
    obtain ⟨b42, h43, g41, hf⟩ := hf
    refine (le_J2_add g41).tr ?_
    obtain ⟨rfl, rfl⟩ := Prod.mk.inj (Option.some.inj hf)
    exact gx_le.rf
  · refine (le_X11_comparison g33).tr ?_
    obtain ⟨rfl, rfl⟩ := Prod.mk.inj (Option.some.inj hf)
    exact gx_le.rf
def f_X11_invariant_b23 (D : gx_D) (h : HX) (v0 : Nat) (v1 : Bool) (s0 : Bool) (s1 : Option Nat) : Option ((Unit ⊕ (String × Nat)) × HX) :=
  s1.bind fun a8 =>
  (hx_is h a8 [16]).bind fun _ =>
  gx_bx (f_X10_expect D h a8 s0 (5 : Int32)) (fun u14 h11 =>
  (hx_is h11 v0 [16]).bind fun _ =>
  (f_X10_advance D h11 v0).bind fun h17 =>
  if v1 = true then
  (hx_gr h17 v0 [16] 6).bind fun r19 =>
  r19.bind fun a20 =>
  (hx_gr h17 a20 [10] 0).bind fun r21 =>
  (hx_is h17 v0 [16]).bind fun _ =>
  gx_bx (f_X10_known D h17 v0 r21) (fun x24 h25 =>
  f_X11_invariant_b50 D h25 v0 x24) fun E26 q27 h25 =>
  some (.inr (E26, q27), h25)
  else
  f_X11_invariant_b50 D h17 v0 ((-1 : Int32))) fun E12 q13 h11 =>
  some (.inr (E12, q13), h11)
theorem w_X11_invariant_b23 {l : Launch} (hlt : l.stackTraces = false) {p : Program} {e : Env} {R : Room} {s : State} {m : MethodId} {args : Array Value} {below : List Frame} {meth : Method} {c : Code} {D : gx_D} {h0 : HX} {r : Unit ⊕ (String × Nat)} {hz : HX} (C : gx_Ctx p R s m args meth c "ContractMachine$SetupParser" cX11_invariant 4 none 12 285 D h0 hz) (hx : ∀ x ∈ c.exceptionTable.toList, False)  {h : HX} {v0 : Nat} {v1 : Bool} {s0 : Bool} {s1 : Option Nat} (hf : f_X11_invariant_b23 D h v0 v1 s0 s1 = some (r, hz)) : gx_G p l e R s m args below meth c D h0 hz 4 (gx_MQX below args s D h0 hz (gx_xv r)) 23 [(0, (va_rf (some v0))), (1, (.int (b2i v1)))] [(.int (b2i s0)), (va_rf s1)] h := by
  unfold f_X11_invariant_b23 at hf
  refine gx_iconst (v := 5) C dX11_invariant_23 rfl ?_
  replace hf := gx_bs hf
  obtain ⟨a8, rfl, hf⟩ := hf
  replace hf := gx_bs hf
  obtain ⟨_, g9, hf⟩ := hf
  replace hf := gx_bxs hf
  rcases hf with ⟨u14, h11, g10, hf⟩ | ⟨E12, q13, h11, g10, hf⟩
  · refine gx_xcallU (st := []) C (w_X10_expect hlt g10) (hx_is_of g9) q1247 q1248 (gx_decl C q1249) ⟨by decide, by decide⟩ (gx_cis1 gz_129 (C.hts _ q1250) gx_cis0) q1251 q152 q1252 gz_230 (by decide) rfl rfl (gx_catn (Nat.le_of_ble_eq_true rfl)) dX11_invariant_24 (gx_k2l ?_)
    refine gx_aload_n C dX11_invariant_27 0 rfl ?_
    replace hf := gx_bs hf
    obtain ⟨_, g15, hf⟩ := hf
    replace hf := gx_bs hf
    obtain ⟨h17, g16, hf⟩ := hf
    refine gx_callU (st := []) C (w_X10_advance hlt g16) (hx_is_of g15) q1281 q1282 (gx_decl C q1283) ⟨by decide, by decide⟩ (gx_cis1 gz_129 (C.hts _ q1284) gx_cis0) q976 q152 q980 gz_231 (by decide) rfl rfl (gx_catn (Nat.le_of_ble_eq_true rfl)) dX11_invariant_28 ?_
    refine gx_iload_n C dX11_invariant_31 1 rfl ?_
    replace hf := gx_ite hf
    rcases hf with ⟨c18, hf⟩ | ⟨c18, hf⟩
    · refine gx_ifz_eq_f (tgt := 49) C dX11_invariant_32 rfl c18 ?_
      refine gx_aload_n C dX11_invariant_35 0 rfl ?_
      refine gx_aload_n C dX11_invariant_36 0 rfl ?_
      replace hf := gx_bs hf
      obtain ⟨r19, g48, hf⟩ := hf
      refine gx_gr C g48 gz_189 q1121 dX11_invariant_37 ?_
      replace hf := gx_bs hf
      obtain ⟨a20, rfl, hf⟩ := hf
      replace hf := gx_bs hf
      obtain ⟨r21, g47, hf⟩ := hf
      refine gx_grN C g47 gz_28 q559 dX11_invariant_40 ?_
      replace hf := gx_bs hf
      obtain ⟨_, g22, hf⟩ := hf
      replace hf := gx_bxs hf
      rcases hf with ⟨x24, h25, g23, hf⟩ | ⟨E26, q27, h25, g23, hf⟩
      · refine gx_xcallU (st := []) C (w_X10_known hlt g23) (hx_is_of g22) q1345 q1346 (gx_decl C q1347) ⟨by decide, by decide⟩ (gx_cis1 gz_129 (C.hts _ q1348) gx_cis0) q1349 q152 q1350 gz_235 (by decide) rfl rfl (gx_catn (Nat.le_of_ble_eq_true rfl)) dX11_invariant_43 (gx_k2l ?_)
        refine gx_goto (tgt := 50) C dX11_invariant_46 rfl ?_
        refine gx_sub [0] rfl ?_
        exact w_X11_invariant_b50 hlt C hx hf
      · refine gx_xcallU (st := []) C (w_X10_known hlt g23) (hx_is_of g22) q1345 q1346 (gx_decl C q1347) ⟨by decide, by decide⟩ (gx_cis1 gz_129 (C.hts _ q1348) gx_cis0) q1349 q152 q1350 gz_235 (by decide) rfl rfl (gx_catn (Nat.le_of_ble_eq_true rfl)) dX11_invariant_43 (gx_k2r ?_)
        obtain ⟨rfl, rfl⟩ := Prod.mk.inj (Option.some.inj hf)
        exact gx_out C hx
    · refine gx_ifz_eq_t (tgt := 49) C dX11_invariant_32 rfl c18 ?_
      refine gx_iconst (v := -1) C dX11_invariant_49 rfl ?_
      refine gx_sub [0] rfl ?_
      exact w_X11_invariant_b50 hlt C hx hf
  · refine gx_xcallU (st := []) C (w_X10_expect hlt g10) (hx_is_of g9) q1247 q1248 (gx_decl C q1249) ⟨by decide, by decide⟩ (gx_cis1 gz_129 (C.hts _ q1250) gx_cis0) q1251 q152 q1252 gz_230 (by decide) rfl rfl (gx_catn (Nat.le_of_ble_eq_true rfl)) dX11_invariant_24 (gx_k2r ?_)
    obtain ⟨rfl, rfl⟩ := Prod.mk.inj (Option.some.inj hf)
    exact gx_out C hx
theorem le_X11_invariant_b23 {D : gx_D} {r : Unit ⊕ (String × Nat)} {hz : HX} {h : HX} {v0 : Nat} {v1 : Bool} {s0 : Bool} {s1 : Option Nat} (hf : f_X11_invariant_b23 D h v0 v1 s0 s1 = some (r, hz)) : gx_le h hz := by
  unfold f_X11_invariant_b23 at hf
  replace hf := gx_bs hf
  obtain ⟨a8, rfl, hf⟩ := hf
  replace hf := gx_bs hf
  obtain ⟨_, g9, hf⟩ := hf
  replace hf := gx_bxs hf
  rcases hf with ⟨u14, h11, g10, hf⟩ | ⟨E12, q13, h11, g10, hf⟩
  · refine (le_X10_expect g10).tr ?_
    replace hf := gx_bs hf
    obtain ⟨_, g15, hf⟩ := hf
    replace hf := gx_bs hf
    obtain ⟨h17, g16, hf⟩ := hf
    refine (le_X10_advance g16).tr ?_
    replace hf := gx_ite hf
    rcases hf with ⟨c18, hf⟩ | ⟨c18, hf⟩
    · replace hf := gx_bs hf
      obtain ⟨r19, g48, hf⟩ := hf
      replace hf := gx_bs hf
      obtain ⟨a20, rfl, hf⟩ := hf
      replace hf := gx_bs hf
      obtain ⟨r21, g47, hf⟩ := hf
      replace hf := gx_bs hf
      obtain ⟨_, g22, hf⟩ := hf
      replace hf := gx_bxs hf
      rcases hf with ⟨x24, h25, g23, hf⟩ | ⟨E26, q27, h25, g23, hf⟩
      · refine (le_X10_known g23).tr ?_
        exact le_X11_invariant_b50 hf
      · refine (le_X10_known g23).tr ?_
        obtain ⟨rfl, rfl⟩ := Prod.mk.inj (Option.some.inj hf)
        exact gx_le.rf
    · exact le_X11_invariant_b50 hf
  · refine (le_X10_expect g10).tr ?_
    obtain ⟨rfl, rfl⟩ := Prod.mk.inj (Option.some.inj hf)
    exact gx_le.rf
def f_X11_invariant (D : gx_D) (h : HX) (a0 : Nat) (p1 : Bool) : Option ((Unit ⊕ (String × Nat)) × HX) :=
  (hx_is h a0 [16]).bind fun _ =>
  (hx_gr h a0 [16] 7).bind fun r1 =>
  r1.bind fun a2 =>
  (hx_gr h a2 [11] 0).bind fun r3 =>
  r3.bind fun a4 =>
  (f_J2_size D h a4).bind fun x6 =>
  if (12 : Int32) ≤ x6 then
  f_X11_invariant_b23 D h a0 p1 false (some a0)
  else
  f_X11_invariant_b23 D h a0 p1 true (some a0)
theorem is_X11_invariant {D : gx_D} {h : HX} {a0 : Nat} {p1 : Bool} {z} (hf : f_X11_invariant D h a0 p1 = some z) : gx_isC h a0 [16] := by
  unfold f_X11_invariant at hf
  obtain ⟨_, g, -⟩ := gx_bs hf
  exact hx_is_of g
theorem w_X11_invariant_b {l : Launch} (hlt : l.stackTraces = false) {p : Program} {e : Env} {R : Room} {s : State} {m : MethodId} {args : Array Value} {below : List Frame} {meth : Method} {c : Code} {D : gx_D} {h0 : HX} {r : Unit ⊕ (String × Nat)} {hz : HX} (C : gx_Ctx p R s m args meth c "ContractMachine$SetupParser" cX11_invariant 4 none 12 285 D h0 hz) (hx : ∀ x ∈ c.exceptionTable.toList, False) {a0 : Nat} {p1 : Bool} (hf : f_X11_invariant D h0 a0 p1 = some (r, hz)) : gx_G p l e R s m args below meth c D h0 hz 4 (gx_MQX below args s D h0 hz (gx_xv r)) 0 [(0, (va_rf (some a0))), (1, (.int (b2i p1)))] [] h0 := by
  unfold f_X11_invariant at hf
  replace hf := gx_bs hf
  obtain ⟨_, -, hf⟩ := hf
  refine gx_aload_n C dX11_invariant_0 0 rfl ?_
  refine gx_aload_n C dX11_invariant_1 0 rfl ?_
  replace hf := gx_bs hf
  obtain ⟨r1, g50, hf⟩ := hf
  refine gx_gr C g50 gz_190 q1123 dX11_invariant_2 ?_
  replace hf := gx_bs hf
  obtain ⟨a2, rfl, hf⟩ := hf
  replace hf := gx_bs hf
  obtain ⟨r3, g49, hf⟩ := hf
  refine gx_grN C g49 gz_57 q597 dX11_invariant_5 ?_
  replace hf := gx_bs hf
  obtain ⟨a4, rfl, hf⟩ := hf
  replace hf := gx_bs hf
  obtain ⟨x6, g5, hf⟩ := hf
  refine gx_callF (st := [(va_rf (some a0))]) C (w_J2_size hlt g5) (is_J2_size g5) q1246 (gx_cis1 gz_19 ⟨gz_51, q770⟩ gx_cis0) q772 q127 q774 gz_50 (by decide) rfl rfl (gx_catn (Nat.le_of_ble_eq_true rfl)) dX11_invariant_8 ?_
  refine gx_bipush (v := 12) C dX11_invariant_13 rfl ?_
  replace hf := gx_ite hf
  rcases hf with ⟨c7, hf⟩ | ⟨c7, hf⟩
  · refine gx_icmp_ge_t (tgt := 22) C dX11_invariant_15 rfl c7 ?_
    refine gx_iconst (v := 0) C dX11_invariant_22 rfl ?_
    refine gx_sub [0, 1] rfl ?_
    exact w_X11_invariant_b23 hlt C hx hf
  · refine gx_icmp_ge_f (tgt := 22) C dX11_invariant_15 rfl c7 ?_
    refine gx_iconst (v := 1) C dX11_invariant_18 rfl ?_
    refine gx_goto (tgt := 23) C dX11_invariant_19 rfl ?_
    refine gx_sub [0, 1] rfl ?_
    exact w_X11_invariant_b23 hlt C hx hf
theorem le_X11_invariant {D : gx_D} {r : Unit ⊕ (String × Nat)} {hz : HX} {h : HX} {a0 : Nat} {p1 : Bool} (hf : f_X11_invariant D h a0 p1 = some (r, hz)) : gx_le h hz := by
  unfold f_X11_invariant at hf
  replace hf := gx_bs hf
  obtain ⟨_, -, hf⟩ := hf
  replace hf := gx_bs hf
  obtain ⟨r1, g50, hf⟩ := hf
  replace hf := gx_bs hf
  obtain ⟨a2, rfl, hf⟩ := hf
  replace hf := gx_bs hf
  obtain ⟨r3, g49, hf⟩ := hf
  replace hf := gx_bs hf
  obtain ⟨a4, rfl, hf⟩ := hf
  replace hf := gx_bs hf
  obtain ⟨x6, g5, hf⟩ := hf
  replace hf := gx_ite hf
  rcases hf with ⟨c7, hf⟩ | ⟨c7, hf⟩
  · exact le_X11_invariant_b23 hf
  · exact le_X11_invariant_b23 hf
theorem w_X11_invariant {l : Launch} (hlt : l.stackTraces = false) {D : gx_D} {h : HX} {a0 : Nat} {p1 : Bool} {r : Unit ⊕ (String × Nat)} {hz : HX} (hf : f_X11_invariant D h a0 p1 = some (r, hz)) : gx_MetX l yX11_invariant (ws_ yX11_invariant cX11_invariant 4 none) 12 285 D [(va_rf (some a0)), (.int (b2i p1))] h (gx_xv r) hz :=
  gx_ofGX gz_192 (by simp only [gx_lsr, gx_lsi, gx_lsj, gx_ls0]; decide) (le_X11_invariant hf) (fun p e R s m args below meth c C hn hx => by
    simp only [gx_lar, gx_lai, gx_laj, gx_la0, Nat.reduceAdd]
    exact w_X11_invariant_b hlt C hx hf)
def f_X10_keyword (D : gx_D) (h : HX) (a0 : Nat) (p1 : Option Nat) : Option ((Unit ⊕ (String × Nat)) × HX) :=
  (hx_is h a0 [16]).bind fun _ =>
  (f_X10_isWord D h a0 p1).bind fun b2 =>
  gx_bx (f_X10_expect D h a0 b2 (1 : Int32)) (fun u7 h4 =>
  (f_X10_advance D h4 a0).bind fun h9 =>
  some (.inl (), h9)) fun E5 q6 h4 =>
  some (.inr (E5, q6), h4)
theorem is_X10_keyword {D : gx_D} {h : HX} {a0 : Nat} {p1 : Option Nat} {z} (hf : f_X10_keyword D h a0 p1 = some z) : gx_isC h a0 [16] := by
  unfold f_X10_keyword at hf
  obtain ⟨_, g, -⟩ := gx_bs hf
  exact hx_is_of g
theorem w_X10_keyword_b {l : Launch} (hlt : l.stackTraces = false) {p : Program} {e : Env} {R : Room} {s : State} {m : MethodId} {args : Array Value} {below : List Frame} {meth : Method} {c : Code} {D : gx_D} {h0 : HX} {r : Unit ⊕ (String × Nat)} {hz : HX} (C : gx_Ctx p R s m args meth c "ContractMachine$Parser" cX10_keyword 2 none 9 220 D h0 hz) (hx : ∀ x ∈ c.exceptionTable.toList, False) {a0 : Nat} {p1 : Option Nat} (hf : f_X10_keyword D h0 a0 p1 = some (r, hz)) : gx_G p l e R s m args below meth c D h0 hz 2 (gx_MQX below args s D h0 hz (gx_xv r)) 0 [(0, (va_rf (some a0))), (1, (va_rf p1))] [] h0 := by
  unfold f_X10_keyword at hf
  replace hf := gx_bs hf
  obtain ⟨_, -, hf⟩ := hf
  refine gx_aload_n C dX10_keyword_0 0 rfl ?_
  refine gx_aload_n C dX10_keyword_1 0 rfl ?_
  refine gx_aload_n C dX10_keyword_2 1 rfl ?_
  replace hf := gx_bs hf
  obtain ⟨b2, g1, hf⟩ := hf
  refine gx_callU (st := [(va_rf (some a0))]) C (w_X10_isWord hlt g1) (is_X10_isWord g1) q1358 q1360 (gx_decl C q1372) ⟨by decide, by decide⟩ (gx_cis1 gz_129 (C.hts _ q1362) (gx_cis1 gz_128 (C.hts _ q1361) gx_cis0)) q1359 q152 q1363 gz_234 (by decide) rfl rfl (gx_catn (Nat.le_of_ble_eq_true rfl)) dX10_keyword_3 ?_
  refine gx_iconst (v := 1) C dX10_keyword_6 rfl ?_
  replace hf := gx_bxs hf
  rcases hf with ⟨u7, h4, g3, hf⟩ | ⟨E5, q6, h4, g3, hf⟩
  · refine gx_xcallU (st := []) C (w_X10_expect hlt g3) (is_X10_expect g3) q1299 q3274 (gx_decl C q1249) ⟨by decide, by decide⟩ (gx_cis1 gz_129 (C.hts _ q3276) (gx_cis1 gz_128 (C.hts _ q3275) gx_cis0)) q1251 q152 q1252 gz_225 (by decide) rfl rfl (gx_catn (Nat.le_of_ble_eq_true rfl)) dX10_keyword_7 (gx_k2l ?_)
    refine gx_aload_n C dX10_keyword_10 0 rfl ?_
    replace hf := gx_bs hf
    obtain ⟨h9, g8, hf⟩ := hf
    refine gx_callU (st := []) C (w_X10_advance hlt g8) (is_X10_advance g8) q975 q977 (gx_decl C q1283) ⟨by decide, by decide⟩ (gx_cis1 gz_129 (C.hts _ q979) (gx_cis1 gz_128 (C.hts _ q978) gx_cis0)) q976 q152 q980 gz_187 (by decide) rfl rfl (gx_catn (Nat.le_of_ble_eq_true rfl)) dX10_keyword_11 ?_
    obtain ⟨rfl, rfl⟩ := Prod.mk.inj (Option.some.inj hf)
    exact gx_ret (gx_vret C dX10_keyword_14)
  · refine gx_xcallU (st := []) C (w_X10_expect hlt g3) (is_X10_expect g3) q1299 q3274 (gx_decl C q1249) ⟨by decide, by decide⟩ (gx_cis1 gz_129 (C.hts _ q3276) (gx_cis1 gz_128 (C.hts _ q3275) gx_cis0)) q1251 q152 q1252 gz_225 (by decide) rfl rfl (gx_catn (Nat.le_of_ble_eq_true rfl)) dX10_keyword_7 (gx_k2r ?_)
    obtain ⟨rfl, rfl⟩ := Prod.mk.inj (Option.some.inj hf)
    exact gx_out C hx
theorem le_X10_keyword {D : gx_D} {r : Unit ⊕ (String × Nat)} {hz : HX} {h : HX} {a0 : Nat} {p1 : Option Nat} (hf : f_X10_keyword D h a0 p1 = some (r, hz)) : gx_le h hz := by
  unfold f_X10_keyword at hf
  replace hf := gx_bs hf
  obtain ⟨_, -, hf⟩ := hf
  replace hf := gx_bs hf
  obtain ⟨b2, g1, hf⟩ := hf
  replace hf := gx_bxs hf
  rcases hf with ⟨u7, h4, g3, hf⟩ | ⟨E5, q6, h4, g3, hf⟩
  · refine (le_X10_expect g3).tr ?_
    replace hf := gx_bs hf
    obtain ⟨h9, g8, hf⟩ := hf
    refine (le_X10_advance g8).tr ?_
    obtain ⟨rfl, rfl⟩ := Prod.mk.inj (Option.some.inj hf)
    exact gx_le.rf
  · refine (le_X10_expect g3).tr ?_
    obtain ⟨rfl, rfl⟩ := Prod.mk.inj (Option.some.inj hf)
    exact gx_le.rf
theorem w_X10_keyword {l : Launch} (hlt : l.stackTraces = false) {D : gx_D} {h : HX} {a0 : Nat} {p1 : Option Nat} {r : Unit ⊕ (String × Nat)} {hz : HX} (hf : f_X10_keyword D h a0 p1 = some (r, hz)) : gx_MetX l yX10_keyword (ws_ yX10_keyword cX10_keyword 2 none) 9 220 D [(va_rf (some a0)), (va_rf p1)] h (gx_xv r) hz :=
  gx_ofGX gz_126 (by simp only [gx_lsr, gx_lsi, gx_lsj, gx_ls0]; decide) (le_X10_keyword hf) (fun p e R s m args below meth c C hn hx => by
    simp only [gx_lar, gx_lai, gx_laj, gx_la0, Nat.reduceAdd]
    exact w_X10_keyword_b hlt C hx hf)
def f_X11_effect_b52 (D : gx_D) (h : HX) (v0 : Nat) (v1 : Option Nat) : Option ((Option Nat ⊕ (String × Nat)) × HX) :=
  (hx_is h v0 [16]).bind fun _ =>
  (f_X10_advance D h v0).bind fun h17 =>
  some (.inl v1, h17)
theorem w_X11_effect_b52 {l : Launch} (hlt : l.stackTraces = false) {p : Program} {e : Env} {R : Room} {s : State} {m : MethodId} {args : Array Value} {below : List Frame} {meth : Method} {c : Code} {D : gx_D} {h0 : HX} {r : Option Nat ⊕ (String × Nat)} {hz : HX} (C : gx_Ctx p R s m args meth c "ContractMachine$SetupParser" cX11_effect 2 (some (.object "ContractMachine$Effect")) 9 220 D h0 hz) (hx : ∀ x ∈ c.exceptionTable.toList, False)  {h : HX} {v0 : Nat} {v1 : Option Nat} (hf : f_X11_effect_b52 D h v0 v1 = some (r, hz)) : gx_G p l e R s m args below meth c D h0 hz 2 (gx_MQX below args s D h0 hz (gx_xa r)) 52 [(0, (va_rf (some v0))), (1, (va_rf v1))] [] h := by
  unfold f_X11_effect_b52 at hf
  refine gx_aload_n C dX11_effect_52 0 rfl ?_
  replace hf := gx_bs hf
  obtain ⟨_, g15, hf⟩ := hf
  replace hf := gx_bs hf
  obtain ⟨h17, g16, hf⟩ := hf
  refine gx_callU (st := []) C (w_X10_advance hlt g16) (hx_is_of g15) q1281 q1282 (gx_decl C q1283) ⟨by decide, by decide⟩ (gx_cis1 gz_129 (C.hts _ q1284) gx_cis0) q976 q152 q980 gz_231 (by decide) rfl rfl (gx_catn (Nat.le_of_ble_eq_true rfl)) dX11_effect_53 ?_
  refine gx_aload_n C dX11_effect_56 1 rfl ?_
  obtain ⟨rfl, rfl⟩ := Prod.mk.inj (Option.some.inj hf)
  exact gx_ret (gx_aret C rfl rfl dX11_effect_57)
theorem le_X11_effect_b52 {D : gx_D} {r : Option Nat ⊕ (String × Nat)} {hz : HX} {h : HX} {v0 : Nat} {v1 : Option Nat} (hf : f_X11_effect_b52 D h v0 v1 = some (r, hz)) : gx_le h hz := by
  unfold f_X11_effect_b52 at hf
  replace hf := gx_bs hf
  obtain ⟨_, g15, hf⟩ := hf
  replace hf := gx_bs hf
  obtain ⟨h17, g16, hf⟩ := hf
  refine (le_X10_advance g16).tr ?_
  obtain ⟨rfl, rfl⟩ := Prod.mk.inj (Option.some.inj hf)
  exact gx_le.rf
def f_X11_effect_b33 (D : gx_D) (h : HX) (v0 : Nat) (s0 : Option Nat) : Option ((Option Nat ⊕ (String × Nat)) × HX) :=
  if s0 = (some (D.2.2.1 112)) then
  (hx_is h v0 [16]).bind fun _ =>
  (f_X10_isWord D h v0 (some (D.2.2.1 20))).bind fun b8 =>
  (hx_is h v0 [16]).bind fun _ =>
  gx_bx (f_X10_expect D h v0 b8 (1 : Int32)) (fun u14 h11 =>
  f_X11_effect_b52 D h11 v0 s0) fun E12 q13 h11 =>
  some (.inr (E12, q13), h11)
  else
  f_X11_effect_b52 D h v0 s0
theorem w_X11_effect_b33 {l : Launch} (hlt : l.stackTraces = false) {p : Program} {e : Env} {R : Room} {s : State} {m : MethodId} {args : Array Value} {below : List Frame} {meth : Method} {c : Code} {D : gx_D} {h0 : HX} {r : Option Nat ⊕ (String × Nat)} {hz : HX} (C : gx_Ctx p R s m args meth c "ContractMachine$SetupParser" cX11_effect 2 (some (.object "ContractMachine$Effect")) 9 220 D h0 hz) (hx : ∀ x ∈ c.exceptionTable.toList, False)  {h : HX} {v0 : Nat} {s0 : Option Nat} (hf : f_X11_effect_b33 D h v0 s0 = some (r, hz)) : gx_G p l e R s m args below meth c D h0 hz 2 (gx_MQX below args s D h0 hz (gx_xa r)) 33 [(0, (va_rf (some v0)))] [(va_rf s0)] h := by
  unfold f_X11_effect_b33 at hf
  refine gx_astn C dX11_effect_33 1 rfl (by decide) [0]  rfl (gx_okr rfl gx_catv_r gx_ok0) ?_
  refine gx_aload_n C dX11_effect_34 0 rfl ?_
  refine gx_statk C 8 rfl q1400 dX11_effect_35 ?_
  replace hf := gx_ite hf
  rcases hf with ⟨c5, hf⟩ | ⟨c5, hf⟩
  · refine gx_acmp_ne_f (tgt := 52) C dX11_effect_38 rfl c5 ?_
    refine gx_aload_n C dX11_effect_41 1 rfl ?_
    refine gx_aload_n C dX11_effect_42 1 rfl ?_
    refine gx_ldcS C 20 rfl dX11_effect_43 ?_
    replace hf := gx_bs hf
    obtain ⟨_, g6, hf⟩ := hf
    replace hf := gx_bs hf
    obtain ⟨b8, g7, hf⟩ := hf
    refine gx_callU (st := [(va_rf (some v0))]) C (w_X10_isWord hlt g7) (hx_is_of g6) q1370 q1371 (gx_decl C q1372) ⟨by decide, by decide⟩ (gx_cis1 gz_129 (C.hts _ q1373) gx_cis0) q1359 q152 q1363 gz_239 (by decide) rfl rfl (gx_catn (Nat.le_of_ble_eq_true rfl)) dX11_effect_45 ?_
    refine gx_iconst (v := 1) C dX11_effect_48 rfl ?_
    replace hf := gx_bs hf
    obtain ⟨_, g9, hf⟩ := hf
    replace hf := gx_bxs hf
    rcases hf with ⟨u14, h11, g10, hf⟩ | ⟨E12, q13, h11, g10, hf⟩
    · refine gx_xcallU (st := []) C (w_X10_expect hlt g10) (hx_is_of g9) q1247 q1248 (gx_decl C q1249) ⟨by decide, by decide⟩ (gx_cis1 gz_129 (C.hts _ q1250) gx_cis0) q1251 q152 q1252 gz_230 (by decide) rfl rfl (gx_catn (Nat.le_of_ble_eq_true rfl)) dX11_effect_49 (gx_k2l ?_)
      refine gx_sub [1, 0] rfl ?_
      exact w_X11_effect_b52 hlt C hx hf
    · refine gx_xcallU (st := []) C (w_X10_expect hlt g10) (hx_is_of g9) q1247 q1248 (gx_decl C q1249) ⟨by decide, by decide⟩ (gx_cis1 gz_129 (C.hts _ q1250) gx_cis0) q1251 q152 q1252 gz_230 (by decide) rfl rfl (gx_catn (Nat.le_of_ble_eq_true rfl)) dX11_effect_49 (gx_k2r ?_)
      obtain ⟨rfl, rfl⟩ := Prod.mk.inj (Option.some.inj hf)
      exact gx_out C hx
  · refine gx_acmp_ne_t (tgt := 52) C dX11_effect_38 rfl c5 ?_
    refine gx_sub [1, 0] rfl ?_
    exact w_X11_effect_b52 hlt C hx hf
theorem le_X11_effect_b33 {D : gx_D} {r : Option Nat ⊕ (String × Nat)} {hz : HX} {h : HX} {v0 : Nat} {s0 : Option Nat} (hf : f_X11_effect_b33 D h v0 s0 = some (r, hz)) : gx_le h hz := by
  unfold f_X11_effect_b33 at hf
  replace hf := gx_ite hf
  rcases hf with ⟨c5, hf⟩ | ⟨c5, hf⟩
  · replace hf := gx_bs hf
    obtain ⟨_, g6, hf⟩ := hf
    replace hf := gx_bs hf
    obtain ⟨b8, g7, hf⟩ := hf
    replace hf := gx_bs hf
    obtain ⟨_, g9, hf⟩ := hf
    replace hf := gx_bxs hf
    rcases hf with ⟨u14, h11, g10, hf⟩ | ⟨E12, q13, h11, g10, hf⟩
    · refine (le_X10_expect g10).tr ?_
      exact le_X11_effect_b52 hf
    · refine (le_X10_expect g10).tr ?_
      obtain ⟨rfl, rfl⟩ := Prod.mk.inj (Option.some.inj hf)
      exact gx_le.rf
  · exact le_X11_effect_b52 hf
def f_X11_effect (D : gx_D) (h : HX) (a0 : Nat) : Option ((Option Nat ⊕ (String × Nat)) × HX) :=
  (hx_is h a0 [16]).bind fun _ =>
  (hx_is h a0 [16]).bind fun _ =>
  (f_X10_isWord D h a0 (some (D.2.2.1 18))).bind fun b3 =>
  if b3 = true then
  f_X11_effect_b33 D h a0 (some (D.2.2.1 110))
  else
  (hx_is h a0 [16]).bind fun _ =>
  (f_X10_isWord D h a0 (some (D.2.2.1 19))).bind fun b20 =>
  if b20 = true then
  f_X11_effect_b33 D h a0 (some (D.2.2.1 111))
  else
  f_X11_effect_b33 D h a0 (some (D.2.2.1 112))
theorem is_X11_effect {D : gx_D} {h : HX} {a0 : Nat} {z} (hf : f_X11_effect D h a0 = some z) : gx_isC h a0 [16] := by
  unfold f_X11_effect at hf
  obtain ⟨_, g, -⟩ := gx_bs hf
  exact hx_is_of g
theorem w_X11_effect_b {l : Launch} (hlt : l.stackTraces = false) {p : Program} {e : Env} {R : Room} {s : State} {m : MethodId} {args : Array Value} {below : List Frame} {meth : Method} {c : Code} {D : gx_D} {h0 : HX} {r : Option Nat ⊕ (String × Nat)} {hz : HX} (C : gx_Ctx p R s m args meth c "ContractMachine$SetupParser" cX11_effect 2 (some (.object "ContractMachine$Effect")) 9 220 D h0 hz) (hx : ∀ x ∈ c.exceptionTable.toList, False) {a0 : Nat} (hf : f_X11_effect D h0 a0 = some (r, hz)) : gx_G p l e R s m args below meth c D h0 hz 2 (gx_MQX below args s D h0 hz (gx_xa r)) 0 [(0, (va_rf (some a0)))] [] h0 := by
  unfold f_X11_effect at hf
  replace hf := gx_bs hf
  obtain ⟨_, -, hf⟩ := hf
  refine gx_aload_n C dX11_effect_0 0 rfl ?_
  refine gx_ldcS C 18 rfl dX11_effect_1 ?_
  replace hf := gx_bs hf
  obtain ⟨_, g1, hf⟩ := hf
  replace hf := gx_bs hf
  obtain ⟨b3, g2, hf⟩ := hf
  refine gx_callU (st := []) C (w_X10_isWord hlt g2) (hx_is_of g1) q1370 q1371 (gx_decl C q1372) ⟨by decide, by decide⟩ (gx_cis1 gz_129 (C.hts _ q1373) gx_cis0) q1359 q152 q1363 gz_239 (by decide) rfl rfl (gx_catn (Nat.le_of_ble_eq_true rfl)) dX11_effect_3 ?_
  replace hf := gx_ite hf
  rcases hf with ⟨c4, hf⟩ | ⟨c4, hf⟩
  · refine gx_ifz_eq_f (tgt := 15) C dX11_effect_6 rfl c4 ?_
    refine gx_statk C 6 rfl q1397 dX11_effect_9 ?_
    refine gx_goto (tgt := 33) C dX11_effect_12 rfl ?_
    refine gx_sub [0] rfl ?_
    exact w_X11_effect_b33 hlt C hx hf
  · refine gx_ifz_eq_t (tgt := 15) C dX11_effect_6 rfl c4 ?_
    refine gx_aload_n C dX11_effect_15 0 rfl ?_
    refine gx_ldcS C 19 rfl dX11_effect_16 ?_
    replace hf := gx_bs hf
    obtain ⟨_, g18, hf⟩ := hf
    replace hf := gx_bs hf
    obtain ⟨b20, g19, hf⟩ := hf
    refine gx_callU (st := []) C (w_X10_isWord hlt g19) (hx_is_of g18) q1370 q1371 (gx_decl C q1372) ⟨by decide, by decide⟩ (gx_cis1 gz_129 (C.hts _ q1373) gx_cis0) q1359 q152 q1363 gz_239 (by decide) rfl rfl (gx_catn (Nat.le_of_ble_eq_true rfl)) dX11_effect_18 ?_
    replace hf := gx_ite hf
    rcases hf with ⟨c21, hf⟩ | ⟨c21, hf⟩
    · refine gx_ifz_eq_f (tgt := 30) C dX11_effect_21 rfl c21 ?_
      refine gx_statk C 7 rfl q1399 dX11_effect_24 ?_
      refine gx_goto (tgt := 33) C dX11_effect_27 rfl ?_
      refine gx_sub [0] rfl ?_
      exact w_X11_effect_b33 hlt C hx hf
    · refine gx_ifz_eq_t (tgt := 30) C dX11_effect_21 rfl c21 ?_
      refine gx_statk C 8 rfl q1400 dX11_effect_30 ?_
      refine gx_sub [0] rfl ?_
      exact w_X11_effect_b33 hlt C hx hf
theorem le_X11_effect {D : gx_D} {r : Option Nat ⊕ (String × Nat)} {hz : HX} {h : HX} {a0 : Nat} (hf : f_X11_effect D h a0 = some (r, hz)) : gx_le h hz := by
  unfold f_X11_effect at hf
  replace hf := gx_bs hf
  obtain ⟨_, -, hf⟩ := hf
  replace hf := gx_bs hf
  obtain ⟨_, g1, hf⟩ := hf
  replace hf := gx_bs hf
  obtain ⟨b3, g2, hf⟩ := hf
  replace hf := gx_ite hf
  rcases hf with ⟨c4, hf⟩ | ⟨c4, hf⟩
  · exact le_X11_effect_b33 hf
  · replace hf := gx_bs hf
    obtain ⟨_, g18, hf⟩ := hf
    replace hf := gx_bs hf
    obtain ⟨b20, g19, hf⟩ := hf
    replace hf := gx_ite hf
    rcases hf with ⟨c21, hf⟩ | ⟨c21, hf⟩
    · exact le_X11_effect_b33 hf
    · exact le_X11_effect_b33 hf
theorem w_X11_effect {l : Launch} (hlt : l.stackTraces = false) {D : gx_D} {h : HX} {a0 : Nat} {r : Option Nat ⊕ (String × Nat)} {hz : HX} (hf : f_X11_effect D h a0 = some (r, hz)) : gx_MetX l yX11_effect (ws_ yX11_effect cX11_effect 2 (some (.object "ContractMachine$Effect"))) 9 220 D [(va_rf (some a0))] h (gx_xa r) hz :=
  gx_ofGX gz_192 (by simp only [gx_lsr, gx_lsi, gx_lsj, gx_ls0]; decide) (le_X11_effect hf) (fun p e R s m args below meth c C hn hx => by
    simp only [gx_lar, gx_lai, gx_laj, gx_la0, Nat.reduceAdd]
    exact w_X11_effect_b hlt C hx hf)
def f_X11_action (D : gx_D) (h : HX) (a0 : Nat) : Option ((Option Nat ⊕ (String × Nat)) × HX) :=
  (hx_is h a0 [16]).bind fun _ =>
  (hx_is h a0 [16]).bind fun _ =>
  (f_X10_isWord D h a0 (some (D.2.2.1 17))).bind fun b3 =>
  if b3 = true then
  (hx_is h a0 [16]).bind fun _ =>
  (f_X10_advance D h a0).bind fun h7 =>
  (hx_gr h7 a0 [16] 6).bind fun r8 =>
  r8.bind fun a9 =>
  (hx_gr h7 a9 [10] 2).bind fun r10 =>
  (hx_is h7 a0 [16]).bind fun _ =>
  gx_bx (f_X10_known D h7 a0 r10) (fun x13 h14 =>
  gx_bx (f_X11_effect D h14 a0) (fun r18 h19 =>
  gx_b2 (hx_new h19 3 12 gx_df12) fun a22 h23 =>
  (hx_is h23 a0 [16]).bind fun _ =>
  gx_bx (f_X10_digit D h23 a0) (fun x26 h27 =>
  (f_X5_init D h27 a22 x13 r18 x26).bind fun h31 =>
  some (.inl (some a22), (hx_fz1 h31 a22))) fun E28 q29 h27 =>
  some (.inr (E28, q29), h27)) fun E20 q21 h19 =>
  some (.inr (E20, q21), h19)) fun E15 q16 h14 =>
  some (.inr (E15, q16), h14)
  else
  some (.inl none, h)
theorem is_X11_action {D : gx_D} {h : HX} {a0 : Nat} {z} (hf : f_X11_action D h a0 = some z) : gx_isC h a0 [16] := by
  unfold f_X11_action at hf
  obtain ⟨_, g, -⟩ := gx_bs hf
  exact hx_is_of g
theorem w_X11_action_b {l : Launch} (hlt : l.stackTraces = false) {p : Program} {e : Env} {R : Room} {s : State} {m : MethodId} {args : Array Value} {below : List Frame} {meth : Method} {c : Code} {D : gx_D} {h0 : HX} {r : Option Nat ⊕ (String × Nat)} {hz : HX} (C : gx_Ctx p R s m args meth c "ContractMachine$SetupParser" cX11_action 3 (some (.object "ContractMachine$Action")) 11 263 D h0 hz) (hx : ∀ x ∈ c.exceptionTable.toList, False) {a0 : Nat} (hf : f_X11_action D h0 a0 = some (r, hz)) : gx_G p l e R s m args below meth c D h0 hz 3 (gx_MQX below args s D h0 hz (gx_xa r)) 0 [(0, (va_rf (some a0)))] [] h0 := by
  unfold f_X11_action at hf
  replace hf := gx_bs hf
  obtain ⟨_, -, hf⟩ := hf
  refine gx_aload_n C dX11_action_0 0 rfl ?_
  refine gx_ldcS C 17 rfl dX11_action_1 ?_
  replace hf := gx_bs hf
  obtain ⟨_, g1, hf⟩ := hf
  replace hf := gx_bs hf
  obtain ⟨b3, g2, hf⟩ := hf
  refine gx_callU (st := []) C (w_X10_isWord hlt g2) (hx_is_of g1) q1370 q1371 (gx_decl C q1372) ⟨by decide, by decide⟩ (gx_cis1 gz_129 (C.hts _ q1373) gx_cis0) q1359 q152 q1363 gz_239 (by decide) rfl rfl (gx_catn (Nat.le_of_ble_eq_true rfl)) dX11_action_3 ?_
  replace hf := gx_ite hf
  rcases hf with ⟨c4, hf⟩ | ⟨c4, hf⟩
  · refine gx_ifz_ne_t (tgt := 11) C dX11_action_6 rfl c4 ?_
    refine gx_aload_n C dX11_action_11 0 rfl ?_
    replace hf := gx_bs hf
    obtain ⟨_, g5, hf⟩ := hf
    replace hf := gx_bs hf
    obtain ⟨h7, g6, hf⟩ := hf
    refine gx_callU (st := []) C (w_X10_advance hlt g6) (hx_is_of g5) q1281 q1282 (gx_decl C q1283) ⟨by decide, by decide⟩ (gx_cis1 gz_129 (C.hts _ q1284) gx_cis0) q976 q152 q980 gz_231 (by decide) rfl rfl (gx_catn (Nat.le_of_ble_eq_true rfl)) dX11_action_12 ?_
    refine gx_aload_n C dX11_action_15 0 rfl ?_
    refine gx_aload_n C dX11_action_16 0 rfl ?_
    replace hf := gx_bs hf
    obtain ⟨r8, g34, hf⟩ := hf
    refine gx_gr C g34 gz_189 q1121 dX11_action_17 ?_
    replace hf := gx_bs hf
    obtain ⟨a9, rfl, hf⟩ := hf
    replace hf := gx_bs hf
    obtain ⟨r10, g33, hf⟩ := hf
    refine gx_grN C g33 gz_46 q567 dX11_action_20 ?_
    replace hf := gx_bs hf
    obtain ⟨_, g11, hf⟩ := hf
    replace hf := gx_bxs hf
    rcases hf with ⟨x13, h14, g12, hf⟩ | ⟨E15, q16, h14, g12, hf⟩
    · refine gx_xcallU (st := []) C (w_X10_known hlt g12) (hx_is_of g11) q1345 q1346 (gx_decl C q1347) ⟨by decide, by decide⟩ (gx_cis1 gz_129 (C.hts _ q1348) gx_cis0) q1349 q152 q1350 gz_235 (by decide) rfl rfl (gx_catn (Nat.le_of_ble_eq_true rfl)) dX11_action_23 (gx_k2l ?_)
      refine gx_istn C dX11_action_26 1 rfl (by decide) [0]  rfl (gx_okr rfl gx_catv_r gx_ok0) ?_
      refine gx_aload_n C dX11_action_27 1 rfl ?_
      replace hf := gx_bxs hf
      rcases hf with ⟨r18, h19, g17, hf⟩ | ⟨E20, q21, h19, g17, hf⟩
      · refine gx_xcallV (st := []) C (w_X11_effect hlt g17) (is_X11_effect g17) gz_129 rfl (lw_V q1392 q1394 qs19 q153 q1395) gz_240 (by decide) rfl rfl (gx_catn (Nat.le_of_ble_eq_true rfl)) dX11_action_28 (gx_k2l ?_)
        refine gx_astn C dX11_action_31 2 rfl (by decide) [0, 1]  rfl (gx_okr rfl gx_catv_i (gx_okn rfl rfl gx_ok0)) ?_
        replace hf := gx_b2s hf
        obtain ⟨a22, h23, g32, hf⟩ := hf
        refine gx_newN C g32 gz_110 tyX5_ok gx_df12_ok q1402 q782 q146 dX11_action_32 rfl ?_
        refine gx_dup C dX11_action_35 rfl ?_
        refine gx_iload_n C dX11_action_36 1 rfl ?_
        refine gx_aload_n C dX11_action_37 0 rfl ?_
        refine gx_aload_n C dX11_action_38 2 rfl ?_
        replace hf := gx_bs hf
        obtain ⟨_, g24, hf⟩ := hf
        replace hf := gx_bxs hf
        rcases hf with ⟨x26, h27, g25, hf⟩ | ⟨E28, q29, h27, g25, hf⟩
        · refine gx_xcallU (st := [(va_rf r18), (.int x13), (va_rf (some a22)), (va_rf (some a22))]) C (w_X10_digit hlt g25) (hx_is_of g24) q1328 q1329 (gx_decl C q1330) ⟨by decide, by decide⟩ (gx_cis1 gz_129 (C.hts _ q1331) gx_cis0) q1332 q152 q1333 gz_237 (by decide) rfl rfl (gx_catn (Nat.le_of_ble_eq_true rfl)) dX11_action_39 (gx_k2l ?_)
          replace hf := gx_bs hf
          obtain ⟨h31, g30, hf⟩ := hf
          refine gx_callI (st := [(va_rf (some a22))]) C (w_X5_init hlt g30) q1403 q786 q146 q787 rfl gz_109 (by decide) rfl rfl (gx_catn (Nat.le_of_ble_eq_true rfl)) dX11_action_42 ?_
          refine gx_frz1 (a := a22) ?_
          obtain ⟨rfl, rfl⟩ := Prod.mk.inj (Option.some.inj hf)
          exact gx_ret (gx_aret C rfl rfl dX11_action_45)
        · refine gx_xcallU (st := [(va_rf r18), (.int x13), (va_rf (some a22)), (va_rf (some a22))]) C (w_X10_digit hlt g25) (hx_is_of g24) q1328 q1329 (gx_decl C q1330) ⟨by decide, by decide⟩ (gx_cis1 gz_129 (C.hts _ q1331) gx_cis0) q1332 q152 q1333 gz_237 (by decide) rfl rfl (gx_catn (Nat.le_of_ble_eq_true rfl)) dX11_action_39 (gx_k2r ?_)
          obtain ⟨rfl, rfl⟩ := Prod.mk.inj (Option.some.inj hf)
          exact gx_out C hx
      · refine gx_xcallV (st := []) C (w_X11_effect hlt g17) (is_X11_effect g17) gz_129 rfl (lw_V q1392 q1394 qs19 q153 q1395) gz_240 (by decide) rfl rfl (gx_catn (Nat.le_of_ble_eq_true rfl)) dX11_action_28 (gx_k2r ?_)
        obtain ⟨rfl, rfl⟩ := Prod.mk.inj (Option.some.inj hf)
        exact gx_out C hx
    · refine gx_xcallU (st := []) C (w_X10_known hlt g12) (hx_is_of g11) q1345 q1346 (gx_decl C q1347) ⟨by decide, by decide⟩ (gx_cis1 gz_129 (C.hts _ q1348) gx_cis0) q1349 q152 q1350 gz_235 (by decide) rfl rfl (gx_catn (Nat.le_of_ble_eq_true rfl)) dX11_action_23 (gx_k2r ?_)
      obtain ⟨rfl, rfl⟩ := Prod.mk.inj (Option.some.inj hf)
      exact gx_out C hx
  · refine gx_ifz_ne_f (tgt := 11) C dX11_action_6 rfl c4 ?_
    refine gx_null C dX11_action_9 ?_
    obtain ⟨rfl, rfl⟩ := Prod.mk.inj (Option.some.inj hf)
    exact gx_ret (gx_aret C rfl rfl dX11_action_10)
theorem le_X11_action {D : gx_D} {r : Option Nat ⊕ (String × Nat)} {hz : HX} {h : HX} {a0 : Nat} (hf : f_X11_action D h a0 = some (r, hz)) : gx_le h hz := by
  unfold f_X11_action at hf
  replace hf := gx_bs hf
  obtain ⟨_, -, hf⟩ := hf
  replace hf := gx_bs hf
  obtain ⟨_, g1, hf⟩ := hf
  replace hf := gx_bs hf
  obtain ⟨b3, g2, hf⟩ := hf
  replace hf := gx_ite hf
  rcases hf with ⟨c4, hf⟩ | ⟨c4, hf⟩
  · replace hf := gx_bs hf
    obtain ⟨_, g5, hf⟩ := hf
    replace hf := gx_bs hf
    obtain ⟨h7, g6, hf⟩ := hf
    refine (le_X10_advance g6).tr ?_
    replace hf := gx_bs hf
    obtain ⟨r8, g34, hf⟩ := hf
    replace hf := gx_bs hf
    obtain ⟨a9, rfl, hf⟩ := hf
    replace hf := gx_bs hf
    obtain ⟨r10, g33, hf⟩ := hf
    replace hf := gx_bs hf
    obtain ⟨_, g11, hf⟩ := hf
    replace hf := gx_bxs hf
    rcases hf with ⟨x13, h14, g12, hf⟩ | ⟨E15, q16, h14, g12, hf⟩
    · refine (le_X10_known g12).tr ?_
      replace hf := gx_bxs hf
      rcases hf with ⟨r18, h19, g17, hf⟩ | ⟨E20, q21, h19, g17, hf⟩
      · refine (le_X11_effect g17).tr ?_
        replace hf := gx_b2s hf
        obtain ⟨a22, h23, g32, hf⟩ := hf
        refine (hx_le_new g32).tr ?_
        replace hf := gx_bs hf
        obtain ⟨_, g24, hf⟩ := hf
        replace hf := gx_bxs hf
        rcases hf with ⟨x26, h27, g25, hf⟩ | ⟨E28, q29, h27, g25, hf⟩
        · refine (le_X10_digit g25).tr ?_
          replace hf := gx_bs hf
          obtain ⟨h31, g30, hf⟩ := hf
          refine (le_X5_init g30).tr ?_
          refine (gx_le.frz1 (a := a22)).tr ?_
          obtain ⟨rfl, rfl⟩ := Prod.mk.inj (Option.some.inj hf)
          exact gx_le.rf
        · refine (le_X10_digit g25).tr ?_
          obtain ⟨rfl, rfl⟩ := Prod.mk.inj (Option.some.inj hf)
          exact gx_le.rf
      · refine (le_X11_effect g17).tr ?_
        obtain ⟨rfl, rfl⟩ := Prod.mk.inj (Option.some.inj hf)
        exact gx_le.rf
    · refine (le_X10_known g12).tr ?_
      obtain ⟨rfl, rfl⟩ := Prod.mk.inj (Option.some.inj hf)
      exact gx_le.rf
  · obtain ⟨rfl, rfl⟩ := Prod.mk.inj (Option.some.inj hf)
    exact gx_le.rf
theorem w_X11_action {l : Launch} (hlt : l.stackTraces = false) {D : gx_D} {h : HX} {a0 : Nat} {r : Option Nat ⊕ (String × Nat)} {hz : HX} (hf : f_X11_action D h a0 = some (r, hz)) : gx_MetX l yX11_action (ws_ yX11_action cX11_action 3 (some (.object "ContractMachine$Action"))) 11 263 D [(va_rf (some a0))] h (gx_xa r) hz :=
  gx_ofGX gz_192 (by simp only [gx_lsr, gx_lsi, gx_lsj, gx_ls0]; decide) (le_X11_action hf) (fun p e R s m args below meth c C hn hx => by
    simp only [gx_lar, gx_lai, gx_laj, gx_la0, Nat.reduceAdd]
    exact w_X11_action_b hlt C hx hf)
def f_X11_guard (D : gx_D) (h : HX) (a0 : Nat) : Option ((Option Nat ⊕ (String × Nat)) × HX) :=
  (hx_is h a0 [16]).bind fun _ =>
  (hx_is h a0 [16]).bind fun _ =>
  (f_X10_isWord D h a0 (some (D.2.2.1 16))).bind fun b3 =>
  if b3 = true then
  (hx_is h a0 [16]).bind fun _ =>
  (f_X10_advance D h a0).bind fun h7 =>
  gx_bx (f_X11_comparison D h7 a0) (fun r9 h10 =>
  some (.inl r9, h10)) fun E11 q12 h10 =>
  some (.inr (E11, q12), h10)
  else
  some (.inl none, h)
theorem is_X11_guard {D : gx_D} {h : HX} {a0 : Nat} {z} (hf : f_X11_guard D h a0 = some z) : gx_isC h a0 [16] := by
  unfold f_X11_guard at hf
  obtain ⟨_, g, -⟩ := gx_bs hf
  exact hx_is_of g
theorem w_X11_guard_b {l : Launch} (hlt : l.stackTraces = false) {p : Program} {e : Env} {R : Room} {s : State} {m : MethodId} {args : Array Value} {below : List Frame} {meth : Method} {c : Code} {D : gx_D} {h0 : HX} {r : Option Nat ⊕ (String × Nat)} {hz : HX} (C : gx_Ctx p R s m args meth c "ContractMachine$SetupParser" cX11_guard 1 (some (.object "ContractMachine$Comparison")) 12 285 D h0 hz) (hx : ∀ x ∈ c.exceptionTable.toList, False) {a0 : Nat} (hf : f_X11_guard D h0 a0 = some (r, hz)) : gx_G p l e R s m args below meth c D h0 hz 1 (gx_MQX below args s D h0 hz (gx_xa r)) 0 [(0, (va_rf (some a0)))] [] h0 := by
  unfold f_X11_guard at hf
  replace hf := gx_bs hf
  obtain ⟨_, -, hf⟩ := hf
  refine gx_aload_n C dX11_guard_0 0 rfl ?_
  refine gx_ldcS C 16 rfl dX11_guard_1 ?_
  replace hf := gx_bs hf
  obtain ⟨_, g1, hf⟩ := hf
  replace hf := gx_bs hf
  obtain ⟨b3, g2, hf⟩ := hf
  refine gx_callU (st := []) C (w_X10_isWord hlt g2) (hx_is_of g1) q1370 q1371 (gx_decl C q1372) ⟨by decide, by decide⟩ (gx_cis1 gz_129 (C.hts _ q1373) gx_cis0) q1359 q152 q1363 gz_239 (by decide) rfl rfl (gx_catn (Nat.le_of_ble_eq_true rfl)) dX11_guard_3 ?_
  replace hf := gx_ite hf
  rcases hf with ⟨c4, hf⟩ | ⟨c4, hf⟩
  · refine gx_ifz_ne_t (tgt := 11) C dX11_guard_6 rfl c4 ?_
    refine gx_aload_n C dX11_guard_11 0 rfl ?_
    replace hf := gx_bs hf
    obtain ⟨_, g5, hf⟩ := hf
    replace hf := gx_bs hf
    obtain ⟨h7, g6, hf⟩ := hf
    refine gx_callU (st := []) C (w_X10_advance hlt g6) (hx_is_of g5) q1281 q1282 (gx_decl C q1283) ⟨by decide, by decide⟩ (gx_cis1 gz_129 (C.hts _ q1284) gx_cis0) q976 q152 q980 gz_231 (by decide) rfl rfl (gx_catn (Nat.le_of_ble_eq_true rfl)) dX11_guard_12 ?_
    refine gx_aload_n C dX11_guard_15 0 rfl ?_
    replace hf := gx_bxs hf
    rcases hf with ⟨r9, h10, g8, hf⟩ | ⟨E11, q12, h10, g8, hf⟩
    · refine gx_xcallV (st := []) C (w_X11_comparison hlt g8) (is_X11_comparison g8) gz_129 rfl (lw_V q1374 q1376 qs17 q153 q1377) gz_238 (by decide) rfl rfl (gx_catn (Nat.le_of_ble_eq_true rfl)) dX11_guard_16 (gx_k2l ?_)
      obtain ⟨rfl, rfl⟩ := Prod.mk.inj (Option.some.inj hf)
      exact gx_ret (gx_aret C rfl rfl dX11_guard_19)
    · refine gx_xcallV (st := []) C (w_X11_comparison hlt g8) (is_X11_comparison g8) gz_129 rfl (lw_V q1374 q1376 qs17 q153 q1377) gz_238 (by decide) rfl rfl (gx_catn (Nat.le_of_ble_eq_true rfl)) dX11_guard_16 (gx_k2r ?_)
      obtain ⟨rfl, rfl⟩ := Prod.mk.inj (Option.some.inj hf)
      exact gx_out C hx
  · refine gx_ifz_ne_f (tgt := 11) C dX11_guard_6 rfl c4 ?_
    refine gx_null C dX11_guard_9 ?_
    obtain ⟨rfl, rfl⟩ := Prod.mk.inj (Option.some.inj hf)
    exact gx_ret (gx_aret C rfl rfl dX11_guard_10)
theorem le_X11_guard {D : gx_D} {r : Option Nat ⊕ (String × Nat)} {hz : HX} {h : HX} {a0 : Nat} (hf : f_X11_guard D h a0 = some (r, hz)) : gx_le h hz := by
  unfold f_X11_guard at hf
  replace hf := gx_bs hf
  obtain ⟨_, -, hf⟩ := hf
  replace hf := gx_bs hf
  obtain ⟨_, g1, hf⟩ := hf
  replace hf := gx_bs hf
  obtain ⟨b3, g2, hf⟩ := hf
  replace hf := gx_ite hf
  rcases hf with ⟨c4, hf⟩ | ⟨c4, hf⟩
  · replace hf := gx_bs hf
    obtain ⟨_, g5, hf⟩ := hf
    replace hf := gx_bs hf
    obtain ⟨h7, g6, hf⟩ := hf
    refine (le_X10_advance g6).tr ?_
    replace hf := gx_bxs hf
    rcases hf with ⟨r9, h10, g8, hf⟩ | ⟨E11, q12, h10, g8, hf⟩
    · refine (le_X11_comparison g8).tr ?_
      obtain ⟨rfl, rfl⟩ := Prod.mk.inj (Option.some.inj hf)
      exact gx_le.rf
    · refine (le_X11_comparison g8).tr ?_
      obtain ⟨rfl, rfl⟩ := Prod.mk.inj (Option.some.inj hf)
      exact gx_le.rf
  · obtain ⟨rfl, rfl⟩ := Prod.mk.inj (Option.some.inj hf)
    exact gx_le.rf
theorem w_X11_guard {l : Launch} (hlt : l.stackTraces = false) {D : gx_D} {h : HX} {a0 : Nat} {r : Option Nat ⊕ (String × Nat)} {hz : HX} (hf : f_X11_guard D h a0 = some (r, hz)) : gx_MetX l yX11_guard (ws_ yX11_guard cX11_guard 1 (some (.object "ContractMachine$Comparison"))) 12 285 D [(va_rf (some a0))] h (gx_xa r) hz :=
  gx_ofGX gz_192 (by simp only [gx_lsr, gx_lsi, gx_lsj, gx_ls0]; decide) (le_X11_guard hf) (fun p e R s m args below meth c C hn hx => by
    simp only [gx_lar, gx_lai, gx_laj, gx_la0, Nat.reduceAdd]
    exact w_X11_guard_b hlt C hx hf)
def f_X11_transition_b23 (D : gx_D) (h : HX) (v0 : Nat) (s0 : Bool) (s1 : Option Nat) : Option ((Unit ⊕ (String × Nat)) × HX) :=
  s1.bind fun a8 =>
  (hx_is h a8 [16]).bind fun _ =>
  gx_bx (f_X10_expect D h a8 s0 (5 : Int32)) (fun u14 h11 =>
  (hx_is h11 v0 [16]).bind fun _ =>
  (f_X10_advance D h11 v0).bind fun h17 =>
  (hx_gr h17 v0 [16] 6).bind fun r18 =>
  r18.bind fun a19 =>
  (hx_gr h17 a19 [10] 0).bind fun r20 =>
  (hx_is h17 v0 [16]).bind fun _ =>
  gx_bx (f_X10_known D h17 v0 r20) (fun x23 h24 =>
  (hx_gr h24 v0 [16] 6).bind fun r27 =>
  r27.bind fun a28 =>
  (hx_gr h24 a28 [10] 1).bind fun r29 =>
  (hx_is h24 v0 [16]).bind fun _ =>
  gx_bx (f_X10_known D h24 v0 r29) (fun x32 h33 =>
  gx_bx (f_X10_keyword D h33 v0 (some (D.2.2.1 15))) (fun u40 h37 =>
  (hx_gr h37 v0 [16] 6).bind fun r41 =>
  r41.bind fun a42 =>
  (hx_gr h37 a42 [10] 0).bind fun r43 =>
  (hx_is h37 v0 [16]).bind fun _ =>
  gx_bx (f_X10_known D h37 v0 r43) (fun x46 h47 =>
  gx_bx (f_X11_guard D h47 v0) (fun r51 h52 =>
  (hx_gr h52 v0 [16] 6).bind fun r55 =>
  r55.bind fun a56 =>
  (hx_gr h52 a56 [10] 3).bind fun r57 =>
  gx_b2 (hx_new h52 5 13 gx_df13) fun a58 h59 =>
  gx_bx (f_X11_action D h59 v0) (fun r61 h62 =>
  (f_X6_init D h62 a58 x23 x32 x46 r51 r61).bind fun h66 =>
  r57.bind fun a67 =>
  gx_b2 (f_J2_add D ((hx_fz1 h66 a58)) a67 (some a58)) fun b69 h70 =>
  some (.inl (), h70)) fun E63 q64 h62 =>
  some (.inr (E63, q64), h62)) fun E53 q54 h52 =>
  some (.inr (E53, q54), h52)) fun E48 q49 h47 =>
  some (.inr (E48, q49), h47)) fun E38 q39 h37 =>
  some (.inr (E38, q39), h37)) fun E34 q35 h33 =>
  some (.inr (E34, q35), h33)) fun E25 q26 h24 =>
  some (.inr (E25, q26), h24)) fun E12 q13 h11 =>
  some (.inr (E12, q13), h11)
theorem w_X11_transition_b23 {l : Launch} (hlt : l.stackTraces = false) {p : Program} {e : Env} {R : Room} {s : State} {m : MethodId} {args : Array Value} {below : List Frame} {meth : Method} {c : Code} {D : gx_D} {h0 : HX} {r : Unit ⊕ (String × Nat)} {hz : HX} (C : gx_Ctx p R s m args meth c "ContractMachine$SetupParser" cX11_transition 6 none 13 305 D h0 hz) (hx : ∀ x ∈ c.exceptionTable.toList, False)  {h : HX} {v0 : Nat} {s0 : Bool} {s1 : Option Nat} (hf : f_X11_transition_b23 D h v0 s0 s1 = some (r, hz)) : gx_G p l e R s m args below meth c D h0 hz 6 (gx_MQX below args s D h0 hz (gx_xv r)) 23 [(0, (va_rf (some v0)))] [(.int (b2i s0)), (va_rf s1)] h := by
  unfold f_X11_transition_b23 at hf
  refine gx_iconst (v := 5) C dX11_transition_23 rfl ?_
  replace hf := gx_bs hf
  obtain ⟨a8, rfl, hf⟩ := hf
  replace hf := gx_bs hf
  obtain ⟨_, g9, hf⟩ := hf
  replace hf := gx_bxs hf
  rcases hf with ⟨u14, h11, g10, hf⟩ | ⟨E12, q13, h11, g10, hf⟩
  · refine gx_xcallU (st := []) C (w_X10_expect hlt g10) (hx_is_of g9) q1247 q1248 (gx_decl C q1249) ⟨by decide, by decide⟩ (gx_cis1 gz_129 (C.hts _ q1250) gx_cis0) q1251 q152 q1252 gz_230 (by decide) rfl rfl (gx_catn (Nat.le_of_ble_eq_true rfl)) dX11_transition_24 (gx_k2l ?_)
    refine gx_aload_n C dX11_transition_27 0 rfl ?_
    replace hf := gx_bs hf
    obtain ⟨_, g15, hf⟩ := hf
    replace hf := gx_bs hf
    obtain ⟨h17, g16, hf⟩ := hf
    refine gx_callU (st := []) C (w_X10_advance hlt g16) (hx_is_of g15) q1281 q1282 (gx_decl C q1283) ⟨by decide, by decide⟩ (gx_cis1 gz_129 (C.hts _ q1284) gx_cis0) q976 q152 q980 gz_231 (by decide) rfl rfl (gx_catn (Nat.le_of_ble_eq_true rfl)) dX11_transition_28 ?_
    refine gx_aload_n C dX11_transition_31 0 rfl ?_
    refine gx_aload_n C dX11_transition_32 0 rfl ?_
    replace hf := gx_bs hf
    obtain ⟨r18, g79, hf⟩ := hf
    refine gx_gr C g79 gz_189 q1121 dX11_transition_33 ?_
    replace hf := gx_bs hf
    obtain ⟨a19, rfl, hf⟩ := hf
    replace hf := gx_bs hf
    obtain ⟨r20, g78, hf⟩ := hf
    refine gx_grN C g78 gz_28 q559 dX11_transition_36 ?_
    replace hf := gx_bs hf
    obtain ⟨_, g21, hf⟩ := hf
    replace hf := gx_bxs hf
    rcases hf with ⟨x23, h24, g22, hf⟩ | ⟨E25, q26, h24, g22, hf⟩
    · refine gx_xcallU (st := []) C (w_X10_known hlt g22) (hx_is_of g21) q1345 q1346 (gx_decl C q1347) ⟨by decide, by decide⟩ (gx_cis1 gz_129 (C.hts _ q1348) gx_cis0) q1349 q152 q1350 gz_235 (by decide) rfl rfl (gx_catn (Nat.le_of_ble_eq_true rfl)) dX11_transition_39 (gx_k2l ?_)
      refine gx_istn C dX11_transition_42 1 rfl (by decide) [0]  rfl (gx_okr rfl gx_catv_r gx_ok0) ?_
      refine gx_aload_n C dX11_transition_43 1 rfl ?_
      refine gx_aload_n C dX11_transition_44 1 rfl ?_
      replace hf := gx_bs hf
      obtain ⟨r27, g77, hf⟩ := hf
      refine gx_gr C g77 gz_189 q1121 dX11_transition_45 ?_
      replace hf := gx_bs hf
      obtain ⟨a28, rfl, hf⟩ := hf
      replace hf := gx_bs hf
      obtain ⟨r29, g76, hf⟩ := hf
      refine gx_grN C g76 gz_27 q564 dX11_transition_48 ?_
      replace hf := gx_bs hf
      obtain ⟨_, g30, hf⟩ := hf
      replace hf := gx_bxs hf
      rcases hf with ⟨x32, h33, g31, hf⟩ | ⟨E34, q35, h33, g31, hf⟩
      · refine gx_xcallU (st := []) C (w_X10_known hlt g31) (hx_is_of g30) q1345 q1346 (gx_decl C q1347) ⟨by decide, by decide⟩ (gx_cis1 gz_129 (C.hts _ q1348) gx_cis0) q1349 q152 q1350 gz_235 (by decide) rfl rfl (gx_catn (Nat.le_of_ble_eq_true rfl)) dX11_transition_51 (gx_k2l ?_)
        refine gx_istn C dX11_transition_54 2 rfl (by decide) [0, 1]  rfl (gx_okr rfl gx_catv_i (gx_okn rfl rfl gx_ok0)) ?_
        refine gx_aload_n C dX11_transition_55 2 rfl ?_
        refine gx_ldcS C 15 rfl dX11_transition_56 ?_
        replace hf := gx_bxs hf
        rcases hf with ⟨u40, h37, g36, hf⟩ | ⟨E38, q39, h37, g36, hf⟩
        · refine gx_xcallU (st := []) C (w_X10_keyword hlt g36) (is_X10_keyword g36) q1352 q1353 (gx_decl C q1354) ⟨by decide, by decide⟩ (gx_cis1 gz_129 (C.hts _ q1355) gx_cis0) q1356 q152 q1357 gz_241 (by decide) rfl rfl (gx_catn (Nat.le_of_ble_eq_true rfl)) dX11_transition_58 (gx_k2l ?_)
          refine gx_aload_n C dX11_transition_61 2 rfl ?_
          refine gx_aload_n C dX11_transition_62 2 rfl ?_
          replace hf := gx_bs hf
          obtain ⟨r41, g75, hf⟩ := hf
          refine gx_gr C g75 gz_189 q1121 dX11_transition_63 ?_
          replace hf := gx_bs hf
          obtain ⟨a42, rfl, hf⟩ := hf
          replace hf := gx_bs hf
          obtain ⟨r43, g74, hf⟩ := hf
          refine gx_grN C g74 gz_28 q559 dX11_transition_66 ?_
          replace hf := gx_bs hf
          obtain ⟨_, g44, hf⟩ := hf
          replace hf := gx_bxs hf
          rcases hf with ⟨x46, h47, g45, hf⟩ | ⟨E48, q49, h47, g45, hf⟩
          · refine gx_xcallU (st := []) C (w_X10_known hlt g45) (hx_is_of g44) q1345 q1346 (gx_decl C q1347) ⟨by decide, by decide⟩ (gx_cis1 gz_129 (C.hts _ q1348) gx_cis0) q1349 q152 q1350 gz_235 (by decide) rfl rfl (gx_catn (Nat.le_of_ble_eq_true rfl)) dX11_transition_69 (gx_k2l ?_)
            refine gx_istn C dX11_transition_72 3 rfl (by decide) [0, 1, 2]  rfl (gx_okr rfl gx_catv_i (gx_okn rfl rfl (gx_okn rfl rfl gx_ok0))) ?_
            refine gx_aload_n C dX11_transition_73 3 rfl ?_
            replace hf := gx_bxs hf
            rcases hf with ⟨r51, h52, g50, hf⟩ | ⟨E53, q54, h52, g50, hf⟩
            · refine gx_xcallV (st := []) C (w_X11_guard hlt g50) (is_X11_guard g50) gz_129 rfl (lw_V q1365 q1367 qs16 q153 q1368) gz_242 (by decide) rfl rfl (gx_catn (Nat.le_of_ble_eq_true rfl)) dX11_transition_74 (gx_k2l ?_)
              refine gx_ast C dX11_transition_77 (by decide) [0, 1, 2, 3]  rfl (gx_okr rfl gx_catv_i (gx_okn rfl rfl (gx_okn rfl rfl (gx_okn rfl rfl gx_ok0)))) ?_
              refine gx_aload_n C dX11_transition_79 4 rfl ?_
              replace hf := gx_bs hf
              obtain ⟨r55, g73, hf⟩ := hf
              refine gx_gr C g73 gz_189 q1121 dX11_transition_80 ?_
              replace hf := gx_bs hf
              obtain ⟨a56, rfl, hf⟩ := hf
              replace hf := gx_bs hf
              obtain ⟨r57, g72, hf⟩ := hf
              refine gx_grN C g72 gz_21 q571 dX11_transition_83 ?_
              replace hf := gx_b2s hf
              obtain ⟨a58, h59, g71, hf⟩ := hf
              refine gx_newN C g71 gz_12 tyX6_ok gx_df13_ok q1386 q804 q148 dX11_transition_86 rfl ?_
              refine gx_dup C dX11_transition_89 rfl ?_
              refine gx_iload_n C dX11_transition_90 3 rfl ?_
              refine gx_iload_n C dX11_transition_91 2 rfl ?_
              refine gx_iload_n C dX11_transition_92 1 rfl ?_
              refine gx_aload C dX11_transition_93 0 rfl ?_
              refine gx_aload_n C dX11_transition_95 4 rfl ?_
              replace hf := gx_bxs hf
              rcases hf with ⟨r61, h62, g60, hf⟩ | ⟨E63, q64, h62, g60, hf⟩
              · refine gx_xcallV (st := [(va_rf r51), (.int x46), (.int x32), (.int x23), (va_rf (some a58)), (va_rf (some a58)), (va_rf r57)]) C (w_X11_action hlt g60) (is_X11_action g60) gz_129 rfl (lw_V q1387 q1389 qs18 q153 q1390) gz_243 (by decide) rfl rfl (by simp only [List.map_cons, List.map_nil, gx_rfcat, gx_cati, List.sum_cons, List.sum_nil]; decide) dX11_transition_96 (gx_k2l ?_)
                replace hf := gx_bs hf
                obtain ⟨h66, g65, hf⟩ := hf
                refine gx_callI (st := [(va_rf (some a58)), (va_rf r57)]) C (w_X6_init hlt g65) q1404 q806 q148 q807 rfl gz_25 (by decide) rfl rfl (gx_catn (Nat.le_of_ble_eq_true rfl)) dX11_transition_99 ?_
                refine gx_frz1 (a := a58) ?_
                replace hf := gx_bs hf
                obtain ⟨a67, rfl, hf⟩ := hf
                replace hf := gx_b2s hf
                obtain ⟨b69, h70, g68, hf⟩ := hf
                refine gx_callF (st := []) C (w_J2_add hlt g68) (is_J2_add g68) q1323 (gx_cis1 gz_19 ⟨gz_24, q674⟩ gx_cis0) q676 q127 q678 gz_23 (by decide) rfl rfl (gx_catn (Nat.le_of_ble_eq_true rfl)) dX11_transition_102 ?_
                refine gx_ist C dX11_transition_107 (by decide) []  rfl gx_ok0 ?_
                obtain ⟨rfl, rfl⟩ := Prod.mk.inj (Option.some.inj hf)
                exact gx_ret (gx_vret C dX11_transition_109)
              · refine gx_xcallV (st := [(va_rf r51), (.int x46), (.int x32), (.int x23), (va_rf (some a58)), (va_rf (some a58)), (va_rf r57)]) C (w_X11_action hlt g60) (is_X11_action g60) gz_129 rfl (lw_V q1387 q1389 qs18 q153 q1390) gz_243 (by decide) rfl rfl (by simp only [List.map_cons, List.map_nil, gx_rfcat, gx_cati, List.sum_cons, List.sum_nil]; decide) dX11_transition_96 (gx_k2r ?_)
                obtain ⟨rfl, rfl⟩ := Prod.mk.inj (Option.some.inj hf)
                exact gx_out C hx
            · refine gx_xcallV (st := []) C (w_X11_guard hlt g50) (is_X11_guard g50) gz_129 rfl (lw_V q1365 q1367 qs16 q153 q1368) gz_242 (by decide) rfl rfl (gx_catn (Nat.le_of_ble_eq_true rfl)) dX11_transition_74 (gx_k2r ?_)
              obtain ⟨rfl, rfl⟩ := Prod.mk.inj (Option.some.inj hf)
              exact gx_out C hx
          · refine gx_xcallU (st := []) C (w_X10_known hlt g45) (hx_is_of g44) q1345 q1346 (gx_decl C q1347) ⟨by decide, by decide⟩ (gx_cis1 gz_129 (C.hts _ q1348) gx_cis0) q1349 q152 q1350 gz_235 (by decide) rfl rfl (gx_catn (Nat.le_of_ble_eq_true rfl)) dX11_transition_69 (gx_k2r ?_)
            obtain ⟨rfl, rfl⟩ := Prod.mk.inj (Option.some.inj hf)
            exact gx_out C hx
        · refine gx_xcallU (st := []) C (w_X10_keyword hlt g36) (is_X10_keyword g36) q1352 q1353 (gx_decl C q1354) ⟨by decide, by decide⟩ (gx_cis1 gz_129 (C.hts _ q1355) gx_cis0) q1356 q152 q1357 gz_241 (by decide) rfl rfl (gx_catn (Nat.le_of_ble_eq_true rfl)) dX11_transition_58 (gx_k2r ?_)
          obtain ⟨rfl, rfl⟩ := Prod.mk.inj (Option.some.inj hf)
          exact gx_out C hx
      · refine gx_xcallU (st := []) C (w_X10_known hlt g31) (hx_is_of g30) q1345 q1346 (gx_decl C q1347) ⟨by decide, by decide⟩ (gx_cis1 gz_129 (C.hts _ q1348) gx_cis0) q1349 q152 q1350 gz_235 (by decide) rfl rfl (gx_catn (Nat.le_of_ble_eq_true rfl)) dX11_transition_51 (gx_k2r ?_)
        obtain ⟨rfl, rfl⟩ := Prod.mk.inj (Option.some.inj hf)
        exact gx_out C hx
    · refine gx_xcallU (st := []) C (w_X10_known hlt g22) (hx_is_of g21) q1345 q1346 (gx_decl C q1347) ⟨by decide, by decide⟩ (gx_cis1 gz_129 (C.hts _ q1348) gx_cis0) q1349 q152 q1350 gz_235 (by decide) rfl rfl (gx_catn (Nat.le_of_ble_eq_true rfl)) dX11_transition_39 (gx_k2r ?_)
      obtain ⟨rfl, rfl⟩ := Prod.mk.inj (Option.some.inj hf)
      exact gx_out C hx
  · refine gx_xcallU (st := []) C (w_X10_expect hlt g10) (hx_is_of g9) q1247 q1248 (gx_decl C q1249) ⟨by decide, by decide⟩ (gx_cis1 gz_129 (C.hts _ q1250) gx_cis0) q1251 q152 q1252 gz_230 (by decide) rfl rfl (gx_catn (Nat.le_of_ble_eq_true rfl)) dX11_transition_24 (gx_k2r ?_)
    obtain ⟨rfl, rfl⟩ := Prod.mk.inj (Option.some.inj hf)
    exact gx_out C hx
theorem le_X11_transition_b23 {D : gx_D} {r : Unit ⊕ (String × Nat)} {hz : HX} {h : HX} {v0 : Nat} {s0 : Bool} {s1 : Option Nat} (hf : f_X11_transition_b23 D h v0 s0 s1 = some (r, hz)) : gx_le h hz := by
  unfold f_X11_transition_b23 at hf
  replace hf := gx_bs hf
  obtain ⟨a8, rfl, hf⟩ := hf
  replace hf := gx_bs hf
  obtain ⟨_, g9, hf⟩ := hf
  replace hf := gx_bxs hf
  rcases hf with ⟨u14, h11, g10, hf⟩ | ⟨E12, q13, h11, g10, hf⟩
  · refine (le_X10_expect g10).tr ?_
    replace hf := gx_bs hf
    obtain ⟨_, g15, hf⟩ := hf
    replace hf := gx_bs hf
    obtain ⟨h17, g16, hf⟩ := hf
    refine (le_X10_advance g16).tr ?_
    replace hf := gx_bs hf
    obtain ⟨r18, g79, hf⟩ := hf
    replace hf := gx_bs hf
    obtain ⟨a19, rfl, hf⟩ := hf
    replace hf := gx_bs hf
    obtain ⟨r20, g78, hf⟩ := hf
    replace hf := gx_bs hf
    obtain ⟨_, g21, hf⟩ := hf
    replace hf := gx_bxs hf
    rcases hf with ⟨x23, h24, g22, hf⟩ | ⟨E25, q26, h24, g22, hf⟩
    · refine (le_X10_known g22).tr ?_
      replace hf := gx_bs hf
      obtain ⟨r27, g77, hf⟩ := hf
      replace hf := gx_bs hf
      obtain ⟨a28, rfl, hf⟩ := hf
      replace hf := gx_bs hf
      obtain ⟨r29, g76, hf⟩ := hf
      replace hf := gx_bs hf
      obtain ⟨_, g30, hf⟩ := hf
      replace hf := gx_bxs hf
      rcases hf with ⟨x32, h33, g31, hf⟩ | ⟨E34, q35, h33, g31, hf⟩
      · refine (le_X10_known g31).tr ?_
        replace hf := gx_bxs hf
        rcases hf with ⟨u40, h37, g36, hf⟩ | ⟨E38, q39, h37, g36, hf⟩
        · refine (le_X10_keyword g36).tr ?_
          replace hf := gx_bs hf
          obtain ⟨r41, g75, hf⟩ := hf
          replace hf := gx_bs hf
          obtain ⟨a42, rfl, hf⟩ := hf
          replace hf := gx_bs hf
          obtain ⟨r43, g74, hf⟩ := hf
          replace hf := gx_bs hf
          obtain ⟨_, g44, hf⟩ := hf
          replace hf := gx_bxs hf
          rcases hf with ⟨x46, h47, g45, hf⟩ | ⟨E48, q49, h47, g45, hf⟩
          · refine (le_X10_known g45).tr ?_
            replace hf := gx_bxs hf
            rcases hf with ⟨r51, h52, g50, hf⟩ | ⟨E53, q54, h52, g50, hf⟩
            · refine (le_X11_guard g50).tr ?_
              replace hf := gx_bs hf
              obtain ⟨r55, g73, hf⟩ := hf
              replace hf := gx_bs hf
              obtain ⟨a56, rfl, hf⟩ := hf
              replace hf := gx_bs hf
              obtain ⟨r57, g72, hf⟩ := hf
              replace hf := gx_b2s hf
              obtain ⟨a58, h59, g71, hf⟩ := hf
              refine (hx_le_new g71).tr ?_
              replace hf := gx_bxs hf
              rcases hf with ⟨r61, h62, g60, hf⟩ | ⟨E63, q64, h62, g60, hf⟩
              · refine (le_X11_action g60).tr ?_
                replace hf := gx_bs hf
                obtain ⟨h66, g65, hf⟩ := hf
                refine (le_X6_init g65).tr ?_
                refine (gx_le.frz1 (a := a58)).tr ?_
                replace hf := gx_bs hf
                obtain ⟨a67, rfl, hf⟩ := hf
                replace hf := gx_b2s hf
                obtain ⟨b69, h70, g68, hf⟩ := hf
                refine (le_J2_add g68).tr ?_
                obtain ⟨rfl, rfl⟩ := Prod.mk.inj (Option.some.inj hf)
                exact gx_le.rf
              · refine (le_X11_action g60).tr ?_
                obtain ⟨rfl, rfl⟩ := Prod.mk.inj (Option.some.inj hf)
                exact gx_le.rf
            · refine (le_X11_guard g50).tr ?_
              obtain ⟨rfl, rfl⟩ := Prod.mk.inj (Option.some.inj hf)
              exact gx_le.rf
          · refine (le_X10_known g45).tr ?_
            obtain ⟨rfl, rfl⟩ := Prod.mk.inj (Option.some.inj hf)
            exact gx_le.rf
        · refine (le_X10_keyword g36).tr ?_
          obtain ⟨rfl, rfl⟩ := Prod.mk.inj (Option.some.inj hf)
          exact gx_le.rf
      · refine (le_X10_known g31).tr ?_
        obtain ⟨rfl, rfl⟩ := Prod.mk.inj (Option.some.inj hf)
        exact gx_le.rf
    · refine (le_X10_known g22).tr ?_
      obtain ⟨rfl, rfl⟩ := Prod.mk.inj (Option.some.inj hf)
      exact gx_le.rf
  · refine (le_X10_expect g10).tr ?_
    obtain ⟨rfl, rfl⟩ := Prod.mk.inj (Option.some.inj hf)
    exact gx_le.rf
def f_X11_transition (D : gx_D) (h : HX) (a0 : Nat) : Option ((Unit ⊕ (String × Nat)) × HX) :=
  (hx_is h a0 [16]).bind fun _ =>
  (hx_gr h a0 [16] 6).bind fun r1 =>
  r1.bind fun a2 =>
  (hx_gr h a2 [10] 3).bind fun r3 =>
  r3.bind fun a4 =>
  (f_J2_size D h a4).bind fun x6 =>
  if (24 : Int32) ≤ x6 then
  f_X11_transition_b23 D h a0 false (some a0)
  else
  f_X11_transition_b23 D h a0 true (some a0)
theorem is_X11_transition {D : gx_D} {h : HX} {a0 : Nat} {z} (hf : f_X11_transition D h a0 = some z) : gx_isC h a0 [16] := by
  unfold f_X11_transition at hf
  obtain ⟨_, g, -⟩ := gx_bs hf
  exact hx_is_of g
theorem w_X11_transition_b {l : Launch} (hlt : l.stackTraces = false) {p : Program} {e : Env} {R : Room} {s : State} {m : MethodId} {args : Array Value} {below : List Frame} {meth : Method} {c : Code} {D : gx_D} {h0 : HX} {r : Unit ⊕ (String × Nat)} {hz : HX} (C : gx_Ctx p R s m args meth c "ContractMachine$SetupParser" cX11_transition 6 none 13 305 D h0 hz) (hx : ∀ x ∈ c.exceptionTable.toList, False) {a0 : Nat} (hf : f_X11_transition D h0 a0 = some (r, hz)) : gx_G p l e R s m args below meth c D h0 hz 6 (gx_MQX below args s D h0 hz (gx_xv r)) 0 [(0, (va_rf (some a0)))] [] h0 := by
  unfold f_X11_transition at hf
  replace hf := gx_bs hf
  obtain ⟨_, -, hf⟩ := hf
  refine gx_aload_n C dX11_transition_0 0 rfl ?_
  refine gx_aload_n C dX11_transition_1 0 rfl ?_
  replace hf := gx_bs hf
  obtain ⟨r1, g81, hf⟩ := hf
  refine gx_gr C g81 gz_189 q1121 dX11_transition_2 ?_
  replace hf := gx_bs hf
  obtain ⟨a2, rfl, hf⟩ := hf
  replace hf := gx_bs hf
  obtain ⟨r3, g80, hf⟩ := hf
  refine gx_grN C g80 gz_21 q571 dX11_transition_5 ?_
  replace hf := gx_bs hf
  obtain ⟨a4, rfl, hf⟩ := hf
  replace hf := gx_bs hf
  obtain ⟨x6, g5, hf⟩ := hf
  refine gx_callF (st := [(va_rf (some a0))]) C (w_J2_size hlt g5) (is_J2_size g5) q1246 (gx_cis1 gz_19 ⟨gz_51, q770⟩ gx_cis0) q772 q127 q774 gz_50 (by decide) rfl rfl (gx_catn (Nat.le_of_ble_eq_true rfl)) dX11_transition_8 ?_
  refine gx_bipush (v := 24) C dX11_transition_13 rfl ?_
  replace hf := gx_ite hf
  rcases hf with ⟨c7, hf⟩ | ⟨c7, hf⟩
  · refine gx_icmp_ge_t (tgt := 22) C dX11_transition_15 rfl c7 ?_
    refine gx_iconst (v := 0) C dX11_transition_22 rfl ?_
    refine gx_sub [0] rfl ?_
    exact w_X11_transition_b23 hlt C hx hf
  · refine gx_icmp_ge_f (tgt := 22) C dX11_transition_15 rfl c7 ?_
    refine gx_iconst (v := 1) C dX11_transition_18 rfl ?_
    refine gx_goto (tgt := 23) C dX11_transition_19 rfl ?_
    refine gx_sub [0] rfl ?_
    exact w_X11_transition_b23 hlt C hx hf
theorem le_X11_transition {D : gx_D} {r : Unit ⊕ (String × Nat)} {hz : HX} {h : HX} {a0 : Nat} (hf : f_X11_transition D h a0 = some (r, hz)) : gx_le h hz := by
  unfold f_X11_transition at hf
  replace hf := gx_bs hf
  obtain ⟨_, -, hf⟩ := hf
  replace hf := gx_bs hf
  obtain ⟨r1, g81, hf⟩ := hf
  replace hf := gx_bs hf
  obtain ⟨a2, rfl, hf⟩ := hf
  replace hf := gx_bs hf
  obtain ⟨r3, g80, hf⟩ := hf
  replace hf := gx_bs hf
  obtain ⟨a4, rfl, hf⟩ := hf
  replace hf := gx_bs hf
  obtain ⟨x6, g5, hf⟩ := hf
  replace hf := gx_ite hf
  rcases hf with ⟨c7, hf⟩ | ⟨c7, hf⟩
  · exact le_X11_transition_b23 hf
  · exact le_X11_transition_b23 hf
theorem w_X11_transition {l : Launch} (hlt : l.stackTraces = false) {D : gx_D} {h : HX} {a0 : Nat} {r : Unit ⊕ (String × Nat)} {hz : HX} (hf : f_X11_transition D h a0 = some (r, hz)) : gx_MetX l yX11_transition (ws_ yX11_transition cX11_transition 6 none) 13 305 D [(va_rf (some a0))] h (gx_xv r) hz :=
  gx_ofGX gz_192 (by simp only [gx_lsr, gx_lsi, gx_lsj, gx_ls0]; decide) (le_X11_transition hf) (fun p e R s m args below meth c C hn hx => by
    simp only [gx_lar, gx_lai, gx_laj, gx_la0, Nat.reduceAdd]
    exact w_X11_transition_b hlt C hx hf)
def f_X11_variable_b22 (D : gx_D) (h : HX) (v0 : Nat) (s0 : Bool) (s1 : Option Nat) : Option ((Unit ⊕ (String × Nat)) × HX) :=
  s1.bind fun a8 =>
  (hx_is h a8 [16]).bind fun _ =>
  gx_bx (f_X10_expect D h a8 s0 (5 : Int32)) (fun u14 h11 =>
  (hx_is h11 v0 [16]).bind fun _ =>
  (f_X10_advance D h11 v0).bind fun h17 =>
  (hx_gr h17 v0 [16] 6).bind fun r18 =>
  r18.bind fun a19 =>
  (hx_gr h17 a19 [10] 2).bind fun r20 =>
  gx_bx (f_X10_newName D h17 v0 r20) (fun r22 h23 =>
  (hx_gr h23 v0 [16] 6).bind fun r26 =>
  (hx_is h23 v0 [16]).bind fun _ =>
  gx_bx (f_X10_digit D h23 v0) (fun x29 h30 =>
  r26.bind fun a33 =>
  (f_X3_addVariable D h30 a33 r22 x29).bind fun h35 =>
  some (.inl (), h35)) fun E31 q32 h30 =>
  some (.inr (E31, q32), h30)) fun E24 q25 h23 =>
  some (.inr (E24, q25), h23)) fun E12 q13 h11 =>
  some (.inr (E12, q13), h11)
theorem w_X11_variable_b22 {l : Launch} (hlt : l.stackTraces = false) {p : Program} {e : Env} {R : Room} {s : State} {m : MethodId} {args : Array Value} {below : List Frame} {meth : Method} {c : Code} {D : gx_D} {h0 : HX} {r : Unit ⊕ (String × Nat)} {hz : HX} (C : gx_Ctx p R s m args meth c "ContractMachine$SetupParser" cX11_variable 2 none 11 263 D h0 hz) (hx : ∀ x ∈ c.exceptionTable.toList, False)  {h : HX} {v0 : Nat} {s0 : Bool} {s1 : Option Nat} (hf : f_X11_variable_b22 D h v0 s0 s1 = some (r, hz)) : gx_G p l e R s m args below meth c D h0 hz 2 (gx_MQX below args s D h0 hz (gx_xv r)) 22 [(0, (va_rf (some v0)))] [(.int (b2i s0)), (va_rf s1)] h := by
  unfold f_X11_variable_b22 at hf
  refine gx_iconst (v := 5) C dX11_variable_22 rfl ?_
  replace hf := gx_bs hf
  obtain ⟨a8, rfl, hf⟩ := hf
  replace hf := gx_bs hf
  obtain ⟨_, g9, hf⟩ := hf
  replace hf := gx_bxs hf
  rcases hf with ⟨u14, h11, g10, hf⟩ | ⟨E12, q13, h11, g10, hf⟩
  · refine gx_xcallU (st := []) C (w_X10_expect hlt g10) (hx_is_of g9) q1247 q1248 (gx_decl C q1249) ⟨by decide, by decide⟩ (gx_cis1 gz_129 (C.hts _ q1250) gx_cis0) q1251 q152 q1252 gz_230 (by decide) rfl rfl (gx_catn (Nat.le_of_ble_eq_true rfl)) dX11_variable_23 (gx_k2l ?_)
    refine gx_aload_n C dX11_variable_26 0 rfl ?_
    replace hf := gx_bs hf
    obtain ⟨_, g15, hf⟩ := hf
    replace hf := gx_bs hf
    obtain ⟨h17, g16, hf⟩ := hf
    refine gx_callU (st := []) C (w_X10_advance hlt g16) (hx_is_of g15) q1281 q1282 (gx_decl C q1283) ⟨by decide, by decide⟩ (gx_cis1 gz_129 (C.hts _ q1284) gx_cis0) q976 q152 q980 gz_231 (by decide) rfl rfl (gx_catn (Nat.le_of_ble_eq_true rfl)) dX11_variable_27 ?_
    refine gx_aload_n C dX11_variable_30 0 rfl ?_
    refine gx_aload_n C dX11_variable_31 0 rfl ?_
    replace hf := gx_bs hf
    obtain ⟨r18, g38, hf⟩ := hf
    refine gx_gr C g38 gz_189 q1121 dX11_variable_32 ?_
    replace hf := gx_bs hf
    obtain ⟨a19, rfl, hf⟩ := hf
    replace hf := gx_bs hf
    obtain ⟨r20, g37, hf⟩ := hf
    refine gx_grN C g37 gz_46 q567 dX11_variable_35 ?_
    replace hf := gx_bxs hf
    rcases hf with ⟨r22, h23, g21, hf⟩ | ⟨E24, q25, h23, g21, hf⟩
    · refine gx_xcallU (st := []) C (w_X10_newName hlt g21) (is_X10_newName g21) q1285 q1286 (gx_decl C q1287) ⟨by decide, by decide⟩ (gx_cis1 gz_129 (C.hts _ q1288) gx_cis0) q1289 q152 q1290 gz_232 (by decide) rfl rfl (gx_catn (Nat.le_of_ble_eq_true rfl)) dX11_variable_38 (gx_k2l ?_)
      refine gx_astn C dX11_variable_41 1 rfl (by decide) [0]  rfl (gx_okr rfl gx_catv_r gx_ok0) ?_
      refine gx_aload_n C dX11_variable_42 1 rfl ?_
      replace hf := gx_bs hf
      obtain ⟨r26, g36, hf⟩ := hf
      refine gx_gr C g36 gz_189 q1121 dX11_variable_43 ?_
      refine gx_aload_n C dX11_variable_46 0 rfl ?_
      refine gx_aload_n C dX11_variable_47 1 rfl ?_
      replace hf := gx_bs hf
      obtain ⟨_, g27, hf⟩ := hf
      replace hf := gx_bxs hf
      rcases hf with ⟨x29, h30, g28, hf⟩ | ⟨E31, q32, h30, g28, hf⟩
      · refine gx_xcallU (st := [(va_rf r22), (va_rf r26)]) C (w_X10_digit hlt g28) (hx_is_of g27) q1328 q1329 (gx_decl C q1330) ⟨by decide, by decide⟩ (gx_cis1 gz_129 (C.hts _ q1331) gx_cis0) q1332 q152 q1333 gz_237 (by decide) rfl rfl (gx_catn (Nat.le_of_ble_eq_true rfl)) dX11_variable_48 (gx_k2l ?_)
        replace hf := gx_bs hf
        obtain ⟨a33, rfl, hf⟩ := hf
        replace hf := gx_bs hf
        obtain ⟨h35, g34, hf⟩ := hf
        refine gx_callV (st := []) C (w_X3_addVariable hlt g34) (is_X3_addVariable g34) gz_111 rfl (lw_V q1340 q763 q764 q124 q765) gz_99 (by decide) rfl rfl (gx_catn (Nat.le_of_ble_eq_true rfl)) dX11_variable_51 ?_
        obtain ⟨rfl, rfl⟩ := Prod.mk.inj (Option.some.inj hf)
        exact gx_ret (gx_vret C dX11_variable_54)
      · refine gx_xcallU (st := [(va_rf r22), (va_rf r26)]) C (w_X10_digit hlt g28) (hx_is_of g27) q1328 q1329 (gx_decl C q1330) ⟨by decide, by decide⟩ (gx_cis1 gz_129 (C.hts _ q1331) gx_cis0) q1332 q152 q1333 gz_237 (by decide) rfl rfl (gx_catn (Nat.le_of_ble_eq_true rfl)) dX11_variable_48 (gx_k2r ?_)
        obtain ⟨rfl, rfl⟩ := Prod.mk.inj (Option.some.inj hf)
        exact gx_out C hx
    · refine gx_xcallU (st := []) C (w_X10_newName hlt g21) (is_X10_newName g21) q1285 q1286 (gx_decl C q1287) ⟨by decide, by decide⟩ (gx_cis1 gz_129 (C.hts _ q1288) gx_cis0) q1289 q152 q1290 gz_232 (by decide) rfl rfl (gx_catn (Nat.le_of_ble_eq_true rfl)) dX11_variable_38 (gx_k2r ?_)
      obtain ⟨rfl, rfl⟩ := Prod.mk.inj (Option.some.inj hf)
      exact gx_out C hx
  · refine gx_xcallU (st := []) C (w_X10_expect hlt g10) (hx_is_of g9) q1247 q1248 (gx_decl C q1249) ⟨by decide, by decide⟩ (gx_cis1 gz_129 (C.hts _ q1250) gx_cis0) q1251 q152 q1252 gz_230 (by decide) rfl rfl (gx_catn (Nat.le_of_ble_eq_true rfl)) dX11_variable_23 (gx_k2r ?_)
    obtain ⟨rfl, rfl⟩ := Prod.mk.inj (Option.some.inj hf)
    exact gx_out C hx
theorem le_X11_variable_b22 {D : gx_D} {r : Unit ⊕ (String × Nat)} {hz : HX} {h : HX} {v0 : Nat} {s0 : Bool} {s1 : Option Nat} (hf : f_X11_variable_b22 D h v0 s0 s1 = some (r, hz)) : gx_le h hz := by
  unfold f_X11_variable_b22 at hf
  replace hf := gx_bs hf
  obtain ⟨a8, rfl, hf⟩ := hf
  replace hf := gx_bs hf
  obtain ⟨_, g9, hf⟩ := hf
  replace hf := gx_bxs hf
  rcases hf with ⟨u14, h11, g10, hf⟩ | ⟨E12, q13, h11, g10, hf⟩
  · refine (le_X10_expect g10).tr ?_
    replace hf := gx_bs hf
    obtain ⟨_, g15, hf⟩ := hf
    replace hf := gx_bs hf
    obtain ⟨h17, g16, hf⟩ := hf
    refine (le_X10_advance g16).tr ?_
    replace hf := gx_bs hf
    obtain ⟨r18, g38, hf⟩ := hf
    replace hf := gx_bs hf
    obtain ⟨a19, rfl, hf⟩ := hf
    replace hf := gx_bs hf
    obtain ⟨r20, g37, hf⟩ := hf
    replace hf := gx_bxs hf
    rcases hf with ⟨r22, h23, g21, hf⟩ | ⟨E24, q25, h23, g21, hf⟩
    · refine (le_X10_newName g21).tr ?_
      replace hf := gx_bs hf
      obtain ⟨r26, g36, hf⟩ := hf
      replace hf := gx_bs hf
      obtain ⟨_, g27, hf⟩ := hf
      replace hf := gx_bxs hf
      rcases hf with ⟨x29, h30, g28, hf⟩ | ⟨E31, q32, h30, g28, hf⟩
      · refine (le_X10_digit g28).tr ?_
        replace hf := gx_bs hf
        obtain ⟨a33, rfl, hf⟩ := hf
        replace hf := gx_bs hf
        obtain ⟨h35, g34, hf⟩ := hf
        refine (le_X3_addVariable g34).tr ?_
        obtain ⟨rfl, rfl⟩ := Prod.mk.inj (Option.some.inj hf)
        exact gx_le.rf
      · refine (le_X10_digit g28).tr ?_
        obtain ⟨rfl, rfl⟩ := Prod.mk.inj (Option.some.inj hf)
        exact gx_le.rf
    · refine (le_X10_newName g21).tr ?_
      obtain ⟨rfl, rfl⟩ := Prod.mk.inj (Option.some.inj hf)
      exact gx_le.rf
  · refine (le_X10_expect g10).tr ?_
    obtain ⟨rfl, rfl⟩ := Prod.mk.inj (Option.some.inj hf)
    exact gx_le.rf
def f_X11_variable (D : gx_D) (h : HX) (a0 : Nat) : Option ((Unit ⊕ (String × Nat)) × HX) :=
  (hx_is h a0 [16]).bind fun _ =>
  (hx_gr h a0 [16] 6).bind fun r1 =>
  r1.bind fun a2 =>
  (hx_gr h a2 [10] 2).bind fun r3 =>
  r3.bind fun a4 =>
  (f_J2_size D h a4).bind fun x6 =>
  if (3 : Int32) ≤ x6 then
  f_X11_variable_b22 D h a0 false (some a0)
  else
  f_X11_variable_b22 D h a0 true (some a0)
theorem is_X11_variable {D : gx_D} {h : HX} {a0 : Nat} {z} (hf : f_X11_variable D h a0 = some z) : gx_isC h a0 [16] := by
  unfold f_X11_variable at hf
  obtain ⟨_, g, -⟩ := gx_bs hf
  exact hx_is_of g
theorem w_X11_variable_b {l : Launch} (hlt : l.stackTraces = false) {p : Program} {e : Env} {R : Room} {s : State} {m : MethodId} {args : Array Value} {below : List Frame} {meth : Method} {c : Code} {D : gx_D} {h0 : HX} {r : Unit ⊕ (String × Nat)} {hz : HX} (C : gx_Ctx p R s m args meth c "ContractMachine$SetupParser" cX11_variable 2 none 11 263 D h0 hz) (hx : ∀ x ∈ c.exceptionTable.toList, False) {a0 : Nat} (hf : f_X11_variable D h0 a0 = some (r, hz)) : gx_G p l e R s m args below meth c D h0 hz 2 (gx_MQX below args s D h0 hz (gx_xv r)) 0 [(0, (va_rf (some a0)))] [] h0 := by
  unfold f_X11_variable at hf
  replace hf := gx_bs hf
  obtain ⟨_, -, hf⟩ := hf
  refine gx_aload_n C dX11_variable_0 0 rfl ?_
  refine gx_aload_n C dX11_variable_1 0 rfl ?_
  replace hf := gx_bs hf
  obtain ⟨r1, g40, hf⟩ := hf
  refine gx_gr C g40 gz_189 q1121 dX11_variable_2 ?_
  replace hf := gx_bs hf
  obtain ⟨a2, rfl, hf⟩ := hf
  replace hf := gx_bs hf
  obtain ⟨r3, g39, hf⟩ := hf
  refine gx_grN C g39 gz_46 q567 dX11_variable_5 ?_
  replace hf := gx_bs hf
  obtain ⟨a4, rfl, hf⟩ := hf
  replace hf := gx_bs hf
  obtain ⟨x6, g5, hf⟩ := hf
  refine gx_callF (st := [(va_rf (some a0))]) C (w_J2_size hlt g5) (is_J2_size g5) q1246 (gx_cis1 gz_19 ⟨gz_51, q770⟩ gx_cis0) q772 q127 q774 gz_50 (by decide) rfl rfl (gx_catn (Nat.le_of_ble_eq_true rfl)) dX11_variable_8 ?_
  refine gx_iconst (v := 3) C dX11_variable_13 rfl ?_
  replace hf := gx_ite hf
  rcases hf with ⟨c7, hf⟩ | ⟨c7, hf⟩
  · refine gx_icmp_ge_t (tgt := 21) C dX11_variable_14 rfl c7 ?_
    refine gx_iconst (v := 0) C dX11_variable_21 rfl ?_
    refine gx_sub [0] rfl ?_
    exact w_X11_variable_b22 hlt C hx hf
  · refine gx_icmp_ge_f (tgt := 21) C dX11_variable_14 rfl c7 ?_
    refine gx_iconst (v := 1) C dX11_variable_17 rfl ?_
    refine gx_goto (tgt := 22) C dX11_variable_18 rfl ?_
    refine gx_sub [0] rfl ?_
    exact w_X11_variable_b22 hlt C hx hf
theorem le_X11_variable {D : gx_D} {r : Unit ⊕ (String × Nat)} {hz : HX} {h : HX} {a0 : Nat} (hf : f_X11_variable D h a0 = some (r, hz)) : gx_le h hz := by
  unfold f_X11_variable at hf
  replace hf := gx_bs hf
  obtain ⟨_, -, hf⟩ := hf
  replace hf := gx_bs hf
  obtain ⟨r1, g40, hf⟩ := hf
  replace hf := gx_bs hf
  obtain ⟨a2, rfl, hf⟩ := hf
  replace hf := gx_bs hf
  obtain ⟨r3, g39, hf⟩ := hf
  replace hf := gx_bs hf
  obtain ⟨a4, rfl, hf⟩ := hf
  replace hf := gx_bs hf
  obtain ⟨x6, g5, hf⟩ := hf
  replace hf := gx_ite hf
  rcases hf with ⟨c7, hf⟩ | ⟨c7, hf⟩
  · exact le_X11_variable_b22 hf
  · exact le_X11_variable_b22 hf
theorem w_X11_variable {l : Launch} (hlt : l.stackTraces = false) {D : gx_D} {h : HX} {a0 : Nat} {r : Unit ⊕ (String × Nat)} {hz : HX} (hf : f_X11_variable D h a0 = some (r, hz)) : gx_MetX l yX11_variable (ws_ yX11_variable cX11_variable 2 none) 11 263 D [(va_rf (some a0))] h (gx_xv r) hz :=
  gx_ofGX gz_192 (by simp only [gx_lsr, gx_lsi, gx_lsj, gx_ls0]; decide) (le_X11_variable hf) (fun p e R s m args below meth c C hn hx => by
    simp only [gx_lar, gx_lai, gx_laj, gx_la0, Nat.reduceAdd]
    exact w_X11_variable_b hlt C hx hf)
def f_X11_statement_b256 (D : gx_D) (h : HX) (v0 : Nat) : Option ((Unit ⊕ (String × Nat)) × HX) :=
  (hx_is h v0 [16]).bind fun _ =>
  gx_bx (f_X10_endStatement D h v0) (fun u23 h20 =>
  some (.inl (), h20)) fun E21 q22 h20 =>
  some (.inr (E21, q22), h20)
theorem w_X11_statement_b256 {l : Launch} (hlt : l.stackTraces = false) {p : Program} {e : Env} {R : Room} {s : State} {m : MethodId} {args : Array Value} {below : List Frame} {meth : Method} {c : Code} {D : gx_D} {h0 : HX} {r : Unit ⊕ (String × Nat)} {hz : HX} (C : gx_Ctx p R s m args meth c "ContractMachine$SetupParser" cX11_statement 4 none 14 330 D h0 hz) (hx : ∀ x ∈ c.exceptionTable.toList, False)  {h : HX} {v0 : Nat} (hf : f_X11_statement_b256 D h v0 = some (r, hz)) : gx_G p l e R s m args below meth c D h0 hz 4 (gx_MQX below args s D h0 hz (gx_xv r)) 256 [(0, (va_rf (some v0)))] [] h := by
  unfold f_X11_statement_b256 at hf
  refine gx_aload_n C dX11_statement_256 0 rfl ?_
  replace hf := gx_bs hf
  obtain ⟨_, g18, hf⟩ := hf
  replace hf := gx_bxs hf
  rcases hf with ⟨u23, h20, g19, hf⟩ | ⟨E21, q22, h20, g19, hf⟩
  · refine gx_xcallU (st := []) C (w_X10_endStatement hlt g19) (hx_is_of g18) q1411 q1412 (gx_decl C q1413) ⟨by decide, by decide⟩ (gx_cis1 gz_129 (C.hts _ q1414) gx_cis0) q1415 q152 q1416 gz_252 (by decide) rfl rfl (gx_catn (Nat.le_of_ble_eq_true rfl)) dX11_statement_257 (gx_k2l ?_)
    obtain ⟨rfl, rfl⟩ := Prod.mk.inj (Option.some.inj hf)
    exact gx_ret (gx_vret C dX11_statement_260)
  · refine gx_xcallU (st := []) C (w_X10_endStatement hlt g19) (hx_is_of g18) q1411 q1412 (gx_decl C q1413) ⟨by decide, by decide⟩ (gx_cis1 gz_129 (C.hts _ q1414) gx_cis0) q1415 q152 q1416 gz_252 (by decide) rfl rfl (gx_catn (Nat.le_of_ble_eq_true rfl)) dX11_statement_257 (gx_k2r ?_)
    obtain ⟨rfl, rfl⟩ := Prod.mk.inj (Option.some.inj hf)
    exact gx_out C hx
theorem le_X11_statement_b256 {D : gx_D} {r : Unit ⊕ (String × Nat)} {hz : HX} {h : HX} {v0 : Nat} (hf : f_X11_statement_b256 D h v0 = some (r, hz)) : gx_le h hz := by
  unfold f_X11_statement_b256 at hf
  replace hf := gx_bs hf
  obtain ⟨_, g18, hf⟩ := hf
  replace hf := gx_bxs hf
  rcases hf with ⟨u23, h20, g19, hf⟩ | ⟨E21, q22, h20, g19, hf⟩
  · refine (le_X10_endStatement g19).tr ?_
    obtain ⟨rfl, rfl⟩ := Prod.mk.inj (Option.some.inj hf)
    exact gx_le.rf
  · refine (le_X10_endStatement g19).tr ?_
    obtain ⟨rfl, rfl⟩ := Prod.mk.inj (Option.some.inj hf)
    exact gx_le.rf
def f_X11_statement_b149 (D : gx_D) (h : HX) (v0 : Nat) (v3 : Int32) : Option ((Unit ⊕ (String × Nat)) × HX) :=
  if v3 = (0 : Int32) then
  (hx_gr h v0 [16] 6).bind fun r10 =>
  r10.bind fun a11 =>
  (hx_gr h a11 [10] 0).bind fun r12 =>
  gx_bx (f_X11_declare D h v0 r12 (10 : Int32)) (fun u17 h14 =>
  f_X11_statement_b256 D h14 v0) fun E15 q16 h14 =>
  some (.inr (E15, q16), h14)
  else
  if v3 = (1 : Int32) then
  (hx_gr h v0 [16] 6).bind fun r27 =>
  r27.bind fun a28 =>
  (hx_gr h a28 [10] 1).bind fun r29 =>
  gx_bx (f_X11_declare D h v0 r29 (8 : Int32)) (fun u34 h31 =>
  f_X11_statement_b256 D h31 v0) fun E32 q33 h31 =>
  some (.inr (E32, q33), h31)
  else
  if v3 = (2 : Int32) then
  gx_bx (f_X11_variable D h v0) (fun u42 h39 =>
  f_X11_statement_b256 D h39 v0) fun E40 q41 h39 =>
  some (.inr (E40, q41), h39)
  else
  if v3 = (3 : Int32) then
  gx_bx (f_X11_transition D h v0) (fun u48 h45 =>
  f_X11_statement_b256 D h45 v0) fun E46 q47 h45 =>
  some (.inr (E46, q47), h45)
  else
  if v3 = (4 : Int32) then
  gx_bx (f_X11_invariant D h v0 false) (fun u54 h51 =>
  f_X11_statement_b256 D h51 v0) fun E52 q53 h51 =>
  some (.inr (E52, q53), h51)
  else
  if v3 = (5 : Int32) then
  gx_bx (f_X11_invariant D h v0 true) (fun u60 h57 =>
  f_X11_statement_b256 D h57 v0) fun E58 q59 h57 =>
  some (.inr (E58, q59), h57)
  else
  if v3 < (0 : Int32) ∨ (5 : Int32) < v3 then
  (hx_is h v0 [16]).bind fun _ =>
  gx_bx (f_X10_expect D h v0 false (1 : Int32)) (fun u67 h64 =>
  f_X11_statement_b256 D h64 v0) fun E65 q66 h64 =>
  some (.inr (E65, q66), h64)
  else none
theorem w_X11_statement_b149 {l : Launch} (hlt : l.stackTraces = false) {p : Program} {e : Env} {R : Room} {s : State} {m : MethodId} {args : Array Value} {below : List Frame} {meth : Method} {c : Code} {D : gx_D} {h0 : HX} {r : Unit ⊕ (String × Nat)} {hz : HX} (C : gx_Ctx p R s m args meth c "ContractMachine$SetupParser" cX11_statement 4 none 14 330 D h0 hz) (hx : ∀ x ∈ c.exceptionTable.toList, False)  {h : HX} {v0 : Nat} {v3 : Int32} (hf : f_X11_statement_b149 D h v0 v3 = some (r, hz)) : gx_G p l e R s m args below meth c D h0 hz 4 (gx_MQX below args s D h0 hz (gx_xv r)) 149 [(0, (va_rf (some v0))), (3, (.int v3))] [] h := by
  unfold f_X11_statement_b149 at hf
  refine gx_iload_n C dX11_statement_149 1 rfl ?_
  replace hf := gx_ite hf
  rcases hf with ⟨c9, hf⟩ | ⟨c9, hf⟩
  · refine gx_tswIn (tgt := 188) C dX11_statement_150 (by rw [c9]; decide) (by rw [c9]; decide) (off := 38) (by rw [c9]; rfl) rfl ?_
    refine gx_aload_n C dX11_statement_188 0 rfl ?_
    refine gx_aload_n C dX11_statement_189 0 rfl ?_
    replace hf := gx_bs hf
    obtain ⟨r10, g25, hf⟩ := hf
    refine gx_gr C g25 gz_189 q1121 dX11_statement_190 ?_
    replace hf := gx_bs hf
    obtain ⟨a11, rfl, hf⟩ := hf
    replace hf := gx_bs hf
    obtain ⟨r12, g24, hf⟩ := hf
    refine gx_grN C g24 gz_28 q559 dX11_statement_193 ?_
    refine gx_bipush (v := 10) C dX11_statement_196 rfl ?_
    replace hf := gx_bxs hf
    rcases hf with ⟨u17, h14, g13, hf⟩ | ⟨E15, q16, h14, g13, hf⟩
    · refine gx_xcallV (st := []) C (w_X11_declare hlt g13) (is_X11_declare g13) gz_129 rfl (lw_V q1241 q1243 qs13 q153 q1244) gz_251 (by decide) rfl rfl (gx_catn (Nat.le_of_ble_eq_true rfl)) dX11_statement_198 (gx_k2l ?_)
      refine gx_goto (tgt := 256) C dX11_statement_201 rfl ?_
      refine gx_sub [0] rfl ?_
      exact w_X11_statement_b256 hlt C hx hf
    · refine gx_xcallV (st := []) C (w_X11_declare hlt g13) (is_X11_declare g13) gz_129 rfl (lw_V q1241 q1243 qs13 q153 q1244) gz_251 (by decide) rfl rfl (gx_catn (Nat.le_of_ble_eq_true rfl)) dX11_statement_198 (gx_k2r ?_)
      obtain ⟨rfl, rfl⟩ := Prod.mk.inj (Option.some.inj hf)
      exact gx_out C hx
  replace hf := gx_ite hf
  rcases hf with ⟨c26, hf⟩ | ⟨c26, hf⟩
  · refine gx_tswIn (tgt := 204) C dX11_statement_150 (by rw [c26]; decide) (by rw [c26]; decide) (off := 54) (by rw [c26]; rfl) rfl ?_
    refine gx_aload_n C dX11_statement_204 0 rfl ?_
    refine gx_aload_n C dX11_statement_205 0 rfl ?_
    replace hf := gx_bs hf
    obtain ⟨r27, g36, hf⟩ := hf
    refine gx_gr C g36 gz_189 q1121 dX11_statement_206 ?_
    replace hf := gx_bs hf
    obtain ⟨a28, rfl, hf⟩ := hf
    replace hf := gx_bs hf
    obtain ⟨r29, g35, hf⟩ := hf
    refine gx_grN C g35 gz_27 q564 dX11_statement_209 ?_
    refine gx_bipush (v := 8) C dX11_statement_212 rfl ?_
    replace hf := gx_bxs hf
    rcases hf with ⟨u34, h31, g30, hf⟩ | ⟨E32, q33, h31, g30, hf⟩
    · refine gx_xcallV (st := []) C (w_X11_declare hlt g30) (is_X11_declare g30) gz_129 rfl (lw_V q1241 q1243 qs13 q153 q1244) gz_251 (by decide) rfl rfl (gx_catn (Nat.le_of_ble_eq_true rfl)) dX11_statement_214 (gx_k2l ?_)
      refine gx_goto (tgt := 256) C dX11_statement_217 rfl ?_
      refine gx_sub [0] rfl ?_
      exact w_X11_statement_b256 hlt C hx hf
    · refine gx_xcallV (st := []) C (w_X11_declare hlt g30) (is_X11_declare g30) gz_129 rfl (lw_V q1241 q1243 qs13 q153 q1244) gz_251 (by decide) rfl rfl (gx_catn (Nat.le_of_ble_eq_true rfl)) dX11_statement_214 (gx_k2r ?_)
      obtain ⟨rfl, rfl⟩ := Prod.mk.inj (Option.some.inj hf)
      exact gx_out C hx
  replace hf := gx_ite hf
  rcases hf with ⟨c37, hf⟩ | ⟨c37, hf⟩
  · refine gx_tswIn (tgt := 220) C dX11_statement_150 (by rw [c37]; decide) (by rw [c37]; decide) (off := 70) (by rw [c37]; rfl) rfl ?_
    refine gx_aload_n C dX11_statement_220 0 rfl ?_
    replace hf := gx_bxs hf
    rcases hf with ⟨u42, h39, g38, hf⟩ | ⟨E40, q41, h39, g38, hf⟩
    · refine gx_xcallV (st := []) C (w_X11_variable hlt g38) (is_X11_variable g38) gz_129 rfl (lw_V q1324 q1326 qs14 q153 q1327) gz_253 (by decide) rfl rfl (gx_catn (Nat.le_of_ble_eq_true rfl)) dX11_statement_221 (gx_k2l ?_)
      refine gx_goto (tgt := 256) C dX11_statement_224 rfl ?_
      refine gx_sub [0] rfl ?_
      exact w_X11_statement_b256 hlt C hx hf
    · refine gx_xcallV (st := []) C (w_X11_variable hlt g38) (is_X11_variable g38) gz_129 rfl (lw_V q1324 q1326 qs14 q153 q1327) gz_253 (by decide) rfl rfl (gx_catn (Nat.le_of_ble_eq_true rfl)) dX11_statement_221 (gx_k2r ?_)
      obtain ⟨rfl, rfl⟩ := Prod.mk.inj (Option.some.inj hf)
      exact gx_out C hx
  replace hf := gx_ite hf
  rcases hf with ⟨c43, hf⟩ | ⟨c43, hf⟩
  · refine gx_tswIn (tgt := 227) C dX11_statement_150 (by rw [c43]; decide) (by rw [c43]; decide) (off := 77) (by rw [c43]; rfl) rfl ?_
    refine gx_aload_n C dX11_statement_227 0 rfl ?_
    replace hf := gx_bxs hf
    rcases hf with ⟨u48, h45, g44, hf⟩ | ⟨E46, q47, h45, g44, hf⟩
    · refine gx_xcallV (st := []) C (w_X11_transition hlt g44) (is_X11_transition g44) gz_129 rfl (lw_V q1341 q1343 qs15 q153 q1344) gz_254 (by decide) rfl rfl (gx_catn (Nat.le_of_ble_eq_true rfl)) dX11_statement_228 (gx_k2l ?_)
      refine gx_goto (tgt := 256) C dX11_statement_231 rfl ?_
      refine gx_sub [0] rfl ?_
      exact w_X11_statement_b256 hlt C hx hf
    · refine gx_xcallV (st := []) C (w_X11_transition hlt g44) (is_X11_transition g44) gz_129 rfl (lw_V q1341 q1343 qs15 q153 q1344) gz_254 (by decide) rfl rfl (gx_catn (Nat.le_of_ble_eq_true rfl)) dX11_statement_228 (gx_k2r ?_)
      obtain ⟨rfl, rfl⟩ := Prod.mk.inj (Option.some.inj hf)
      exact gx_out C hx
  replace hf := gx_ite hf
  rcases hf with ⟨c49, hf⟩ | ⟨c49, hf⟩
  · refine gx_tswIn (tgt := 234) C dX11_statement_150 (by rw [c49]; decide) (by rw [c49]; decide) (off := 84) (by rw [c49]; rfl) rfl ?_
    refine gx_aload_n C dX11_statement_234 0 rfl ?_
    refine gx_iconst (v := 0) C dX11_statement_235 rfl ?_
    replace hf := gx_bxs hf
    rcases hf with ⟨u54, h51, g50, hf⟩ | ⟨E52, q53, h51, g50, hf⟩
    · refine gx_xcallV (st := []) C (w_X11_invariant hlt g50) (is_X11_invariant g50) gz_129 rfl (lw_V q1405 q1407 qs20 q153 q1408) gz_255 (by decide) rfl rfl (gx_catn (Nat.le_of_ble_eq_true rfl)) dX11_statement_236 (gx_k2l ?_)
      refine gx_goto (tgt := 256) C dX11_statement_239 rfl ?_
      refine gx_sub [0] rfl ?_
      exact w_X11_statement_b256 hlt C hx hf
    · refine gx_xcallV (st := []) C (w_X11_invariant hlt g50) (is_X11_invariant g50) gz_129 rfl (lw_V q1405 q1407 qs20 q153 q1408) gz_255 (by decide) rfl rfl (gx_catn (Nat.le_of_ble_eq_true rfl)) dX11_statement_236 (gx_k2r ?_)
      obtain ⟨rfl, rfl⟩ := Prod.mk.inj (Option.some.inj hf)
      exact gx_out C hx
  replace hf := gx_ite hf
  rcases hf with ⟨c55, hf⟩ | ⟨c55, hf⟩
  · refine gx_tswIn (tgt := 242) C dX11_statement_150 (by rw [c55]; decide) (by rw [c55]; decide) (off := 92) (by rw [c55]; rfl) rfl ?_
    refine gx_aload_n C dX11_statement_242 0 rfl ?_
    refine gx_iconst (v := 1) C dX11_statement_243 rfl ?_
    replace hf := gx_bxs hf
    rcases hf with ⟨u60, h57, g56, hf⟩ | ⟨E58, q59, h57, g56, hf⟩
    · refine gx_xcallV (st := []) C (w_X11_invariant hlt g56) (is_X11_invariant g56) gz_129 rfl (lw_V q1405 q1407 qs20 q153 q1408) gz_255 (by decide) rfl rfl (gx_catn (Nat.le_of_ble_eq_true rfl)) dX11_statement_244 (gx_k2l ?_)
      refine gx_goto (tgt := 256) C dX11_statement_247 rfl ?_
      refine gx_sub [0] rfl ?_
      exact w_X11_statement_b256 hlt C hx hf
    · refine gx_xcallV (st := []) C (w_X11_invariant hlt g56) (is_X11_invariant g56) gz_129 rfl (lw_V q1405 q1407 qs20 q153 q1408) gz_255 (by decide) rfl rfl (gx_catn (Nat.le_of_ble_eq_true rfl)) dX11_statement_244 (gx_k2r ?_)
      obtain ⟨rfl, rfl⟩ := Prod.mk.inj (Option.some.inj hf)
      exact gx_out C hx
  replace hf := gx_ite hf
  rcases hf with ⟨c61, hf⟩ | ⟨c61, hf⟩
  rotate_left
  · cases hf
  refine gx_tswOut (tgt := 250) C dX11_statement_150 (gx_tout c61) rfl ?_
  refine gx_aload_n C dX11_statement_250 0 rfl ?_
  refine gx_iconst (v := 0) C dX11_statement_251 rfl ?_
  refine gx_iconst (v := 1) C dX11_statement_252 rfl ?_
  replace hf := gx_bs hf
  obtain ⟨_, g62, hf⟩ := hf
  replace hf := gx_bxs hf
  rcases hf with ⟨u67, h64, g63, hf⟩ | ⟨E65, q66, h64, g63, hf⟩
  · refine gx_xcallU (st := []) C (w_X10_expect hlt g63) (hx_is_of g62) q1247 q1248 (gx_decl C q1249) ⟨by decide, by decide⟩ (gx_cis1 gz_129 (C.hts _ q1250) gx_cis0) q1251 q152 q1252 gz_230 (by decide) rfl rfl (gx_catn (Nat.le_of_ble_eq_true rfl)) dX11_statement_253 (gx_k2l ?_)
    refine gx_sub [0] rfl ?_
    exact w_X11_statement_b256 hlt C hx hf
  · refine gx_xcallU (st := []) C (w_X10_expect hlt g63) (hx_is_of g62) q1247 q1248 (gx_decl C q1249) ⟨by decide, by decide⟩ (gx_cis1 gz_129 (C.hts _ q1250) gx_cis0) q1251 q152 q1252 gz_230 (by decide) rfl rfl (gx_catn (Nat.le_of_ble_eq_true rfl)) dX11_statement_253 (gx_k2r ?_)
    obtain ⟨rfl, rfl⟩ := Prod.mk.inj (Option.some.inj hf)
    exact gx_out C hx
theorem le_X11_statement_b149 {D : gx_D} {r : Unit ⊕ (String × Nat)} {hz : HX} {h : HX} {v0 : Nat} {v3 : Int32} (hf : f_X11_statement_b149 D h v0 v3 = some (r, hz)) : gx_le h hz := by
  unfold f_X11_statement_b149 at hf
  replace hf := gx_ite hf
  rcases hf with ⟨c9, hf⟩ | ⟨c9, hf⟩
  · replace hf := gx_bs hf
    obtain ⟨r10, g25, hf⟩ := hf
    replace hf := gx_bs hf
    obtain ⟨a11, rfl, hf⟩ := hf
    replace hf := gx_bs hf
    obtain ⟨r12, g24, hf⟩ := hf
    replace hf := gx_bxs hf
    rcases hf with ⟨u17, h14, g13, hf⟩ | ⟨E15, q16, h14, g13, hf⟩
    · refine (le_X11_declare g13).tr ?_
      exact le_X11_statement_b256 hf
    · refine (le_X11_declare g13).tr ?_
      obtain ⟨rfl, rfl⟩ := Prod.mk.inj (Option.some.inj hf)
      exact gx_le.rf
  replace hf := gx_ite hf
  rcases hf with ⟨c26, hf⟩ | ⟨c26, hf⟩
  · replace hf := gx_bs hf
    obtain ⟨r27, g36, hf⟩ := hf
    replace hf := gx_bs hf
    obtain ⟨a28, rfl, hf⟩ := hf
    replace hf := gx_bs hf
    obtain ⟨r29, g35, hf⟩ := hf
    replace hf := gx_bxs hf
    rcases hf with ⟨u34, h31, g30, hf⟩ | ⟨E32, q33, h31, g30, hf⟩
    · refine (le_X11_declare g30).tr ?_
      exact le_X11_statement_b256 hf
    · refine (le_X11_declare g30).tr ?_
      obtain ⟨rfl, rfl⟩ := Prod.mk.inj (Option.some.inj hf)
      exact gx_le.rf
  replace hf := gx_ite hf
  rcases hf with ⟨c37, hf⟩ | ⟨c37, hf⟩
  · replace hf := gx_bxs hf
    rcases hf with ⟨u42, h39, g38, hf⟩ | ⟨E40, q41, h39, g38, hf⟩
    · refine (le_X11_variable g38).tr ?_
      exact le_X11_statement_b256 hf
    · refine (le_X11_variable g38).tr ?_
      obtain ⟨rfl, rfl⟩ := Prod.mk.inj (Option.some.inj hf)
      exact gx_le.rf
  replace hf := gx_ite hf
  rcases hf with ⟨c43, hf⟩ | ⟨c43, hf⟩
  · replace hf := gx_bxs hf
    rcases hf with ⟨u48, h45, g44, hf⟩ | ⟨E46, q47, h45, g44, hf⟩
    · refine (le_X11_transition g44).tr ?_
      exact le_X11_statement_b256 hf
    · refine (le_X11_transition g44).tr ?_
      obtain ⟨rfl, rfl⟩ := Prod.mk.inj (Option.some.inj hf)
      exact gx_le.rf
  replace hf := gx_ite hf
  rcases hf with ⟨c49, hf⟩ | ⟨c49, hf⟩
  · replace hf := gx_bxs hf
    rcases hf with ⟨u54, h51, g50, hf⟩ | ⟨E52, q53, h51, g50, hf⟩
    · refine (le_X11_invariant g50).tr ?_
      exact le_X11_statement_b256 hf
    · refine (le_X11_invariant g50).tr ?_
      obtain ⟨rfl, rfl⟩ := Prod.mk.inj (Option.some.inj hf)
      exact gx_le.rf
  replace hf := gx_ite hf
  rcases hf with ⟨c55, hf⟩ | ⟨c55, hf⟩
  · replace hf := gx_bxs hf
    rcases hf with ⟨u60, h57, g56, hf⟩ | ⟨E58, q59, h57, g56, hf⟩
    · refine (le_X11_invariant g56).tr ?_
      exact le_X11_statement_b256 hf
    · refine (le_X11_invariant g56).tr ?_
      obtain ⟨rfl, rfl⟩ := Prod.mk.inj (Option.some.inj hf)
      exact gx_le.rf
  replace hf := gx_ite hf
  rcases hf with ⟨c61, hf⟩ | ⟨c61, hf⟩
  rotate_left
  · cases hf
  replace hf := gx_bs hf
  obtain ⟨_, g62, hf⟩ := hf
  replace hf := gx_bxs hf
  rcases hf with ⟨u67, h64, g63, hf⟩ | ⟨E65, q66, h64, g63, hf⟩
  · refine (le_X10_expect g63).tr ?_
    exact le_X11_statement_b256 hf
  · refine (le_X10_expect g63).tr ?_
    obtain ⟨rfl, rfl⟩ := Prod.mk.inj (Option.some.inj hf)
    exact gx_le.rf
def f_X11_statement (D : gx_D) (h : HX) (a0 : Nat) (p1 : Option Nat) : Option ((Unit ⊕ (String × Nat)) × HX) :=
  (hx_is h a0 [16]).bind fun _ =>
  p1.bind fun a1 =>
  gx_b2 (f_J9_hashCode D h a1) fun x3 h4 =>
  if x3 = (-1414557169 : Int32) then
  (f_J9_equals D h4 a1 (some (D.2.2.1 13))).bind fun b7 =>
  if b7 = true then
  f_X11_statement_b149 D h4 a0 ((4 : Int32))
  else
  f_X11_statement_b149 D h4 a0 ((-1 : Int32))
  else
  if x3 = (-1183789060 : Int32) then
  (f_J9_equals D h4 a1 (some (D.2.2.1 14))).bind fun b70 =>
  if b70 = true then
  f_X11_statement_b149 D h4 a0 ((5 : Int32))
  else
  f_X11_statement_b149 D h4 a0 ((-1 : Int32))
  else
  if x3 = (3551 : Int32) then
  (f_J9_equals D h4 a1 (some (D.2.2.1 12))).bind fun b74 =>
  if b74 = true then
  f_X11_statement_b149 D h4 a0 ((3 : Int32))
  else
  f_X11_statement_b149 D h4 a0 ((-1 : Int32))
  else
  if x3 = (116519 : Int32) then
  (f_J9_equals D h4 a1 (some (D.2.2.1 11))).bind fun b78 =>
  if b78 = true then
  f_X11_statement_b149 D h4 a0 ((2 : Int32))
  else
  f_X11_statement_b149 D h4 a0 ((-1 : Int32))
  else
  if x3 = (96891546 : Int32) then
  (f_J9_equals D h4 a1 (some (D.2.2.1 10))).bind fun b82 =>
  if b82 = true then
  f_X11_statement_b149 D h4 a0 ((1 : Int32))
  else
  f_X11_statement_b149 D h4 a0 ((-1 : Int32))
  else
  if x3 = (109757585 : Int32) then
  (f_J9_equals D h4 a1 (some (D.2.2.1 9))).bind fun b86 =>
  if b86 = true then
  f_X11_statement_b149 D h4 a0 ((0 : Int32))
  else
  f_X11_statement_b149 D h4 a0 ((-1 : Int32))
  else
  f_X11_statement_b149 D h4 a0 ((-1 : Int32))
theorem is_X11_statement {D : gx_D} {h : HX} {a0 : Nat} {p1 : Option Nat} {z} (hf : f_X11_statement D h a0 p1 = some z) : gx_isC h a0 [16] := by
  unfold f_X11_statement at hf
  obtain ⟨_, g, -⟩ := gx_bs hf
  exact hx_is_of g
theorem w_X11_statement_b {l : Launch} (hlt : l.stackTraces = false) {p : Program} {e : Env} {R : Room} {s : State} {m : MethodId} {args : Array Value} {below : List Frame} {meth : Method} {c : Code} {D : gx_D} {h0 : HX} {r : Unit ⊕ (String × Nat)} {hz : HX} (C : gx_Ctx p R s m args meth c "ContractMachine$SetupParser" cX11_statement 4 none 14 330 D h0 hz) (hx : ∀ x ∈ c.exceptionTable.toList, False) {a0 : Nat} {p1 : Option Nat} (hf : f_X11_statement D h0 a0 p1 = some (r, hz)) : gx_G p l e R s m args below meth c D h0 hz 4 (gx_MQX below args s D h0 hz (gx_xv r)) 0 [(0, (va_rf (some a0))), (1, (va_rf p1))] [] h0 := by
  unfold f_X11_statement at hf
  replace hf := gx_bs hf
  obtain ⟨_, -, hf⟩ := hf
  refine gx_aload_n C dX11_statement_0 1 rfl ?_
  refine gx_astn C dX11_statement_1 2 rfl (by decide) [0]  rfl (gx_okn rfl rfl gx_ok0) ?_
  refine gx_iconst (v := -1) C dX11_statement_2 rfl ?_
  refine gx_istn C dX11_statement_3 3 rfl (by decide) [0, 1]  rfl (gx_okr rfl gx_catv_r (gx_okn rfl rfl gx_ok0)) ?_
  refine gx_aload_n C dX11_statement_4 1 rfl ?_
  replace hf := gx_bs hf
  obtain ⟨a1, rfl, hf⟩ := hf
  replace hf := gx_b2s hf
  obtain ⟨x3, h4, g2, hf⟩ := hf
  refine gx_callV (st := []) C (w_J9_hashCode hlt g2) (is_J9_hashCode g2) gz_10 rfl (lw_V q1170 q1171 q1172 q134 q1173) gz_250 (by decide) rfl rfl (gx_catn (Nat.le_of_ble_eq_true rfl)) dX11_statement_5 ?_
  replace hf := gx_ite hf
  rcases hf with ⟨c5, hf⟩ | ⟨c5, hf⟩
  · refine gx_lsw (tgt := 124) (off := 116) C dX11_statement_8 (by decide) (by rw [c5]; decide) rfl ?_
    refine gx_aload_n C dX11_statement_124 1 rfl ?_
    refine gx_ldcS C 13 rfl dX11_statement_125 ?_
    replace hf := gx_bs hf
    obtain ⟨b7, g6, hf⟩ := hf
    refine gx_callV (st := []) C (w_J9_equals hlt g6) (is_J9_equals g6) gz_10 rfl (lw_V q1228 q1229 q1230 q134 q1231) gz_227 (by decide) rfl rfl (gx_catn (Nat.le_of_ble_eq_true rfl)) dX11_statement_127 ?_
    replace hf := gx_ite hf
    rcases hf with ⟨c8, hf⟩ | ⟨c8, hf⟩
    · refine gx_ifz_eq_f (tgt := 149) C dX11_statement_130 rfl c8 ?_
      refine gx_iconst (v := 4) C dX11_statement_133 rfl ?_
      refine gx_istn C dX11_statement_134 3 rfl (by decide) [2]  rfl (gx_okn rfl rfl gx_ok0) ?_
      refine gx_goto (tgt := 149) C dX11_statement_135 rfl ?_
      refine gx_sub [1, 0] rfl ?_
      exact w_X11_statement_b149 hlt C hx hf
    · refine gx_ifz_eq_t (tgt := 149) C dX11_statement_130 rfl c8 ?_
      refine gx_sub [2, 0] rfl ?_
      exact w_X11_statement_b149 hlt C hx hf
  replace hf := gx_ite hf
  rcases hf with ⟨c68, hf⟩ | ⟨c68, hf⟩
  · refine gx_lsw (tgt := 138) (off := 130) C dX11_statement_8 (by decide) (by rw [c68]; decide) rfl ?_
    refine gx_aload_n C dX11_statement_138 1 rfl ?_
    refine gx_ldcS C 14 rfl dX11_statement_139 ?_
    replace hf := gx_bs hf
    obtain ⟨b70, g69, hf⟩ := hf
    refine gx_callV (st := []) C (w_J9_equals hlt g69) (is_J9_equals g69) gz_10 rfl (lw_V q1228 q1229 q1230 q134 q1231) gz_227 (by decide) rfl rfl (gx_catn (Nat.le_of_ble_eq_true rfl)) dX11_statement_141 ?_
    replace hf := gx_ite hf
    rcases hf with ⟨c71, hf⟩ | ⟨c71, hf⟩
    · refine gx_ifz_eq_f (tgt := 149) C dX11_statement_144 rfl c71 ?_
      refine gx_iconst (v := 5) C dX11_statement_147 rfl ?_
      refine gx_istn C dX11_statement_148 3 rfl (by decide) [2]  rfl (gx_okn rfl rfl gx_ok0) ?_
      refine gx_sub [1, 0] rfl ?_
      exact w_X11_statement_b149 hlt C hx hf
    · refine gx_ifz_eq_t (tgt := 149) C dX11_statement_144 rfl c71 ?_
      refine gx_sub [2, 0] rfl ?_
      exact w_X11_statement_b149 hlt C hx hf
  replace hf := gx_ite hf
  rcases hf with ⟨c72, hf⟩ | ⟨c72, hf⟩
  · refine gx_lsw (tgt := 110) (off := 102) C dX11_statement_8 (by decide) (by rw [c72]; decide) rfl ?_
    refine gx_aload_n C dX11_statement_110 1 rfl ?_
    refine gx_ldcS C 12 rfl dX11_statement_111 ?_
    replace hf := gx_bs hf
    obtain ⟨b74, g73, hf⟩ := hf
    refine gx_callV (st := []) C (w_J9_equals hlt g73) (is_J9_equals g73) gz_10 rfl (lw_V q1228 q1229 q1230 q134 q1231) gz_227 (by decide) rfl rfl (gx_catn (Nat.le_of_ble_eq_true rfl)) dX11_statement_113 ?_
    replace hf := gx_ite hf
    rcases hf with ⟨c75, hf⟩ | ⟨c75, hf⟩
    · refine gx_ifz_eq_f (tgt := 149) C dX11_statement_116 rfl c75 ?_
      refine gx_iconst (v := 3) C dX11_statement_119 rfl ?_
      refine gx_istn C dX11_statement_120 3 rfl (by decide) [2]  rfl (gx_okn rfl rfl gx_ok0) ?_
      refine gx_goto (tgt := 149) C dX11_statement_121 rfl ?_
      refine gx_sub [1, 0] rfl ?_
      exact w_X11_statement_b149 hlt C hx hf
    · refine gx_ifz_eq_t (tgt := 149) C dX11_statement_116 rfl c75 ?_
      refine gx_sub [2, 0] rfl ?_
      exact w_X11_statement_b149 hlt C hx hf
  replace hf := gx_ite hf
  rcases hf with ⟨c76, hf⟩ | ⟨c76, hf⟩
  · refine gx_lsw (tgt := 96) (off := 88) C dX11_statement_8 (by decide) (by rw [c76]; decide) rfl ?_
    refine gx_aload_n C dX11_statement_96 1 rfl ?_
    refine gx_ldcS C 11 rfl dX11_statement_97 ?_
    replace hf := gx_bs hf
    obtain ⟨b78, g77, hf⟩ := hf
    refine gx_callV (st := []) C (w_J9_equals hlt g77) (is_J9_equals g77) gz_10 rfl (lw_V q1228 q1229 q1230 q134 q1231) gz_227 (by decide) rfl rfl (gx_catn (Nat.le_of_ble_eq_true rfl)) dX11_statement_99 ?_
    replace hf := gx_ite hf
    rcases hf with ⟨c79, hf⟩ | ⟨c79, hf⟩
    · refine gx_ifz_eq_f (tgt := 149) C dX11_statement_102 rfl c79 ?_
      refine gx_iconst (v := 2) C dX11_statement_105 rfl ?_
      refine gx_istn C dX11_statement_106 3 rfl (by decide) [2]  rfl (gx_okn rfl rfl gx_ok0) ?_
      refine gx_goto (tgt := 149) C dX11_statement_107 rfl ?_
      refine gx_sub [1, 0] rfl ?_
      exact w_X11_statement_b149 hlt C hx hf
    · refine gx_ifz_eq_t (tgt := 149) C dX11_statement_102 rfl c79 ?_
      refine gx_sub [2, 0] rfl ?_
      exact w_X11_statement_b149 hlt C hx hf
  replace hf := gx_ite hf
  rcases hf with ⟨c80, hf⟩ | ⟨c80, hf⟩
  · refine gx_lsw (tgt := 82) (off := 74) C dX11_statement_8 (by decide) (by rw [c80]; decide) rfl ?_
    refine gx_aload_n C dX11_statement_82 1 rfl ?_
    refine gx_ldcS C 10 rfl dX11_statement_83 ?_
    replace hf := gx_bs hf
    obtain ⟨b82, g81, hf⟩ := hf
    refine gx_callV (st := []) C (w_J9_equals hlt g81) (is_J9_equals g81) gz_10 rfl (lw_V q1228 q1229 q1230 q134 q1231) gz_227 (by decide) rfl rfl (gx_catn (Nat.le_of_ble_eq_true rfl)) dX11_statement_85 ?_
    replace hf := gx_ite hf
    rcases hf with ⟨c83, hf⟩ | ⟨c83, hf⟩
    · refine gx_ifz_eq_f (tgt := 149) C dX11_statement_88 rfl c83 ?_
      refine gx_iconst (v := 1) C dX11_statement_91 rfl ?_
      refine gx_istn C dX11_statement_92 3 rfl (by decide) [2]  rfl (gx_okn rfl rfl gx_ok0) ?_
      refine gx_goto (tgt := 149) C dX11_statement_93 rfl ?_
      refine gx_sub [1, 0] rfl ?_
      exact w_X11_statement_b149 hlt C hx hf
    · refine gx_ifz_eq_t (tgt := 149) C dX11_statement_88 rfl c83 ?_
      refine gx_sub [2, 0] rfl ?_
      exact w_X11_statement_b149 hlt C hx hf
  replace hf := gx_ite hf
  rcases hf with ⟨c84, hf⟩ | ⟨c84, hf⟩
  · refine gx_lsw (tgt := 68) (off := 60) C dX11_statement_8 (by decide) (by rw [c84]; decide) rfl ?_
    refine gx_aload_n C dX11_statement_68 1 rfl ?_
    refine gx_ldcS C 9 rfl dX11_statement_69 ?_
    replace hf := gx_bs hf
    obtain ⟨b86, g85, hf⟩ := hf
    refine gx_callV (st := []) C (w_J9_equals hlt g85) (is_J9_equals g85) gz_10 rfl (lw_V q1228 q1229 q1230 q134 q1231) gz_227 (by decide) rfl rfl (gx_catn (Nat.le_of_ble_eq_true rfl)) dX11_statement_71 ?_
    replace hf := gx_ite hf
    rcases hf with ⟨c87, hf⟩ | ⟨c87, hf⟩
    · refine gx_ifz_eq_f (tgt := 149) C dX11_statement_74 rfl c87 ?_
      refine gx_iconst (v := 0) C dX11_statement_77 rfl ?_
      refine gx_istn C dX11_statement_78 3 rfl (by decide) [2]  rfl (gx_okn rfl rfl gx_ok0) ?_
      refine gx_goto (tgt := 149) C dX11_statement_79 rfl ?_
      refine gx_sub [1, 0] rfl ?_
      exact w_X11_statement_b149 hlt C hx hf
    · refine gx_ifz_eq_t (tgt := 149) C dX11_statement_74 rfl c87 ?_
      refine gx_sub [2, 0] rfl ?_
      exact w_X11_statement_b149 hlt C hx hf
  refine gx_lsw (tgt := 149) (off := 141) C dX11_statement_8 (by decide) (gx_lswd (gx_lq1 (gx_lsn2 (by decide) c5) (gx_lq1 (gx_lsn2 (by decide) c68) (gx_lq1 (gx_lsn2 (by decide) c72) (gx_lq1 (gx_lsn2 (by decide) c76) (gx_lq1 (gx_lsn2 (by decide) c80) (gx_lq1 (gx_lsn2 (by decide) c84) gx_lq0))))))) rfl ?_
  refine gx_sub [2, 0] rfl ?_
  exact w_X11_statement_b149 hlt C hx hf
theorem le_X11_statement {D : gx_D} {r : Unit ⊕ (String × Nat)} {hz : HX} {h : HX} {a0 : Nat} {p1 : Option Nat} (hf : f_X11_statement D h a0 p1 = some (r, hz)) : gx_le h hz := by
  unfold f_X11_statement at hf
  replace hf := gx_bs hf
  obtain ⟨_, -, hf⟩ := hf
  replace hf := gx_bs hf
  obtain ⟨a1, rfl, hf⟩ := hf
  replace hf := gx_b2s hf
  obtain ⟨x3, h4, g2, hf⟩ := hf
  refine (le_J9_hashCode g2).tr ?_
  replace hf := gx_ite hf
  rcases hf with ⟨c5, hf⟩ | ⟨c5, hf⟩
  · replace hf := gx_bs hf
    obtain ⟨b7, g6, hf⟩ := hf
    replace hf := gx_ite hf
    rcases hf with ⟨c8, hf⟩ | ⟨c8, hf⟩
    · exact le_X11_statement_b149 hf
    · exact le_X11_statement_b149 hf
  replace hf := gx_ite hf
  rcases hf with ⟨c68, hf⟩ | ⟨c68, hf⟩
  · replace hf := gx_bs hf
    obtain ⟨b70, g69, hf⟩ := hf
    replace hf := gx_ite hf
    rcases hf with ⟨c71, hf⟩ | ⟨c71, hf⟩
    · exact le_X11_statement_b149 hf
    · exact le_X11_statement_b149 hf
  replace hf := gx_ite hf
  rcases hf with ⟨c72, hf⟩ | ⟨c72, hf⟩
  · replace hf := gx_bs hf
    obtain ⟨b74, g73, hf⟩ := hf
    replace hf := gx_ite hf
    rcases hf with ⟨c75, hf⟩ | ⟨c75, hf⟩
    · exact le_X11_statement_b149 hf
    · exact le_X11_statement_b149 hf
  replace hf := gx_ite hf
  rcases hf with ⟨c76, hf⟩ | ⟨c76, hf⟩
  · replace hf := gx_bs hf
    obtain ⟨b78, g77, hf⟩ := hf
    replace hf := gx_ite hf
    rcases hf with ⟨c79, hf⟩ | ⟨c79, hf⟩
    · exact le_X11_statement_b149 hf
    · exact le_X11_statement_b149 hf
  replace hf := gx_ite hf
  rcases hf with ⟨c80, hf⟩ | ⟨c80, hf⟩
  · replace hf := gx_bs hf
    obtain ⟨b82, g81, hf⟩ := hf
    replace hf := gx_ite hf
    rcases hf with ⟨c83, hf⟩ | ⟨c83, hf⟩
    · exact le_X11_statement_b149 hf
    · exact le_X11_statement_b149 hf
  replace hf := gx_ite hf
  rcases hf with ⟨c84, hf⟩ | ⟨c84, hf⟩
  · replace hf := gx_bs hf
    obtain ⟨b86, g85, hf⟩ := hf
    replace hf := gx_ite hf
    rcases hf with ⟨c87, hf⟩ | ⟨c87, hf⟩
    · exact le_X11_statement_b149 hf
    · exact le_X11_statement_b149 hf
  exact le_X11_statement_b149 hf
theorem w_X11_statement {l : Launch} (hlt : l.stackTraces = false) {D : gx_D} {h : HX} {a0 : Nat} {p1 : Option Nat} {r : Unit ⊕ (String × Nat)} {hz : HX} (hf : f_X11_statement D h a0 p1 = some (r, hz)) : gx_MetX l yX11_statement (ws_ yX11_statement cX11_statement 4 none) 14 330 D [(va_rf (some a0)), (va_rf p1)] h (gx_xv r) hz :=
  gx_ofGX gz_192 (by simp only [gx_lsr, gx_lsi, gx_lsj, gx_ls0]; decide) (le_X11_statement hf) (fun p e R s m args below meth c C hn hx => by
    simp only [gx_lar, gx_lai, gx_laj, gx_la0, Nat.reduceAdd]
    exact w_X11_statement_b hlt C hx hf)
def f_X11_parse_b55 (D : gx_D) (h : HX) (v0 : Nat) (s0 : Bool) (s1 : Option Nat) : Option ((Option Nat ⊕ (String × Nat)) × HX) :=
  s1.bind fun a23 =>
  (hx_is h a23 [16]).bind fun _ =>
  gx_bx (f_X10_expect D h a23 s0 (7 : Int32)) (fun u29 h26 =>
  (hx_gr h26 v0 [16] 7).bind fun r30 =>
  (hx_gr h26 v0 [16] 6).bind fun r31 =>
  r31.bind fun a32 =>
  (hx_gi h26 a32 [10] 4).bind fun x33 =>
  r30.bind fun a34 =>
  (hx_pi h26 a34 [11] 6 x33).bind fun h35 =>
  (hx_gr h35 v0 [16] 7).bind fun r36 =>
  r36.bind fun a37 =>
  (f_X4_clear D h35 a37).bind fun h39 =>
  (hx_gr h39 v0 [16] 7).bind fun r40 =>
  some (.inl r40, h39)) fun E27 q28 h26 =>
  some (.inr (E27, q28), h26)
theorem w_X11_parse_b55 {l : Launch} (hlt : l.stackTraces = false) {p : Program} {e : Env} {R : Room} {s : State} {m : MethodId} {args : Array Value} {below : List Frame} {meth : Method} {c : Code} {D : gx_D} {h0 : HX} {r : Option Nat ⊕ (String × Nat)} {hz : HX} (C : gx_Ctx p R s m args meth c "ContractMachine$SetupParser" cX11_parse 1 (some (.object "ContractMachine$Run")) 15 353 D h0 hz) (hx : ∀ x ∈ c.exceptionTable.toList, False)  {h : HX} {v0 : Nat} {s0 : Bool} {s1 : Option Nat} (hf : f_X11_parse_b55 D h v0 s0 s1 = some (r, hz)) : gx_G p l e R s m args below meth c D h0 hz 1 (gx_MQX below args s D h0 hz (gx_xa r)) 55 [(0, (va_rf (some v0)))] [(.int (b2i s0)), (va_rf s1)] h := by
  unfold f_X11_parse_b55 at hf
  refine gx_bipush (v := 7) C dX11_parse_55 rfl ?_
  replace hf := gx_bs hf
  obtain ⟨a23, rfl, hf⟩ := hf
  replace hf := gx_bs hf
  obtain ⟨_, g24, hf⟩ := hf
  replace hf := gx_bxs hf
  rcases hf with ⟨u29, h26, g25, hf⟩ | ⟨E27, q28, h26, g25, hf⟩
  · refine gx_xcallU (st := []) C (w_X10_expect hlt g25) (hx_is_of g24) q1247 q1248 (gx_decl C q1249) ⟨by decide, by decide⟩ (gx_cis1 gz_129 (C.hts _ q1250) gx_cis0) q1251 q152 q1252 gz_230 (by decide) rfl rfl (gx_catn (Nat.le_of_ble_eq_true rfl)) dX11_parse_57 (gx_k2l ?_)
    refine gx_aload_n C dX11_parse_60 0 rfl ?_
    replace hf := gx_bs hf
    obtain ⟨r30, g46, hf⟩ := hf
    refine gx_gr C g46 gz_190 q1123 dX11_parse_61 ?_
    refine gx_aload_n C dX11_parse_64 0 rfl ?_
    replace hf := gx_bs hf
    obtain ⟨r31, g45, hf⟩ := hf
    refine gx_gr C g45 gz_189 q1121 dX11_parse_65 ?_
    replace hf := gx_bs hf
    obtain ⟨a32, rfl, hf⟩ := hf
    replace hf := gx_bs hf
    obtain ⟨x33, g44, hf⟩ := hf
    refine gx_giN C g44 gz_49 q575 dX11_parse_68 ?_
    replace hf := gx_bs hf
    obtain ⟨a34, rfl, hf⟩ := hf
    replace hf := gx_bs hf
    obtain ⟨h35, g43, hf⟩ := hf
    refine gx_putvN C g43 gz_65 gz_1 rfl rfl q615 dX11_parse_71 ?_
    refine gx_aload_n C dX11_parse_74 0 rfl ?_
    replace hf := gx_bs hf
    obtain ⟨r36, g42, hf⟩ := hf
    refine gx_gr C g42 gz_190 q1123 dX11_parse_75 ?_
    replace hf := gx_bs hf
    obtain ⟨a37, rfl, hf⟩ := hf
    replace hf := gx_bs hf
    obtain ⟨h39, g38, hf⟩ := hf
    refine gx_callV (st := []) C (w_X4_clear hlt g38) (is_X4_clear g38) gz_13 rfl (lw_V q1472 q874 q875 q144 q876) gz_104 (by decide) rfl rfl (gx_catn (Nat.le_of_ble_eq_true rfl)) dX11_parse_78 ?_
    refine gx_aload_n C dX11_parse_81 0 rfl ?_
    replace hf := gx_bs hf
    obtain ⟨r40, g41, hf⟩ := hf
    refine gx_gr C g41 gz_190 q1123 dX11_parse_82 ?_
    obtain ⟨rfl, rfl⟩ := Prod.mk.inj (Option.some.inj hf)
    exact gx_ret (gx_aret C rfl rfl dX11_parse_85)
  · refine gx_xcallU (st := []) C (w_X10_expect hlt g25) (hx_is_of g24) q1247 q1248 (gx_decl C q1249) ⟨by decide, by decide⟩ (gx_cis1 gz_129 (C.hts _ q1250) gx_cis0) q1251 q152 q1252 gz_230 (by decide) rfl rfl (gx_catn (Nat.le_of_ble_eq_true rfl)) dX11_parse_57 (gx_k2r ?_)
    obtain ⟨rfl, rfl⟩ := Prod.mk.inj (Option.some.inj hf)
    exact gx_out C hx
theorem le_X11_parse_b55 {D : gx_D} {r : Option Nat ⊕ (String × Nat)} {hz : HX} {h : HX} {v0 : Nat} {s0 : Bool} {s1 : Option Nat} (hf : f_X11_parse_b55 D h v0 s0 s1 = some (r, hz)) : gx_le h hz := by
  unfold f_X11_parse_b55 at hf
  replace hf := gx_bs hf
  obtain ⟨a23, rfl, hf⟩ := hf
  replace hf := gx_bs hf
  obtain ⟨_, g24, hf⟩ := hf
  replace hf := gx_bxs hf
  rcases hf with ⟨u29, h26, g25, hf⟩ | ⟨E27, q28, h26, g25, hf⟩
  · refine (le_X10_expect g25).tr ?_
    replace hf := gx_bs hf
    obtain ⟨r30, g46, hf⟩ := hf
    replace hf := gx_bs hf
    obtain ⟨r31, g45, hf⟩ := hf
    replace hf := gx_bs hf
    obtain ⟨a32, rfl, hf⟩ := hf
    replace hf := gx_bs hf
    obtain ⟨x33, g44, hf⟩ := hf
    replace hf := gx_bs hf
    obtain ⟨a34, rfl, hf⟩ := hf
    replace hf := gx_bs hf
    obtain ⟨h35, g43, hf⟩ := hf
    refine (hx_le_pv g43).tr ?_
    replace hf := gx_bs hf
    obtain ⟨r36, g42, hf⟩ := hf
    replace hf := gx_bs hf
    obtain ⟨a37, rfl, hf⟩ := hf
    replace hf := gx_bs hf
    obtain ⟨h39, g38, hf⟩ := hf
    refine (le_X4_clear g38).tr ?_
    replace hf := gx_bs hf
    obtain ⟨r40, g41, hf⟩ := hf
    obtain ⟨rfl, rfl⟩ := Prod.mk.inj (Option.some.inj hf)
    exact gx_le.rf
  · refine (le_X10_expect g25).tr ?_
    obtain ⟨rfl, rfl⟩ := Prod.mk.inj (Option.some.inj hf)
    exact gx_le.rf
def f_X11_parse_b18 (D : gx_D) (h : HX) (v0 : Nat) : Option ((Option Nat ⊕ (String × Nat)) × HX) :=
  (hx_gr h v0 [16] 6).bind fun r5 =>
  r5.bind fun a6 =>
  (f_X3_isComplete D h a6).bind fun b8 =>
  (hx_is h v0 [16]).bind fun _ =>
  gx_bx (f_X10_expect D h v0 b8 (6 : Int32)) (fun u14 h11 =>
  (hx_gr h11 v0 [16] 7).bind fun r15 =>
  (hx_gr h11 v0 [16] 6).bind fun r16 =>
  r16.bind fun a17 =>
  (hx_gi h11 a17 [10] 4).bind fun x18 =>
  r15.bind fun a19 =>
  (f_X4_broken D h11 a19 x18).bind fun x21 =>
  if x21 = (-1 : Int32) then
  f_X11_parse_b55 D h11 v0 true (some v0)
  else
  f_X11_parse_b55 D h11 v0 false (some v0)) fun E12 q13 h11 =>
  some (.inr (E12, q13), h11)
theorem w_X11_parse_b18 {l : Launch} (hlt : l.stackTraces = false) {p : Program} {e : Env} {R : Room} {s : State} {m : MethodId} {args : Array Value} {below : List Frame} {meth : Method} {c : Code} {D : gx_D} {h0 : HX} {r : Option Nat ⊕ (String × Nat)} {hz : HX} (C : gx_Ctx p R s m args meth c "ContractMachine$SetupParser" cX11_parse 1 (some (.object "ContractMachine$Run")) 15 353 D h0 hz) (hx : ∀ x ∈ c.exceptionTable.toList, False)  {h : HX} {v0 : Nat} (hf : f_X11_parse_b18 D h v0 = some (r, hz)) : gx_G p l e R s m args below meth c D h0 hz 1 (gx_MQX below args s D h0 hz (gx_xa r)) 18 [(0, (va_rf (some v0)))] [] h := by
  unfold f_X11_parse_b18 at hf
  refine gx_aload_n C dX11_parse_18 0 rfl ?_
  refine gx_aload_n C dX11_parse_19 0 rfl ?_
  replace hf := gx_bs hf
  obtain ⟨r5, g50, hf⟩ := hf
  refine gx_gr C g50 gz_189 q1121 dX11_parse_20 ?_
  replace hf := gx_bs hf
  obtain ⟨a6, rfl, hf⟩ := hf
  replace hf := gx_bs hf
  obtain ⟨b8, g7, hf⟩ := hf
  refine gx_callV (st := [(va_rf (some v0))]) C (w_X3_isComplete hlt g7) (is_X3_isComplete g7) gz_111 rfl (lw_V q1417 q1418 q1419 q124 q1420) gz_257 (by decide) rfl rfl (gx_catn (Nat.le_of_ble_eq_true rfl)) dX11_parse_23 ?_
  refine gx_bipush (v := 6) C dX11_parse_26 rfl ?_
  replace hf := gx_bs hf
  obtain ⟨_, g9, hf⟩ := hf
  replace hf := gx_bxs hf
  rcases hf with ⟨u14, h11, g10, hf⟩ | ⟨E12, q13, h11, g10, hf⟩
  · refine gx_xcallU (st := []) C (w_X10_expect hlt g10) (hx_is_of g9) q1247 q1248 (gx_decl C q1249) ⟨by decide, by decide⟩ (gx_cis1 gz_129 (C.hts _ q1250) gx_cis0) q1251 q152 q1252 gz_230 (by decide) rfl rfl (gx_catn (Nat.le_of_ble_eq_true rfl)) dX11_parse_28 (gx_k2l ?_)
    refine gx_aload_n C dX11_parse_31 0 rfl ?_
    refine gx_aload_n C dX11_parse_32 0 rfl ?_
    replace hf := gx_bs hf
    obtain ⟨r15, g49, hf⟩ := hf
    refine gx_gr C g49 gz_190 q1123 dX11_parse_33 ?_
    refine gx_aload_n C dX11_parse_36 0 rfl ?_
    replace hf := gx_bs hf
    obtain ⟨r16, g48, hf⟩ := hf
    refine gx_gr C g48 gz_189 q1121 dX11_parse_37 ?_
    replace hf := gx_bs hf
    obtain ⟨a17, rfl, hf⟩ := hf
    replace hf := gx_bs hf
    obtain ⟨x18, g47, hf⟩ := hf
    refine gx_giN C g47 gz_49 q575 dX11_parse_40 ?_
    replace hf := gx_bs hf
    obtain ⟨a19, rfl, hf⟩ := hf
    replace hf := gx_bs hf
    obtain ⟨x21, g20, hf⟩ := hf
    refine gx_callV (st := [(va_rf (some v0))]) C (w_X4_broken hlt g20) (is_X4_broken g20) gz_13 rfl (lw_V q1430 q1431 q1432 q144 q1433) gz_258 (by decide) rfl rfl (gx_catn (Nat.le_of_ble_eq_true rfl)) dX11_parse_43 ?_
    refine gx_iconst (v := -1) C dX11_parse_46 rfl ?_
    replace hf := gx_ite hf
    rcases hf with ⟨c22, hf⟩ | ⟨c22, hf⟩
    · refine gx_icmp_ne_f (tgt := 54) C dX11_parse_47 rfl c22 ?_
      refine gx_iconst (v := 1) C dX11_parse_50 rfl ?_
      refine gx_goto (tgt := 55) C dX11_parse_51 rfl ?_
      refine gx_sub [0] rfl ?_
      exact w_X11_parse_b55 hlt C hx hf
    · refine gx_icmp_ne_t (tgt := 54) C dX11_parse_47 rfl c22 ?_
      refine gx_iconst (v := 0) C dX11_parse_54 rfl ?_
      refine gx_sub [0] rfl ?_
      exact w_X11_parse_b55 hlt C hx hf
  · refine gx_xcallU (st := []) C (w_X10_expect hlt g10) (hx_is_of g9) q1247 q1248 (gx_decl C q1249) ⟨by decide, by decide⟩ (gx_cis1 gz_129 (C.hts _ q1250) gx_cis0) q1251 q152 q1252 gz_230 (by decide) rfl rfl (gx_catn (Nat.le_of_ble_eq_true rfl)) dX11_parse_28 (gx_k2r ?_)
    obtain ⟨rfl, rfl⟩ := Prod.mk.inj (Option.some.inj hf)
    exact gx_out C hx
theorem le_X11_parse_b18 {D : gx_D} {r : Option Nat ⊕ (String × Nat)} {hz : HX} {h : HX} {v0 : Nat} (hf : f_X11_parse_b18 D h v0 = some (r, hz)) : gx_le h hz := by
  unfold f_X11_parse_b18 at hf
  replace hf := gx_bs hf
  obtain ⟨r5, g50, hf⟩ := hf
  replace hf := gx_bs hf
  obtain ⟨a6, rfl, hf⟩ := hf
  replace hf := gx_bs hf
  obtain ⟨b8, g7, hf⟩ := hf
  replace hf := gx_bs hf
  obtain ⟨_, g9, hf⟩ := hf
  replace hf := gx_bxs hf
  rcases hf with ⟨u14, h11, g10, hf⟩ | ⟨E12, q13, h11, g10, hf⟩
  · refine (le_X10_expect g10).tr ?_
    replace hf := gx_bs hf
    obtain ⟨r15, g49, hf⟩ := hf
    replace hf := gx_bs hf
    obtain ⟨r16, g48, hf⟩ := hf
    replace hf := gx_bs hf
    obtain ⟨a17, rfl, hf⟩ := hf
    replace hf := gx_bs hf
    obtain ⟨x18, g47, hf⟩ := hf
    replace hf := gx_bs hf
    obtain ⟨a19, rfl, hf⟩ := hf
    replace hf := gx_bs hf
    obtain ⟨x21, g20, hf⟩ := hf
    replace hf := gx_ite hf
    rcases hf with ⟨c22, hf⟩ | ⟨c22, hf⟩
    · exact le_X11_parse_b55 hf
    · exact le_X11_parse_b55 hf
  · refine (le_X10_expect g10).tr ?_
    obtain ⟨rfl, rfl⟩ := Prod.mk.inj (Option.some.inj hf)
    exact gx_le.rf
def f_X11_parse_b0 (D : gx_D) : Nat → HX → Nat → Option ((Option Nat ⊕ (String × Nat)) × HX)
  | 0, _, _ => none
  | n + 1, h, v0 =>
  (hx_is h v0 [16]).bind fun _ =>
  (f_X10_isOver D h v0).bind fun b3 =>
  if b3 = true then
  f_X11_parse_b18 D h v0
  else
  (hx_is h v0 [16]).bind fun _ =>
  (f_X10_word D h v0).bind fun r53 =>
  gx_bx (f_X11_statement D h v0 r53) (fun u58 h55 =>
  (f_X11_parse_b0 D n) h55 v0) fun E56 q57 h55 =>
  some (.inr (E56, q57), h55)
theorem w_X11_parse_b0 {l : Launch} (hlt : l.stackTraces = false) {p : Program} {e : Env} {R : Room} {s : State} {m : MethodId} {args : Array Value} {below : List Frame} {meth : Method} {c : Code} {D : gx_D} {h0 : HX} {r : Option Nat ⊕ (String × Nat)} {hz : HX} (C : gx_Ctx p R s m args meth c "ContractMachine$SetupParser" cX11_parse 1 (some (.object "ContractMachine$Run")) 15 353 D h0 hz) (hx : ∀ x ∈ c.exceptionTable.toList, False)  : ∀ (n : Nat) ⦃h : HX⦄ ⦃v0 : Nat⦄, f_X11_parse_b0 D n h v0 = some (r, hz) → gx_G p l e R s m args below meth c D h0 hz 1 (gx_MQX below args s D h0 hz (gx_xa r)) 0 [(0, (va_rf (some v0)))] [] h := by
  intro n
  induction n with
  | zero => intro h v0 hf; unfold f_X11_parse_b0 at hf; cases hf
  | succ n wk0 =>
    intro h v0 hf
    unfold f_X11_parse_b0 at hf
    refine gx_aload_n C dX11_parse_0 0 rfl ?_
    replace hf := gx_bs hf
    obtain ⟨_, g1, hf⟩ := hf
    replace hf := gx_bs hf
    obtain ⟨b3, g2, hf⟩ := hf
    refine gx_callU (st := []) C (w_X10_isOver hlt g2) (hx_is_of g1) q1154 q1155 (gx_decl C q1156) ⟨by decide, by decide⟩ (gx_cis1 gz_129 (C.hts _ q1157) gx_cis0) q1158 q152 q1159 gz_256 (by decide) rfl rfl (gx_catn (Nat.le_of_ble_eq_true rfl)) dX11_parse_1 ?_
    replace hf := gx_ite hf
    rcases hf with ⟨c4, hf⟩ | ⟨c4, hf⟩
    · refine gx_ifz_ne_t (tgt := 18) C dX11_parse_4 rfl c4 ?_
      refine gx_sub [0] rfl ?_
      exact w_X11_parse_b18 hlt C hx hf
    · refine gx_ifz_ne_f (tgt := 18) C dX11_parse_4 rfl c4 ?_
      refine gx_aload_n C dX11_parse_7 0 rfl ?_
      refine gx_aload_n C dX11_parse_8 0 rfl ?_
      replace hf := gx_bs hf
      obtain ⟨_, g51, hf⟩ := hf
      replace hf := gx_bs hf
      obtain ⟨r53, g52, hf⟩ := hf
      refine gx_callU (st := [(va_rf (some v0))]) C (w_X10_word hlt g52) (hx_is_of g51) q1160 q1161 (gx_decl C q1162) ⟨by decide, by decide⟩ (gx_cis1 gz_129 (C.hts _ q1163) gx_cis0) q1164 q152 q1165 gz_259 (by decide) rfl rfl (gx_catn (Nat.le_of_ble_eq_true rfl)) dX11_parse_9 ?_
      replace hf := gx_bxs hf
      rcases hf with ⟨u58, h55, g54, hf⟩ | ⟨E56, q57, h55, g54, hf⟩
      · refine gx_xcallV (st := []) C (w_X11_statement hlt g54) (is_X11_statement g54) gz_129 rfl (lw_V q1166 q1168 qs12 q153 q1169) gz_260 (by decide) rfl rfl (gx_catn (Nat.le_of_ble_eq_true rfl)) dX11_parse_12 (gx_k2l ?_)
        refine gx_goto (tgt := 0) C dX11_parse_15 rfl ?_
        refine gx_sub [0] rfl ?_
        exact wk0 hf
      · refine gx_xcallV (st := []) C (w_X11_statement hlt g54) (is_X11_statement g54) gz_129 rfl (lw_V q1166 q1168 qs12 q153 q1169) gz_260 (by decide) rfl rfl (gx_catn (Nat.le_of_ble_eq_true rfl)) dX11_parse_12 (gx_k2r ?_)
        obtain ⟨rfl, rfl⟩ := Prod.mk.inj (Option.some.inj hf)
        exact gx_out C hx
theorem le_X11_parse_b0 {D : gx_D} {r : Option Nat ⊕ (String × Nat)} {hz : HX} : ∀ (n : Nat) ⦃h : HX⦄ ⦃v0 : Nat⦄, f_X11_parse_b0 D n h v0 = some (r, hz) → gx_le h hz := by
  intro n
  induction n with
  | zero => intro h v0 hf; unfold f_X11_parse_b0 at hf; cases hf
  | succ n lek0 =>
    intro h v0 hf
    unfold f_X11_parse_b0 at hf
    replace hf := gx_bs hf
    obtain ⟨_, g1, hf⟩ := hf
    replace hf := gx_bs hf
    obtain ⟨b3, g2, hf⟩ := hf
    replace hf := gx_ite hf
    rcases hf with ⟨c4, hf⟩ | ⟨c4, hf⟩
    · exact le_X11_parse_b18 hf
    · replace hf := gx_bs hf
      obtain ⟨_, g51, hf⟩ := hf
      replace hf := gx_bs hf
      obtain ⟨r53, g52, hf⟩ := hf
      replace hf := gx_bxs hf
      rcases hf with ⟨u58, h55, g54, hf⟩ | ⟨E56, q57, h55, g54, hf⟩
      · refine (le_X11_statement g54).tr ?_
        exact lek0 hf
      · refine (le_X11_statement g54).tr ?_
        obtain ⟨rfl, rfl⟩ := Prod.mk.inj (Option.some.inj hf)
        exact gx_le.rf
def f_X11_parse (D : gx_D) (h : HX) (a0 : Nat) : Option ((Option Nat ⊕ (String × Nat)) × HX) :=
  (hx_is h a0 [16]).bind fun _ =>
  f_X11_parse_b0 D gx_fuel h a0
theorem is_X11_parse {D : gx_D} {h : HX} {a0 : Nat} {z} (hf : f_X11_parse D h a0 = some z) : gx_isC h a0 [16] := by
  unfold f_X11_parse at hf
  obtain ⟨_, g, -⟩ := gx_bs hf
  exact hx_is_of g
theorem w_X11_parse_b {l : Launch} (hlt : l.stackTraces = false) {p : Program} {e : Env} {R : Room} {s : State} {m : MethodId} {args : Array Value} {below : List Frame} {meth : Method} {c : Code} {D : gx_D} {h0 : HX} {r : Option Nat ⊕ (String × Nat)} {hz : HX} (C : gx_Ctx p R s m args meth c "ContractMachine$SetupParser" cX11_parse 1 (some (.object "ContractMachine$Run")) 15 353 D h0 hz) (hx : ∀ x ∈ c.exceptionTable.toList, False) {a0 : Nat} (hf : f_X11_parse D h0 a0 = some (r, hz)) : gx_G p l e R s m args below meth c D h0 hz 1 (gx_MQX below args s D h0 hz (gx_xa r)) 0 [(0, (va_rf (some a0)))] [] h0 := by
  unfold f_X11_parse at hf
  replace hf := gx_bs hf
  obtain ⟨_, -, hf⟩ := hf
  refine gx_sub [0] rfl ?_
  exact w_X11_parse_b0 hlt C hx gx_fuel hf
theorem le_X11_parse {D : gx_D} {r : Option Nat ⊕ (String × Nat)} {hz : HX} {h : HX} {a0 : Nat} (hf : f_X11_parse D h a0 = some (r, hz)) : gx_le h hz := by
  unfold f_X11_parse at hf
  replace hf := gx_bs hf
  obtain ⟨_, -, hf⟩ := hf
  exact le_X11_parse_b0 gx_fuel hf
theorem w_X11_parse {l : Launch} (hlt : l.stackTraces = false) {D : gx_D} {h : HX} {a0 : Nat} {r : Option Nat ⊕ (String × Nat)} {hz : HX} (hf : f_X11_parse D h a0 = some (r, hz)) : gx_MetX l yX11_parse (ws_ yX11_parse cX11_parse 1 (some (.object "ContractMachine$Run"))) 15 353 D [(va_rf (some a0))] h (gx_xa r) hz :=
  gx_ofGX gz_192 (by simp only [gx_lsr, gx_lsi, gx_lsj, gx_ls0]; decide) (le_X11_parse hf) (fun p e R s m args below meth c C hn hx => by
    simp only [gx_lar, gx_lai, gx_laj, gx_la0, Nat.reduceAdd]
    exact w_X11_parse_b hlt C hx hf)
def f_X1_loadMachine (D : gx_D) (h : HX) (a0 : Nat) : Option ((Int32) × HX) :=
  (hx_is h a0 [9]).bind fun _ =>
  (f_X1_clearError D h a0).bind fun h2 =>
  gx_b2 (hx_new h2 9 16 gx_df16) fun a3 h4 =>
  (f_X11_init D h4 a3 (some a0)).bind fun h6 =>
  gx_bx (f_X11_parse D h6 a3) (fun r8 h9 =>
  (hx_pr h9 a0 [9] 6 r8).bind fun h12 =>
  (hx_gr h12 a3 [16] 6).bind fun r13 =>
  (hx_pr h12 a0 [9] 5 r13).bind fun h14 =>
  (hx_gr h14 a0 [9] 8).bind fun r15 =>
  r15.bind fun a16 =>
  (f_J17_clear D h14 a16).bind fun h18 =>
  (hx_pr h18 a0 [9] 7 none).bind fun h19 =>
  (hx_gr h19 a0 [9] 5).bind fun r20 =>
  r20.bind fun a21 =>
  (hx_gr h19 a21 [10] 0).bind fun r22 =>
  r22.bind fun a23 =>
  (f_J2_size D h19 a23).bind fun x25 =>
  (hx_pi h19 a0 [9] 2 (0 : Int32)).bind fun h26 =>
  some (x25, h26)) fun E10 q11 h9 =>
  if E10 = "ContractMachine$ParseException" then
  gx_b2 (f_X1_fail D h9 a0 (some q11)) fun x37 h38 =>
  (hx_pi h38 a0 [9] 2 (0 : Int32)).bind fun h39 =>
  some (x37, h39)
  else
  none
theorem is_X1_loadMachine {D : gx_D} {h : HX} {a0 : Nat} {z} (hf : f_X1_loadMachine D h a0 = some z) : gx_isC h a0 [9] := by
  unfold f_X1_loadMachine at hf
  obtain ⟨_, g, -⟩ := gx_bs hf
  exact hx_is_of g
theorem w_X1_loadMachine_b {l : Launch} (hlt : l.stackTraces = false) {p : Program} {e : Env} {R : Room} {s : State} {m : MethodId} {args : Array Value} {below : List Frame} {meth : Method} {c : Code} {D : gx_D} {h0 : HX} {r : Int32} {hz : HX} (C : gx_Ctx p R s m args meth c "ContractMachine" cX1_loadMachine 4 (some .int) 16 373 D h0 hz) (hx : c.exceptionTable.toList = tableOf [(4, 54, 61, 198), (4, 54, 75, 0), (61, 68, 75, 0)]) {a0 : Nat} (hf : f_X1_loadMachine D h0 a0 = some (r, hz)) : gx_G p l e R s m args below meth c D h0 hz 4 (gx_MQX below args s D h0 hz (.inl (some (.int r)))) 0 [(0, (va_rf (some a0)))] [] h0 := by
  unfold f_X1_loadMachine at hf
  replace hf := gx_bs hf
  obtain ⟨_, -, hf⟩ := hf
  refine gx_aload_n C dX1_loadMachine_0 0 rfl ?_
  replace hf := gx_bs hf
  obtain ⟨h2, g1, hf⟩ := hf
  refine gx_callV (st := []) C (w_X1_clearError hlt g1) (is_X1_clearError g1) gz_108 rfl (lw_V q961 q963 qs8 q121 q964) gz_264 (by decide) rfl rfl (gx_catn (Nat.le_of_ble_eq_true rfl)) dX1_loadMachine_1 ?_
  replace hf := gx_b2s hf
  obtain ⟨a3, h4, g41, hf⟩ := hf
  refine gx_newN C g41 gz_129 tyX11_ok gx_df16_ok q965 q966 q153 dX1_loadMachine_4 rfl ?_
  refine gx_dup C dX1_loadMachine_7 rfl ?_
  refine gx_aload_n C dX1_loadMachine_8 0 rfl ?_
  replace hf := gx_bs hf
  obtain ⟨h6, g5, hf⟩ := hf
  refine gx_callIN (st := [(va_rf (some a3))]) C (w_X11_init hlt g5) q967 q968 q153 q969 rfl gz_270 (by decide) rfl rfl (gx_catn (Nat.le_of_ble_eq_true rfl)) dX1_loadMachine_9 ?_
  refine gx_astn C dX1_loadMachine_12 1 rfl (by decide) [0]  rfl (gx_okr rfl gx_catv_r gx_ok0) ?_
  refine gx_aload_n C dX1_loadMachine_13 1 rfl ?_
  refine gx_aload_n C dX1_loadMachine_14 0 rfl ?_
  replace hf := gx_bxs hf
  rcases hf with ⟨r8, h9, g7, hf⟩ | ⟨E10, q11, h9, g7, hf⟩
  · refine gx_xcallV (st := [(va_rf (some a0))]) C (w_X11_parse hlt g7) (is_X11_parse g7) gz_129 rfl (lw_V q1150 q1151 q1152 q153 q1153) gz_266 (by decide) rfl rfl (gx_catn (Nat.le_of_ble_eq_true rfl)) dX1_loadMachine_15 (gx_k2l ?_)
    replace hf := gx_bs hf
    obtain ⟨h12, g34, hf⟩ := hf
    refine gx_putv C g34 gz_85 gz_86 (gx_narrow_r rfl _).1 (gx_narrow_r rfl _).2 q896 dX1_loadMachine_18 ?_
    refine gx_aload_n C dX1_loadMachine_21 1 rfl ?_
    refine gx_aload_n C dX1_loadMachine_22 0 rfl ?_
    replace hf := gx_bs hf
    obtain ⟨r13, g33, hf⟩ := hf
    refine gx_grN C g33 gz_189 q1122 dX1_loadMachine_23 ?_
    replace hf := gx_bs hf
    obtain ⟨h14, g32, hf⟩ := hf
    refine gx_putv C g32 gz_20 gz_83 (gx_narrow_r rfl _).1 (gx_narrow_r rfl _).2 q892 dX1_loadMachine_26 ?_
    refine gx_aload_n C dX1_loadMachine_29 1 rfl ?_
    replace hf := gx_bs hf
    obtain ⟨r15, g31, hf⟩ := hf
    refine gx_gr C g31 gz_88 q898 dX1_loadMachine_30 ?_
    replace hf := gx_bs hf
    obtain ⟨a16, rfl, hf⟩ := hf
    replace hf := gx_bs hf
    obtain ⟨h18, g17, hf⟩ := hf
    refine gx_callV (st := []) C (w_J17_clear hlt g17) (is_J17_clear g17) gz_115 rfl (lw_V q1473 q1474 q1475 q145 q1476) gz_267 (by decide) rfl rfl (gx_catn (Nat.le_of_ble_eq_true rfl)) dX1_loadMachine_33 ?_
    refine gx_aload_n C dX1_loadMachine_36 1 rfl ?_
    refine gx_null C dX1_loadMachine_37 ?_
    replace hf := gx_bs hf
    obtain ⟨h19, g30, hf⟩ := hf
    refine gx_putv C g30 gz_268 gz_86 (gx_narrow_r rfl _).1 (gx_narrow_r rfl _).2 q897 dX1_loadMachine_38 ?_
    refine gx_aload_n C dX1_loadMachine_41 1 rfl ?_
    replace hf := gx_bs hf
    obtain ⟨r20, g29, hf⟩ := hf
    refine gx_gr C g29 gz_20 q892 dX1_loadMachine_42 ?_
    replace hf := gx_bs hf
    obtain ⟨a21, rfl, hf⟩ := hf
    replace hf := gx_bs hf
    obtain ⟨r22, g28, hf⟩ := hf
    refine gx_grN C g28 gz_28 q560 dX1_loadMachine_45 ?_
    replace hf := gx_bs hf
    obtain ⟨a23, rfl, hf⟩ := hf
    replace hf := gx_bs hf
    obtain ⟨x25, g24, hf⟩ := hf
    refine gx_callF (st := []) C (w_J2_size hlt g24) (is_J2_size g24) q1481 (gx_cis1 gz_19 ⟨gz_51, q770⟩ gx_cis0) q772 q127 q774 gz_50 (by decide) rfl rfl (gx_catn (Nat.le_of_ble_eq_true rfl)) dX1_loadMachine_48 ?_
    refine gx_istn C dX1_loadMachine_53 2 rfl (by decide) [1]  rfl (gx_okn rfl rfl gx_ok0) ?_
    refine gx_aload_n C dX1_loadMachine_54 1 rfl ?_
    refine gx_iconst (v := 0) C dX1_loadMachine_55 rfl ?_
    replace hf := gx_bs hf
    obtain ⟨h26, g27, hf⟩ := hf
    refine gx_putv C g27 gz_119 gz_1 rfl rfl q886 dX1_loadMachine_56 ?_
    refine gx_iload_n C dX1_loadMachine_59 0 rfl ?_
    obtain ⟨rfl, rfl⟩ := Prod.mk.inj (Option.some.inj hf)
    exact gx_ret (gx_iret C dX1_loadMachine_60)
  · refine gx_xcallV (st := [(va_rf (some a0))]) C (w_X11_parse hlt g7) (is_X11_parse g7) gz_129 rfl (lw_V q1150 q1151 q1152 q153 q1153) gz_266 (by decide) rfl rfl (gx_catn (Nat.le_of_ble_eq_true rfl)) dX1_loadMachine_15 (gx_k2r ?_)
    replace hf := gx_ite hf
    rcases hf with ⟨c35, hf⟩ | ⟨c35, hf⟩
    · subst c35
      refine gx_catch C [] ⟨4, 54, 61, 198⟩ [⟨4, 54, 75, 0⟩, ⟨61, 68, 75, 0⟩] hx (fun _ h => nomatch h) rfl (by decide) q960 q1255 rfl ?_
      refine gx_astn C dX1_loadMachine_61 1 rfl (by decide) [1]  rfl (gx_okr rfl gx_catv_r gx_ok0) ?_
      refine gx_aload_n C dX1_loadMachine_62 1 rfl ?_
      refine gx_aload_n C dX1_loadMachine_63 0 rfl ?_
      replace hf := gx_b2s hf
      obtain ⟨x37, h38, g36, hf⟩ := hf
      refine gx_callV (st := []) C (w_X1_fail hlt g36) (is_X1_fail g36) gz_108 rfl (lw_V q1482 q1484 qs21 q121 q1485) gz_269 (by decide) rfl rfl (gx_catn (Nat.le_of_ble_eq_true rfl)) dX1_loadMachine_64 ?_
      refine gx_istn C dX1_loadMachine_67 2 rfl (by decide) [1]  rfl (gx_okn rfl rfl gx_ok0) ?_
      refine gx_aload_n C dX1_loadMachine_68 1 rfl ?_
      refine gx_iconst (v := 0) C dX1_loadMachine_69 rfl ?_
      replace hf := gx_bs hf
      obtain ⟨h39, g40, hf⟩ := hf
      refine gx_putv C g40 gz_119 gz_1 rfl rfl q886 dX1_loadMachine_70 ?_
      refine gx_iload_n C dX1_loadMachine_73 0 rfl ?_
      obtain ⟨rfl, rfl⟩ := Prod.mk.inj (Option.some.inj hf)
      exact gx_ret (gx_iret C dX1_loadMachine_74)
    cases hf
theorem le_X1_loadMachine {D : gx_D} {r : Int32} {hz : HX} {h : HX} {a0 : Nat} (hf : f_X1_loadMachine D h a0 = some (r, hz)) : gx_le h hz := by
  unfold f_X1_loadMachine at hf
  replace hf := gx_bs hf
  obtain ⟨_, -, hf⟩ := hf
  replace hf := gx_bs hf
  obtain ⟨h2, g1, hf⟩ := hf
  refine (le_X1_clearError g1).tr ?_
  replace hf := gx_b2s hf
  obtain ⟨a3, h4, g41, hf⟩ := hf
  refine (hx_le_new g41).tr ?_
  replace hf := gx_bs hf
  obtain ⟨h6, g5, hf⟩ := hf
  refine (le_X11_init g5).tr ?_
  replace hf := gx_bxs hf
  rcases hf with ⟨r8, h9, g7, hf⟩ | ⟨E10, q11, h9, g7, hf⟩
  · refine (le_X11_parse g7).tr ?_
    replace hf := gx_bs hf
    obtain ⟨h12, g34, hf⟩ := hf
    refine (hx_le_pv g34).tr ?_
    replace hf := gx_bs hf
    obtain ⟨r13, g33, hf⟩ := hf
    replace hf := gx_bs hf
    obtain ⟨h14, g32, hf⟩ := hf
    refine (hx_le_pv g32).tr ?_
    replace hf := gx_bs hf
    obtain ⟨r15, g31, hf⟩ := hf
    replace hf := gx_bs hf
    obtain ⟨a16, rfl, hf⟩ := hf
    replace hf := gx_bs hf
    obtain ⟨h18, g17, hf⟩ := hf
    refine (le_J17_clear g17).tr ?_
    replace hf := gx_bs hf
    obtain ⟨h19, g30, hf⟩ := hf
    refine (hx_le_pv g30).tr ?_
    replace hf := gx_bs hf
    obtain ⟨r20, g29, hf⟩ := hf
    replace hf := gx_bs hf
    obtain ⟨a21, rfl, hf⟩ := hf
    replace hf := gx_bs hf
    obtain ⟨r22, g28, hf⟩ := hf
    replace hf := gx_bs hf
    obtain ⟨a23, rfl, hf⟩ := hf
    replace hf := gx_bs hf
    obtain ⟨x25, g24, hf⟩ := hf
    replace hf := gx_bs hf
    obtain ⟨h26, g27, hf⟩ := hf
    refine (hx_le_pv g27).tr ?_
    obtain ⟨rfl, rfl⟩ := Prod.mk.inj (Option.some.inj hf)
    exact gx_le.rf
  · refine (le_X11_parse g7).tr ?_
    replace hf := gx_ite hf
    rcases hf with ⟨c35, hf⟩ | ⟨c35, hf⟩
    · subst c35
      replace hf := gx_b2s hf
      obtain ⟨x37, h38, g36, hf⟩ := hf
      refine (le_X1_fail g36).tr ?_
      replace hf := gx_bs hf
      obtain ⟨h39, g40, hf⟩ := hf
      refine (hx_le_pv g40).tr ?_
      obtain ⟨rfl, rfl⟩ := Prod.mk.inj (Option.some.inj hf)
      exact gx_le.rf
    cases hf
theorem w_X1_loadMachine {l : Launch} (hlt : l.stackTraces = false) {D : gx_D} {h : HX} {a0 : Nat} {r : Int32} {hz : HX} (hf : f_X1_loadMachine D h a0 = some (r, hz)) : gx_MetX l yX1_loadMachine (wsW_ yX1_loadMachine cX1_loadMachine 4 (some .int) [(4, 54, 61, 198), (4, 54, 75, 0), (61, 68, 75, 0)]) 16 373 D [(va_rf (some a0))] h (.inl (some (.int r))) hz :=
  gx_ofGW gz_26 (by simp only [gx_lsr, gx_lsi, gx_lsj, gx_ls0]; decide) (le_X1_loadMachine hf) (fun p e R s m args below meth c C hn hx => by
    simp only [gx_lar, gx_lai, gx_laj, gx_la0, Nat.reduceAdd]
    exact w_X1_loadMachine_b hlt C hx hf)
def f_X4_twin_b52 (D : gx_D) (h : HX) (v0 : Nat) (v1 : Option Nat) : Option ((Option Nat) × HX) :=
  (hx_gr h v0 [11] 1).bind fun r26 =>
  v1.bind fun a27 =>
  (hx_gr h a27 [11] 1).bind fun r28 =>
  r26.bind fun a29 =>
  r28.bind fun a30 =>
  (hx_cpy h a29 (0 : Int32) a30 (0 : Int32) (24 : Int32)).bind fun h31 =>
  (hx_gr h31 v0 [11] 2).bind fun r32 =>
  (hx_gr h31 a27 [11] 2).bind fun r33 =>
  r32.bind fun a34 =>
  r33.bind fun a35 =>
  (hx_cpy h31 a34 (0 : Int32) a35 (0 : Int32) (10 : Int32)).bind fun h36 =>
  (hx_gr h36 v0 [11] 3).bind fun r37 =>
  (hx_gr h36 a27 [11] 3).bind fun r38 =>
  r37.bind fun a39 =>
  r38.bind fun a40 =>
  (hx_cpy h36 a39 (0 : Int32) a40 (0 : Int32) (5 : Int32)).bind fun h41 =>
  (hx_gr h41 v0 [11] 4).bind fun r42 =>
  (hx_gr h41 a27 [11] 4).bind fun r43 =>
  r42.bind fun a44 =>
  r43.bind fun a45 =>
  (hx_cpy h41 a44 (0 : Int32) a45 (0 : Int32) (20 : Int32)).bind fun h46 =>
  (hx_gr h46 v0 [11] 5).bind fun r47 =>
  (hx_gr h46 a27 [11] 5).bind fun r48 =>
  r47.bind fun a49 =>
  r48.bind fun a50 =>
  (hx_cpy h46 a49 (0 : Int32) a50 (0 : Int32) (20 : Int32)).bind fun h51 =>
  (hx_gi h51 v0 [11] 6).bind fun x52 =>
  (hx_pi h51 a27 [11] 6 x52).bind fun h53 =>
  (hx_gi h53 v0 [11] 7).bind fun x54 =>
  (hx_pi h53 a27 [11] 7 x54).bind fun h55 =>
  (hx_gi h55 v0 [11] 8).bind fun x56 =>
  (hx_pi h55 a27 [11] 8 x56).bind fun h57 =>
  some ((some a27), h57)
theorem w_X4_twin_b52 {l : Launch} (hlt : l.stackTraces = false) {p : Program} {e : Env} {R : Room} {s : State} {m : MethodId} {args : Array Value} {below : List Frame} {meth : Method} {c : Code} {D : gx_D} {h0 : HX} {r : Option Nat} {hz : HX} (C : gx_Ctx p R s m args meth c "ContractMachine$Run" cX4_twin 5 (some (.object "ContractMachine$Run")) 5 105 D h0 hz) (hx : meth.name = "twin")  {h : HX} {v0 : Nat} {v1 : Option Nat} (hf : f_X4_twin_b52 D h v0 v1 = some (r, hz)) : gx_G p l e R s m args below meth c D h0 hz 5 (gx_MQ below args s D h0 hz (some (va_rf r))) 52 [(0, (va_rf (some v0))), (1, (va_rf v1))] [] h := by
  unfold f_X4_twin_b52 at hf
  refine gx_aload_n C dX4_twin_52 0 rfl ?_
  replace hf := gx_bs hf
  obtain ⟨r26, g78, hf⟩ := hf
  refine gx_gr C g78 gz_58 q598 dX4_twin_53 ?_
  refine gx_iconst (v := 0) C dX4_twin_56 rfl ?_
  refine gx_aload_n C dX4_twin_57 1 rfl ?_
  replace hf := gx_bs hf
  obtain ⟨a27, rfl, hf⟩ := hf
  replace hf := gx_bs hf
  obtain ⟨r28, g77, hf⟩ := hf
  refine gx_gr C g77 gz_58 q598 dX4_twin_58 ?_
  refine gx_iconst (v := 0) C dX4_twin_61 rfl ?_
  refine gx_bipush (v := 24) C dX4_twin_62 rfl ?_
  replace hf := gx_bs hf
  obtain ⟨a29, rfl, hf⟩ := hf
  replace hf := gx_bs hf
  obtain ⟨a30, rfl, hf⟩ := hf
  replace hf := gx_bs hf
  obtain ⟨h31, g76, hf⟩ := hf
  refine gx_copy (st := []) C g76 q1770 q348 q347 q139 (by decide) (by decide) dX4_twin_64 ?_
  refine gx_aload_n C dX4_twin_67 0 rfl ?_
  replace hf := gx_bs hf
  obtain ⟨r32, g75, hf⟩ := hf
  refine gx_gr C g75 gz_60 q601 dX4_twin_68 ?_
  refine gx_iconst (v := 0) C dX4_twin_71 rfl ?_
  refine gx_aload_n C dX4_twin_72 1 rfl ?_
  replace hf := gx_bs hf
  obtain ⟨r33, g74, hf⟩ := hf
  refine gx_gr C g74 gz_60 q601 dX4_twin_73 ?_
  refine gx_iconst (v := 0) C dX4_twin_76 rfl ?_
  refine gx_bipush (v := 10) C dX4_twin_77 rfl ?_
  replace hf := gx_bs hf
  obtain ⟨a34, rfl, hf⟩ := hf
  replace hf := gx_bs hf
  obtain ⟨a35, rfl, hf⟩ := hf
  replace hf := gx_bs hf
  obtain ⟨h36, g73, hf⟩ := hf
  refine gx_copy (st := []) C g73 q1770 q348 q347 q139 (by decide) (by decide) dX4_twin_79 ?_
  refine gx_aload_n C dX4_twin_82 0 rfl ?_
  replace hf := gx_bs hf
  obtain ⟨r37, g72, hf⟩ := hf
  refine gx_gr C g72 gz_61 q604 dX4_twin_83 ?_
  refine gx_iconst (v := 0) C dX4_twin_86 rfl ?_
  refine gx_aload_n C dX4_twin_87 1 rfl ?_
  replace hf := gx_bs hf
  obtain ⟨r38, g71, hf⟩ := hf
  refine gx_gr C g71 gz_61 q604 dX4_twin_88 ?_
  refine gx_iconst (v := 0) C dX4_twin_91 rfl ?_
  refine gx_iconst (v := 5) C dX4_twin_92 rfl ?_
  replace hf := gx_bs hf
  obtain ⟨a39, rfl, hf⟩ := hf
  replace hf := gx_bs hf
  obtain ⟨a40, rfl, hf⟩ := hf
  replace hf := gx_bs hf
  obtain ⟨h41, g70, hf⟩ := hf
  refine gx_copy (st := []) C g70 q1770 q348 q347 q139 (by decide) (by decide) dX4_twin_93 ?_
  refine gx_aload_n C dX4_twin_96 0 rfl ?_
  replace hf := gx_bs hf
  obtain ⟨r42, g69, hf⟩ := hf
  refine gx_gr C g69 gz_62 q607 dX4_twin_97 ?_
  refine gx_iconst (v := 0) C dX4_twin_100 rfl ?_
  refine gx_aload_n C dX4_twin_101 1 rfl ?_
  replace hf := gx_bs hf
  obtain ⟨r43, g68, hf⟩ := hf
  refine gx_gr C g68 gz_62 q607 dX4_twin_102 ?_
  refine gx_iconst (v := 0) C dX4_twin_105 rfl ?_
  refine gx_bipush (v := 20) C dX4_twin_106 rfl ?_
  replace hf := gx_bs hf
  obtain ⟨a44, rfl, hf⟩ := hf
  replace hf := gx_bs hf
  obtain ⟨a45, rfl, hf⟩ := hf
  replace hf := gx_bs hf
  obtain ⟨h46, g67, hf⟩ := hf
  refine gx_copy (st := []) C g67 q1770 q348 q347 q139 (by decide) (by decide) dX4_twin_108 ?_
  refine gx_aload_n C dX4_twin_111 0 rfl ?_
  replace hf := gx_bs hf
  obtain ⟨r47, g66, hf⟩ := hf
  refine gx_gr C g66 gz_63 q609 dX4_twin_112 ?_
  refine gx_iconst (v := 0) C dX4_twin_115 rfl ?_
  refine gx_aload_n C dX4_twin_116 1 rfl ?_
  replace hf := gx_bs hf
  obtain ⟨r48, g65, hf⟩ := hf
  refine gx_gr C g65 gz_63 q609 dX4_twin_117 ?_
  refine gx_iconst (v := 0) C dX4_twin_120 rfl ?_
  refine gx_bipush (v := 20) C dX4_twin_121 rfl ?_
  replace hf := gx_bs hf
  obtain ⟨a49, rfl, hf⟩ := hf
  replace hf := gx_bs hf
  obtain ⟨a50, rfl, hf⟩ := hf
  replace hf := gx_bs hf
  obtain ⟨h51, g64, hf⟩ := hf
  refine gx_copy (st := []) C g64 q1770 q348 q347 q139 (by decide) (by decide) dX4_twin_123 ?_
  refine gx_aload_n C dX4_twin_126 1 rfl ?_
  refine gx_aload_n C dX4_twin_127 0 rfl ?_
  replace hf := gx_bs hf
  obtain ⟨x52, g63, hf⟩ := hf
  refine gx_gi C g63 gz_65 q611 dX4_twin_128 ?_
  replace hf := gx_bs hf
  obtain ⟨h53, g62, hf⟩ := hf
  refine gx_putv C g62 gz_65 gz_1 rfl rfl q611 dX4_twin_131 ?_
  refine gx_aload_n C dX4_twin_134 1 rfl ?_
  refine gx_aload_n C dX4_twin_135 0 rfl ?_
  replace hf := gx_bs hf
  obtain ⟨x54, g61, hf⟩ := hf
  refine gx_gi C g61 gz_66 q616 dX4_twin_136 ?_
  replace hf := gx_bs hf
  obtain ⟨h55, g60, hf⟩ := hf
  refine gx_putv C g60 gz_66 gz_1 rfl rfl q616 dX4_twin_139 ?_
  refine gx_aload_n C dX4_twin_142 1 rfl ?_
  refine gx_aload_n C dX4_twin_143 0 rfl ?_
  replace hf := gx_bs hf
  obtain ⟨x56, g59, hf⟩ := hf
  refine gx_gi C g59 gz_67 q619 dX4_twin_144 ?_
  replace hf := gx_bs hf
  obtain ⟨h57, g58, hf⟩ := hf
  refine gx_putv C g58 gz_67 gz_1 rfl rfl q619 dX4_twin_147 ?_
  refine gx_aload_n C dX4_twin_150 1 rfl ?_
  obtain ⟨rfl, rfl⟩ := Prod.mk.inj (Option.some.inj hf)
  exact gx_aret C rfl rfl dX4_twin_151
theorem le_X4_twin_b52 {D : gx_D} {r : Option Nat} {hz : HX} {h : HX} {v0 : Nat} {v1 : Option Nat} (hf : f_X4_twin_b52 D h v0 v1 = some (r, hz)) : gx_le h hz := by
  unfold f_X4_twin_b52 at hf
  replace hf := gx_bs hf
  obtain ⟨r26, g78, hf⟩ := hf
  replace hf := gx_bs hf
  obtain ⟨a27, rfl, hf⟩ := hf
  replace hf := gx_bs hf
  obtain ⟨r28, g77, hf⟩ := hf
  replace hf := gx_bs hf
  obtain ⟨a29, rfl, hf⟩ := hf
  replace hf := gx_bs hf
  obtain ⟨a30, rfl, hf⟩ := hf
  replace hf := gx_bs hf
  obtain ⟨h31, g76, hf⟩ := hf
  refine (hx_le_cpy g76).tr ?_
  replace hf := gx_bs hf
  obtain ⟨r32, g75, hf⟩ := hf
  replace hf := gx_bs hf
  obtain ⟨r33, g74, hf⟩ := hf
  replace hf := gx_bs hf
  obtain ⟨a34, rfl, hf⟩ := hf
  replace hf := gx_bs hf
  obtain ⟨a35, rfl, hf⟩ := hf
  replace hf := gx_bs hf
  obtain ⟨h36, g73, hf⟩ := hf
  refine (hx_le_cpy g73).tr ?_
  replace hf := gx_bs hf
  obtain ⟨r37, g72, hf⟩ := hf
  replace hf := gx_bs hf
  obtain ⟨r38, g71, hf⟩ := hf
  replace hf := gx_bs hf
  obtain ⟨a39, rfl, hf⟩ := hf
  replace hf := gx_bs hf
  obtain ⟨a40, rfl, hf⟩ := hf
  replace hf := gx_bs hf
  obtain ⟨h41, g70, hf⟩ := hf
  refine (hx_le_cpy g70).tr ?_
  replace hf := gx_bs hf
  obtain ⟨r42, g69, hf⟩ := hf
  replace hf := gx_bs hf
  obtain ⟨r43, g68, hf⟩ := hf
  replace hf := gx_bs hf
  obtain ⟨a44, rfl, hf⟩ := hf
  replace hf := gx_bs hf
  obtain ⟨a45, rfl, hf⟩ := hf
  replace hf := gx_bs hf
  obtain ⟨h46, g67, hf⟩ := hf
  refine (hx_le_cpy g67).tr ?_
  replace hf := gx_bs hf
  obtain ⟨r47, g66, hf⟩ := hf
  replace hf := gx_bs hf
  obtain ⟨r48, g65, hf⟩ := hf
  replace hf := gx_bs hf
  obtain ⟨a49, rfl, hf⟩ := hf
  replace hf := gx_bs hf
  obtain ⟨a50, rfl, hf⟩ := hf
  replace hf := gx_bs hf
  obtain ⟨h51, g64, hf⟩ := hf
  refine (hx_le_cpy g64).tr ?_
  replace hf := gx_bs hf
  obtain ⟨x52, g63, hf⟩ := hf
  replace hf := gx_bs hf
  obtain ⟨h53, g62, hf⟩ := hf
  refine (hx_le_pv g62).tr ?_
  replace hf := gx_bs hf
  obtain ⟨x54, g61, hf⟩ := hf
  replace hf := gx_bs hf
  obtain ⟨h55, g60, hf⟩ := hf
  refine (hx_le_pv g60).tr ?_
  replace hf := gx_bs hf
  obtain ⟨x56, g59, hf⟩ := hf
  replace hf := gx_bs hf
  obtain ⟨h57, g58, hf⟩ := hf
  refine (hx_le_pv g58).tr ?_
  obtain ⟨rfl, rfl⟩ := Prod.mk.inj (Option.some.inj hf)
  exact gx_le.rf
def f_X4_twin_b18 (D : gx_D) : Nat → HX → Nat → Option Nat → Option Nat → Option ((Option Nat) × HX)
  | 0, _, _, _, _ => none
  | n + 1, h, v0, v1, v2 =>
  v2.bind fun a10 =>
  (f_J25_hasNext D h a10).bind fun b12 =>
  if b12 = true then
  gx_b2 (f_J25_next D h a10) fun r15 h16 =>
  (hx_cast h16 r15 [15]).bind fun u17 =>
  v1.bind fun a18 =>
  (hx_gr h16 a18 [11] 0).bind fun r19 =>
  r19.bind fun a20 =>
  gx_b2 (f_J2_add D h16 a20 r15) fun b22 h23 =>
  (f_X4_twin_b18 D n) h23 v0 (some a18) (some a10)
  else
  f_X4_twin_b52 D h v0 v1
theorem w_X4_twin_b18 {l : Launch} (hlt : l.stackTraces = false) {p : Program} {e : Env} {R : Room} {s : State} {m : MethodId} {args : Array Value} {below : List Frame} {meth : Method} {c : Code} {D : gx_D} {h0 : HX} {r : Option Nat} {hz : HX} (C : gx_Ctx p R s m args meth c "ContractMachine$Run" cX4_twin 5 (some (.object "ContractMachine$Run")) 5 105 D h0 hz) (hx : meth.name = "twin")  : ∀ (n : Nat) ⦃h : HX⦄ ⦃v0 : Nat⦄ ⦃v1 : Option Nat⦄ ⦃v2 : Option Nat⦄, f_X4_twin_b18 D n h v0 v1 v2 = some (r, hz) → gx_G p l e R s m args below meth c D h0 hz 5 (gx_MQ below args s D h0 hz (some (va_rf r))) 18 [(0, (va_rf (some v0))), (1, (va_rf v1)), (2, (va_rf v2))] [] h := by
  intro n
  induction n with
  | zero => intro h v0 v1 v2 hf; unfold f_X4_twin_b18 at hf; cases hf
  | succ n wk18 =>
    intro h v0 v1 v2 hf
    unfold f_X4_twin_b18 at hf
    refine gx_aload_n C dX4_twin_18 2 rfl ?_
    replace hf := gx_bs hf
    obtain ⟨a10, rfl, hf⟩ := hf
    replace hf := gx_bs hf
    obtain ⟨b12, g11, hf⟩ := hf
    refine gx_callF (st := []) C (w_J25_hasNext hlt g11) (is_J25_hasNext g11) q1744 (gx_cis1 gz_278 ⟨gz_284, q1748⟩ gx_cis0) q1750 q169 q1752 gz_283 (by decide) rfl rfl (gx_catn (Nat.le_of_ble_eq_true rfl)) dX4_twin_19 ?_
    replace hf := gx_ite hf
    rcases hf with ⟨c13, hf⟩ | ⟨c13, hf⟩
    · refine gx_ifz_eq_f (tgt := 52) C dX4_twin_24 rfl c13 ?_
      refine gx_aload_n C dX4_twin_27 2 rfl ?_
      replace hf := gx_b2s hf
      obtain ⟨r15, h16, g14, hf⟩ := hf
      refine gx_callF (st := []) C (w_J25_next hlt g14) (is_J25_next g14) q1754 (gx_cis1 gz_278 ⟨gz_286, q1757⟩ gx_cis0) q1759 q169 q1761 gz_285 (by decide) rfl rfl (gx_catn (Nat.le_of_ble_eq_true rfl)) dX4_twin_28 ?_
      replace hf := gx_bs hf
      obtain ⟨u17, g25, hf⟩ := hf
      refine gx_cast C g25 gz_223 q1438 dX4_twin_33 ?_
      refine gx_astn C dX4_twin_36 3 rfl (by decide) [0, 1, 2]  rfl (gx_okn rfl rfl (gx_okn rfl rfl (gx_okr rfl gx_catv_r gx_ok0))) ?_
      refine gx_aload_n C dX4_twin_37 2 rfl ?_
      replace hf := gx_bs hf
      obtain ⟨a18, rfl, hf⟩ := hf
      replace hf := gx_bs hf
      obtain ⟨r19, g24, hf⟩ := hf
      refine gx_gr C g24 gz_57 q595 dX4_twin_38 ?_
      refine gx_aload_n C dX4_twin_41 0 rfl ?_
      replace hf := gx_bs hf
      obtain ⟨a20, rfl, hf⟩ := hf
      replace hf := gx_b2s hf
      obtain ⟨b22, h23, g21, hf⟩ := hf
      refine gx_callF (st := []) C (w_J2_add hlt g21) (is_J2_add g21) q1769 (gx_cis1 gz_19 ⟨gz_24, q674⟩ gx_cis0) q676 q127 q678 gz_23 (by decide) rfl rfl (gx_catn (Nat.le_of_ble_eq_true rfl)) dX4_twin_42 ?_
      refine gx_ist C dX4_twin_47 (by decide) [1, 2, 3]  rfl (gx_okn rfl rfl (gx_okn rfl rfl (gx_okn rfl rfl gx_ok0))) ?_
      refine gx_goto (tgt := 18) C dX4_twin_49 rfl ?_
      refine gx_sub [1, 2, 3] rfl ?_
      exact wk18 hf
    · refine gx_ifz_eq_t (tgt := 52) C dX4_twin_24 rfl c13 ?_
      refine gx_sub [0, 1] rfl ?_
      exact w_X4_twin_b52 hlt C hx hf
theorem le_X4_twin_b18 {D : gx_D} {r : Option Nat} {hz : HX} : ∀ (n : Nat) ⦃h : HX⦄ ⦃v0 : Nat⦄ ⦃v1 : Option Nat⦄ ⦃v2 : Option Nat⦄, f_X4_twin_b18 D n h v0 v1 v2 = some (r, hz) → gx_le h hz := by
  intro n
  induction n with
  | zero => intro h v0 v1 v2 hf; unfold f_X4_twin_b18 at hf; cases hf
  | succ n lek18 =>
    intro h v0 v1 v2 hf
    unfold f_X4_twin_b18 at hf
    replace hf := gx_bs hf
    obtain ⟨a10, rfl, hf⟩ := hf
    replace hf := gx_bs hf
    obtain ⟨b12, g11, hf⟩ := hf
    replace hf := gx_ite hf
    rcases hf with ⟨c13, hf⟩ | ⟨c13, hf⟩
    · replace hf := gx_b2s hf
      obtain ⟨r15, h16, g14, hf⟩ := hf
      refine (le_J25_next g14).tr ?_
      replace hf := gx_bs hf
      obtain ⟨u17, g25, hf⟩ := hf
      replace hf := gx_bs hf
      obtain ⟨a18, rfl, hf⟩ := hf
      replace hf := gx_bs hf
      obtain ⟨r19, g24, hf⟩ := hf
      replace hf := gx_bs hf
      obtain ⟨a20, rfl, hf⟩ := hf
      replace hf := gx_b2s hf
      obtain ⟨b22, h23, g21, hf⟩ := hf
      refine (le_J2_add g21).tr ?_
      exact lek18 hf
    · exact le_X4_twin_b52 hf
def f_X4_twin (D : gx_D) (h : HX) (a0 : Nat) : Option ((Option Nat) × HX) :=
  (hx_is h a0 [11]).bind fun _ =>
  gx_b2 (hx_new h 9 11 gx_df11) fun a1 h2 =>
  (f_X4_init D h2 a1).bind fun h4 =>
  (hx_gr h4 a0 [11] 0).bind fun r5 =>
  r5.bind fun a6 =>
  gx_b2 (f_J2_iterator D h4 a6) fun r8 h9 =>
  f_X4_twin_b18 D gx_fuel h9 a0 (some a1) r8
theorem is_X4_twin {D : gx_D} {h : HX} {a0 : Nat} {z} (hf : f_X4_twin D h a0 = some z) : gx_isC h a0 [11] := by
  unfold f_X4_twin at hf
  obtain ⟨_, g, -⟩ := gx_bs hf
  exact hx_is_of g
theorem w_X4_twin_b {l : Launch} (hlt : l.stackTraces = false) {p : Program} {e : Env} {R : Room} {s : State} {m : MethodId} {args : Array Value} {below : List Frame} {meth : Method} {c : Code} {D : gx_D} {h0 : HX} {r : Option Nat} {hz : HX} (C : gx_Ctx p R s m args meth c "ContractMachine$Run" cX4_twin 5 (some (.object "ContractMachine$Run")) 5 105 D h0 hz) (hx : meth.name = "twin") {a0 : Nat} (hf : f_X4_twin D h0 a0 = some (r, hz)) : gx_G p l e R s m args below meth c D h0 hz 5 (gx_MQ below args s D h0 hz (some (va_rf r))) 0 [(0, (va_rf (some a0)))] [] h0 := by
  unfold f_X4_twin at hf
  replace hf := gx_bs hf
  obtain ⟨_, -, hf⟩ := hf
  replace hf := gx_b2s hf
  obtain ⟨a1, h2, g80, hf⟩ := hf
  refine gx_newN C g80 gz_13 tyX4_ok gx_df11_ok q1713 q588 q144 dX4_twin_0 rfl ?_
  refine gx_dup C dX4_twin_3 rfl ?_
  replace hf := gx_bs hf
  obtain ⟨h4, g3, hf⟩ := hf
  refine gx_callI (st := [(va_rf (some a1))]) C (w_X4_init hlt g3) q1714 q590 q144 q591 rfl gz_116 (by decide) rfl rfl (gx_catn (Nat.le_of_ble_eq_true rfl)) dX4_twin_4 ?_
  refine gx_astn C dX4_twin_7 1 rfl (by decide) [0]  rfl (gx_okr rfl gx_catv_r gx_ok0) ?_
  refine gx_aload_n C dX4_twin_8 1 rfl ?_
  replace hf := gx_bs hf
  obtain ⟨r5, g79, hf⟩ := hf
  refine gx_gr C g79 gz_57 q595 dX4_twin_9 ?_
  replace hf := gx_bs hf
  obtain ⟨a6, rfl, hf⟩ := hf
  replace hf := gx_b2s hf
  obtain ⟨r8, h9, g7, hf⟩ := hf
  refine gx_callF (st := []) C (w_J2_iterator hlt g7) (is_J2_iterator g7) q1716 (gx_cis1 gz_19 ⟨gz_282, q1719⟩ gx_cis0) q1721 q127 q1723 gz_281 (by decide) rfl rfl (gx_catn (Nat.le_of_ble_eq_true rfl)) dX4_twin_12 ?_
  refine gx_astn C dX4_twin_17 2 rfl (by decide) [0, 1]  rfl (gx_okr rfl gx_catv_r (gx_okn rfl rfl gx_ok0)) ?_
  refine gx_sub [2, 1, 0] rfl ?_
  exact w_X4_twin_b18 hlt C hx gx_fuel hf
theorem le_X4_twin {D : gx_D} {r : Option Nat} {hz : HX} {h : HX} {a0 : Nat} (hf : f_X4_twin D h a0 = some (r, hz)) : gx_le h hz := by
  unfold f_X4_twin at hf
  replace hf := gx_bs hf
  obtain ⟨_, -, hf⟩ := hf
  replace hf := gx_b2s hf
  obtain ⟨a1, h2, g80, hf⟩ := hf
  refine (hx_le_new g80).tr ?_
  replace hf := gx_bs hf
  obtain ⟨h4, g3, hf⟩ := hf
  refine (le_X4_init g3).tr ?_
  replace hf := gx_bs hf
  obtain ⟨r5, g79, hf⟩ := hf
  replace hf := gx_bs hf
  obtain ⟨a6, rfl, hf⟩ := hf
  replace hf := gx_b2s hf
  obtain ⟨r8, h9, g7, hf⟩ := hf
  refine (le_J2_iterator g7).tr ?_
  exact le_X4_twin_b18 gx_fuel hf
theorem w_X4_twin {l : Launch} (hlt : l.stackTraces = false) {D : gx_D} {h : HX} {a0 : Nat} {r : Option Nat} {hz : HX} (hf : f_X4_twin D h a0 = some (r, hz)) : gx_Met l yX4_twin cX4_twin 5 (some (.object "ContractMachine$Run")) 5 105 D [(va_rf (some a0))] h (some (va_rf r)) hz :=
  gx_ofG gz_64 (by simp only [gx_lsr, gx_lsi, gx_lsj, gx_ls0]; decide) (le_X4_twin hf) (fun p e R s m args below meth c C hx => by
    simp only [gx_lar, gx_lai, gx_laj, gx_la0, Nat.reduceAdd]
    exact w_X4_twin_b hlt C hx hf)
def f_X1_changed_b20 (D : gx_D) (h : HX) (v0 : Nat) : Option ((Option Nat) × HX) :=
  (hx_gr h v0 [9] 8).bind fun r11 =>
  (hx_gr h v0 [9] 6).bind fun r12 =>
  r11.bind fun a13 =>
  (f_J17_addLast D h a13 r12).bind fun h15 =>
  (hx_gr h15 v0 [9] 6).bind fun r16 =>
  r16.bind fun a17 =>
  gx_b2 (f_X4_twin D h15 a17) fun r19 h20 =>
  (hx_pr h20 v0 [9] 6 r19).bind fun h21 =>
  (hx_gr h21 v0 [9] 6).bind fun r22 =>
  some (r22, h21)
theorem w_X1_changed_b20 {l : Launch} (hlt : l.stackTraces = false) {p : Program} {e : Env} {R : Room} {s : State} {m : MethodId} {args : Array Value} {below : List Frame} {meth : Method} {c : Code} {D : gx_D} {h0 : HX} {r : Option Nat} {hz : HX} (C : gx_Ctx p R s m args meth c "ContractMachine" cX1_changed 1 (some (.object "ContractMachine$Run")) 6 129 D h0 hz) (hx : meth.name = "changed")  {h : HX} {v0 : Nat} (hf : f_X1_changed_b20 D h v0 = some (r, hz)) : gx_G p l e R s m args below meth c D h0 hz 1 (gx_MQ below args s D h0 hz (some (va_rf r))) 20 [(0, (va_rf (some v0)))] [] h := by
  unfold f_X1_changed_b20 at hf
  refine gx_aload_n C dX1_changed_20 0 rfl ?_
  replace hf := gx_bs hf
  obtain ⟨r11, g27, hf⟩ := hf
  refine gx_gr C g27 gz_88 q898 dX1_changed_21 ?_
  refine gx_aload_n C dX1_changed_24 0 rfl ?_
  replace hf := gx_bs hf
  obtain ⟨r12, g26, hf⟩ := hf
  refine gx_gr C g26 gz_85 q896 dX1_changed_25 ?_
  replace hf := gx_bs hf
  obtain ⟨a13, rfl, hf⟩ := hf
  replace hf := gx_bs hf
  obtain ⟨h15, g14, hf⟩ := hf
  refine gx_callV (st := []) C (w_J17_addLast hlt g14) (is_J17_addLast g14) gz_115 rfl (lw_V q1677 q1678 q1679 q145 q1680) gz_293 (by decide) rfl rfl (gx_catn (Nat.le_of_ble_eq_true rfl)) dX1_changed_28 ?_
  refine gx_aload_n C dX1_changed_31 0 rfl ?_
  refine gx_aload_n C dX1_changed_32 0 rfl ?_
  replace hf := gx_bs hf
  obtain ⟨r16, g25, hf⟩ := hf
  refine gx_gr C g25 gz_85 q896 dX1_changed_33 ?_
  replace hf := gx_bs hf
  obtain ⟨a17, rfl, hf⟩ := hf
  replace hf := gx_b2s hf
  obtain ⟨r19, h20, g18, hf⟩ := hf
  refine gx_callV (st := [(va_rf (some v0))]) C (w_X4_twin hlt g18) (is_X4_twin g18) gz_13 rfl (lw_V q1709 q1710 q1711 q144 q1712) gz_294 (by decide) rfl rfl (gx_catn (Nat.le_of_ble_eq_true rfl)) dX1_changed_36 ?_
  replace hf := gx_bs hf
  obtain ⟨h21, g24, hf⟩ := hf
  refine gx_putv C g24 gz_85 gz_86 (gx_narrow_r rfl _).1 (gx_narrow_r rfl _).2 q896 dX1_changed_39 ?_
  refine gx_aload_n C dX1_changed_42 0 rfl ?_
  replace hf := gx_bs hf
  obtain ⟨r22, g23, hf⟩ := hf
  refine gx_gr C g23 gz_85 q896 dX1_changed_43 ?_
  obtain ⟨rfl, rfl⟩ := Prod.mk.inj (Option.some.inj hf)
  exact gx_aret C rfl rfl dX1_changed_46
theorem le_X1_changed_b20 {D : gx_D} {r : Option Nat} {hz : HX} {h : HX} {v0 : Nat} (hf : f_X1_changed_b20 D h v0 = some (r, hz)) : gx_le h hz := by
  unfold f_X1_changed_b20 at hf
  replace hf := gx_bs hf
  obtain ⟨r11, g27, hf⟩ := hf
  replace hf := gx_bs hf
  obtain ⟨r12, g26, hf⟩ := hf
  replace hf := gx_bs hf
  obtain ⟨a13, rfl, hf⟩ := hf
  replace hf := gx_bs hf
  obtain ⟨h15, g14, hf⟩ := hf
  refine (le_J17_addLast g14).tr ?_
  replace hf := gx_bs hf
  obtain ⟨r16, g25, hf⟩ := hf
  replace hf := gx_bs hf
  obtain ⟨a17, rfl, hf⟩ := hf
  replace hf := gx_b2s hf
  obtain ⟨r19, h20, g18, hf⟩ := hf
  refine (le_X4_twin g18).tr ?_
  replace hf := gx_bs hf
  obtain ⟨h21, g24, hf⟩ := hf
  refine (hx_le_pv g24).tr ?_
  replace hf := gx_bs hf
  obtain ⟨r22, g23, hf⟩ := hf
  obtain ⟨rfl, rfl⟩ := Prod.mk.inj (Option.some.inj hf)
  exact gx_le.rf
def f_X1_changed (D : gx_D) (h : HX) (a0 : Nat) : Option ((Option Nat) × HX) :=
  (hx_is h a0 [9]).bind fun _ =>
  (hx_gr h a0 [9] 8).bind fun r1 =>
  r1.bind fun a2 =>
  (f_J17_size D h a2).bind fun x4 =>
  if x4 = (8 : Int32) then
  (hx_gr h a0 [9] 8).bind fun r6 =>
  r6.bind fun a7 =>
  gx_b2 (f_J17_removeFirst D h a7) fun r9 h10 =>
  f_X1_changed_b20 D h10 a0
  else
  f_X1_changed_b20 D h a0
theorem is_X1_changed {D : gx_D} {h : HX} {a0 : Nat} {z} (hf : f_X1_changed D h a0 = some z) : gx_isC h a0 [9] := by
  unfold f_X1_changed at hf
  obtain ⟨_, g, -⟩ := gx_bs hf
  exact hx_is_of g
theorem w_X1_changed_b {l : Launch} (hlt : l.stackTraces = false) {p : Program} {e : Env} {R : Room} {s : State} {m : MethodId} {args : Array Value} {below : List Frame} {meth : Method} {c : Code} {D : gx_D} {h0 : HX} {r : Option Nat} {hz : HX} (C : gx_Ctx p R s m args meth c "ContractMachine" cX1_changed 1 (some (.object "ContractMachine$Run")) 6 129 D h0 hz) (hx : meth.name = "changed") {a0 : Nat} (hf : f_X1_changed D h0 a0 = some (r, hz)) : gx_G p l e R s m args below meth c D h0 hz 1 (gx_MQ below args s D h0 hz (some (va_rf r))) 0 [(0, (va_rf (some a0)))] [] h0 := by
  unfold f_X1_changed at hf
  replace hf := gx_bs hf
  obtain ⟨_, -, hf⟩ := hf
  refine gx_aload_n C dX1_changed_0 0 rfl ?_
  replace hf := gx_bs hf
  obtain ⟨r1, g29, hf⟩ := hf
  refine gx_gr C g29 gz_88 q898 dX1_changed_1 ?_
  replace hf := gx_bs hf
  obtain ⟨a2, rfl, hf⟩ := hf
  replace hf := gx_bs hf
  obtain ⟨x4, g3, hf⟩ := hf
  refine gx_callV (st := []) C (w_J17_size hlt g3) (is_J17_size g3) gz_115 rfl (lw_V q1635 q1636 q1637 q145 q1638) gz_291 (by decide) rfl rfl (gx_catn (Nat.le_of_ble_eq_true rfl)) dX1_changed_4 ?_
  refine gx_bipush (v := 8) C dX1_changed_7 rfl ?_
  replace hf := gx_ite hf
  rcases hf with ⟨c5, hf⟩ | ⟨c5, hf⟩
  · refine gx_icmp_ne_f (tgt := 20) C dX1_changed_9 rfl c5 ?_
    refine gx_aload_n C dX1_changed_12 0 rfl ?_
    replace hf := gx_bs hf
    obtain ⟨r6, g28, hf⟩ := hf
    refine gx_gr C g28 gz_88 q898 dX1_changed_13 ?_
    replace hf := gx_bs hf
    obtain ⟨a7, rfl, hf⟩ := hf
    replace hf := gx_b2s hf
    obtain ⟨r9, h10, g8, hf⟩ := hf
    refine gx_callV (st := []) C (w_J17_removeFirst hlt g8) (is_J17_removeFirst g8) gz_115 rfl (lw_V q1642 q1643 q1644 q145 q1645) gz_292 (by decide) rfl rfl (gx_catn (Nat.le_of_ble_eq_true rfl)) dX1_changed_16 ?_
    refine gx_pop C dX1_changed_19 (gx_rfcat _) ?_
    refine gx_sub [0] rfl ?_
    exact w_X1_changed_b20 hlt C hx hf
  · refine gx_icmp_ne_t (tgt := 20) C dX1_changed_9 rfl c5 ?_
    refine gx_sub [0] rfl ?_
    exact w_X1_changed_b20 hlt C hx hf
theorem le_X1_changed {D : gx_D} {r : Option Nat} {hz : HX} {h : HX} {a0 : Nat} (hf : f_X1_changed D h a0 = some (r, hz)) : gx_le h hz := by
  unfold f_X1_changed at hf
  replace hf := gx_bs hf
  obtain ⟨_, -, hf⟩ := hf
  replace hf := gx_bs hf
  obtain ⟨r1, g29, hf⟩ := hf
  replace hf := gx_bs hf
  obtain ⟨a2, rfl, hf⟩ := hf
  replace hf := gx_bs hf
  obtain ⟨x4, g3, hf⟩ := hf
  replace hf := gx_ite hf
  rcases hf with ⟨c5, hf⟩ | ⟨c5, hf⟩
  · replace hf := gx_bs hf
    obtain ⟨r6, g28, hf⟩ := hf
    replace hf := gx_bs hf
    obtain ⟨a7, rfl, hf⟩ := hf
    replace hf := gx_b2s hf
    obtain ⟨r9, h10, g8, hf⟩ := hf
    refine (le_J17_removeFirst g8).tr ?_
    exact le_X1_changed_b20 hf
  · exact le_X1_changed_b20 hf
theorem w_X1_changed {l : Launch} (hlt : l.stackTraces = false) {D : gx_D} {h : HX} {a0 : Nat} {r : Option Nat} {hz : HX} (hf : f_X1_changed D h a0 = some (r, hz)) : gx_Met l yX1_changed cX1_changed 1 (some (.object "ContractMachine$Run")) 6 129 D [(va_rf (some a0))] h (some (va_rf r)) hz :=
  gx_ofG gz_26 (by simp only [gx_lsr, gx_lsi, gx_lsj, gx_ls0]; decide) (le_X1_changed hf) (fun p e R s m args below meth c C hx => by
    simp only [gx_lar, gx_lai, gx_laj, gx_la0, Nat.reduceAdd]
    exact w_X1_changed_b hlt C hx hf)
def f_X3_isFor (D : gx_D) (h : HX) (a0 : Nat) (p1 : Option Nat) (p2 : Int32) (p3 : Int32) : Option Bool :=
  (hx_is h a0 [10]).bind fun _ =>
  p1.bind fun a1 =>
  (hx_gi h a1 [13] 0).bind fun x2 =>
  if x2 = p2 then
  (hx_gi h a1 [13] 1).bind fun x4 =>
  if x4 = p3 then
  some true
  else
  some false
  else
  some false
theorem is_X3_isFor {D : gx_D} {h : HX} {a0 : Nat} {p1 : Option Nat} {p2 : Int32} {p3 : Int32} {z} (hf : f_X3_isFor D h a0 p1 p2 p3 = some z) : gx_isC h a0 [10] := by
  unfold f_X3_isFor at hf
  obtain ⟨_, g, -⟩ := gx_bs hf
  exact hx_is_of g
theorem w_X3_isFor_b {l : Launch} (hlt : l.stackTraces = false) {p : Program} {e : Env} {R : Room} {s : State} {m : MethodId} {args : Array Value} {below : List Frame} {meth : Method} {c : Code} {D : gx_D} {h0 : HX} {r : Bool} (C : gx_Ctx p R s m args meth c "ContractMachine$Definition" cX3_isFor 4 (some .boolean) 1 24 D h0 h0) (hx : meth.name = "isFor") {a0 : Nat} {p1 : Option Nat} {p2 : Int32} {p3 : Int32} (hf : f_X3_isFor D h0 a0 p1 p2 p3 = some r) : gx_G p l e R s m args below meth c D h0 h0 4 (gx_MQ below args s D h0 h0 (some (.int (b2i r)))) 0 [(0, (va_rf (some a0))), (1, (va_rf p1)), (2, (.int p2)), (3, (.int p3))] [] h0 := by
  unfold f_X3_isFor at hf
  replace hf := gx_bs hf
  obtain ⟨_, -, hf⟩ := hf
  refine gx_aload_n C dX3_isFor_0 1 rfl ?_
  replace hf := gx_bs hf
  obtain ⟨a1, rfl, hf⟩ := hf
  replace hf := gx_bs hf
  obtain ⟨x2, g7, hf⟩ := hf
  refine gx_giN C g7 gz_0 q810 dX3_isFor_1 ?_
  refine gx_iload_n C dX3_isFor_4 2 rfl ?_
  replace hf := gx_ite hf
  rcases hf with ⟨c3, hf⟩ | ⟨c3, hf⟩
  · refine gx_icmp_ne_f (tgt := 20) C dX3_isFor_5 rfl c3 ?_
    refine gx_aload_n C dX3_isFor_8 1 rfl ?_
    replace hf := gx_bs hf
    obtain ⟨x4, g6, hf⟩ := hf
    refine gx_giN C g6 gz_2 q814 dX3_isFor_9 ?_
    refine gx_iload_n C dX3_isFor_12 3 rfl ?_
    replace hf := gx_ite hf
    rcases hf with ⟨c5, hf⟩ | ⟨c5, hf⟩
    · refine gx_icmp_ne_f (tgt := 20) C dX3_isFor_13 rfl c5 ?_
      refine gx_iconst (v := 1) C dX3_isFor_16 rfl ?_
      refine gx_goto (tgt := 21) C dX3_isFor_17 rfl ?_
      obtain rfl := Option.some.inj hf
      exact gx_zret (b := true) C dX3_isFor_21
    · refine gx_icmp_ne_t (tgt := 20) C dX3_isFor_13 rfl c5 ?_
      refine gx_iconst (v := 0) C dX3_isFor_20 rfl ?_
      obtain rfl := Option.some.inj hf
      exact gx_zret (b := false) C dX3_isFor_21
  · refine gx_icmp_ne_t (tgt := 20) C dX3_isFor_5 rfl c3 ?_
    refine gx_iconst (v := 0) C dX3_isFor_20 rfl ?_
    obtain rfl := Option.some.inj hf
    exact gx_zret (b := false) C dX3_isFor_21
theorem w_X3_isFor {l : Launch} (hlt : l.stackTraces = false) {D : gx_D} {h : HX} {a0 : Nat} {p1 : Option Nat} {p2 : Int32} {p3 : Int32} {r : Bool} (hf : f_X3_isFor D h a0 p1 p2 p3 = some r) : gx_Met l yX3_isFor cX3_isFor 4 (some .boolean) 1 24 D [(va_rf (some a0)), (va_rf p1), (.int p2), (.int p3)] h (some (.int (b2i r))) h :=
  gx_ofG gz_48 (by simp only [gx_lsr, gx_lsi, gx_lsj, gx_ls0]; decide) gx_le.rf (fun p e R s m args below meth c C hx => by
    simp only [gx_lar, gx_lai, gx_laj, gx_la0, Nat.reduceAdd]
    exact w_X3_isFor_b hlt C hx hf)
