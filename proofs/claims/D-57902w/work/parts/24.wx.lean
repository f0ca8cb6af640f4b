/-! walks of the component's methods (printed by gen/run.py) -/
set_option maxRecDepth 100000
def f_X25_isSought (D : gx_D) (h : HX) (a0 : Nat) (p1 : Int32) : Option Bool :=
  (hx_is h a0 [28]).bind fun _ =>
  (hx_gr h a0 [28] 3).bind fun r1 =>
  r1.bind fun a2 =>
  (hx_gr h a2 [9] 5).bind fun r3 =>
  (hx_gr h a0 [28] 1).bind fun r4 =>
  r4.bind fun a5 =>
  (hx_gi h a5 [13] 1).bind fun x6 =>
  r3.bind fun a7 =>
  (f_X3_choose D h a7 p1 x6).bind fun x9 =>
  (hx_gi h a0 [28] 2).bind fun x10 =>
  if x9 = x10 then
  (hx_gr h a0 [28] 3).bind fun r12 =>
  (hx_gr h a0 [28] 1).bind fun r13 =>
  r13.bind fun a14 =>
  (hx_gi h a14 [13] 1).bind fun x15 =>
  r12.bind fun a16 =>
  (f_X1_next D h a16 p1 x15).bind fun x18 =>
  if x18 = (-1 : Int32) then
  some false
  else
  some true
  else
  some false
theorem is_X25_isSought {D : gx_D} {h : HX} {a0 : Nat} {p1 : Int32} {z} (hf : f_X25_isSought D h a0 p1 = some z) : gx_isC h a0 [28] := by
  unfold f_X25_isSought at hf
  obtain ⟨_, g, -⟩ := gx_bs hf
  exact hx_is_of g
theorem w_X25_isSought_b {l : Launch} (hlt : l.stackTraces = false) {p : Program} {e : Env} {R : Room} {s : State} {m : MethodId} {args : Array Value} {below : List Frame} {meth : Method} {c : Code} {D : gx_D} {h0 : HX} {r : Bool} (C : gx_Ctx p R s m args meth c "ContractMachine$3" cX25_isSought 2 (some .boolean) 7 156 D h0 h0) (hx : meth.name = "isSought") {a0 : Nat} {p1 : Int32} (hf : f_X25_isSought D h0 a0 p1 = some r) : gx_G p l e R s m args below meth c D h0 h0 2 (gx_MQ below args s D h0 h0 (some (.int (b2i r)))) 0 [(0, (va_rf (some a0))), (1, (.int p1))] [] h0 := by
  unfold f_X25_isSought at hf
  replace hf := gx_bs hf
  obtain ⟨_, -, hf⟩ := hf
  refine gx_aload_n C dX25_isSought_0 0 rfl ?_
  replace hf := gx_bs hf
  obtain ⟨r1, g27, hf⟩ := hf
  refine gx_gr C g27 gz_395 q2482 dX25_isSought_1 ?_
  replace hf := gx_bs hf
  obtain ⟨a2, rfl, hf⟩ := hf
  replace hf := gx_bs hf
  obtain ⟨r3, g26, hf⟩ := hf
  refine gx_grN C g26 gz_20 q889 dX25_isSought_4 ?_
  refine gx_iload_n C dX25_isSought_7 1 rfl ?_
  refine gx_aload_n C dX25_isSought_8 0 rfl ?_
  replace hf := gx_bs hf
  obtain ⟨r4, g25, hf⟩ := hf
  refine gx_gr C g25 gz_396 q2480 dX25_isSought_9 ?_
  replace hf := gx_bs hf
  obtain ⟨a5, rfl, hf⟩ := hf
  replace hf := gx_bs hf
  obtain ⟨x6, g24, hf⟩ := hf
  refine gx_giN C g24 gz_2 q813 dX25_isSought_12 ?_
  replace hf := gx_bs hf
  obtain ⟨a7, rfl, hf⟩ := hf
  replace hf := gx_bs hf
  obtain ⟨x9, g8, hf⟩ := hf
  refine gx_callV (st := []) C (w_X3_choose hlt g8) (is_X3_choose g8) gz_111 rfl (lw_V q2073 q1786 q1787 q124 q1788) gz_303 (by decide) rfl rfl (gx_catn (Nat.le_of_ble_eq_true rfl)) dX25_isSought_15 ?_
  refine gx_aload_n C dX25_isSought_18 0 rfl ?_
  replace hf := gx_bs hf
  obtain ⟨x10, g23, hf⟩ := hf
  refine gx_gi C g23 gz_397 q2481 dX25_isSought_19 ?_
  replace hf := gx_ite hf
  rcases hf with ⟨c11, hf⟩ | ⟨c11, hf⟩
  · refine gx_icmp_ne_f (tgt := 48) C dX25_isSought_22 rfl c11 ?_
    refine gx_aload_n C dX25_isSought_25 0 rfl ?_
    replace hf := gx_bs hf
    obtain ⟨r12, g22, hf⟩ := hf
    refine gx_gr C g22 gz_395 q2482 dX25_isSought_26 ?_
    refine gx_iload_n C dX25_isSought_29 1 rfl ?_
    refine gx_aload_n C dX25_isSought_30 0 rfl ?_
    replace hf := gx_bs hf
    obtain ⟨r13, g21, hf⟩ := hf
    refine gx_gr C g21 gz_396 q2480 dX25_isSought_31 ?_
    replace hf := gx_bs hf
    obtain ⟨a14, rfl, hf⟩ := hf
    replace hf := gx_bs hf
    obtain ⟨x15, g20, hf⟩ := hf
    refine gx_giN C g20 gz_2 q813 dX25_isSought_34 ?_
    replace hf := gx_bs hf
    obtain ⟨a16, rfl, hf⟩ := hf
    replace hf := gx_bs hf
    obtain ⟨x18, g17, hf⟩ := hf
    refine gx_callVN (st := []) C (w_X1_next hlt g17) (is_X1_next g17) gz_108 q2074 q1844 qs35 q121 q1845 gz_314 (by decide) rfl rfl (gx_catn (Nat.le_of_ble_eq_true rfl)) dX25_isSought_37 ?_
    refine gx_iconst (v := -1) C dX25_isSought_40 rfl ?_
    replace hf := gx_ite hf
    rcases hf with ⟨c19, hf⟩ | ⟨c19, hf⟩
    · refine gx_icmp_eq_t (tgt := 48) C dX25_isSought_41 rfl c19 ?_
      refine gx_iconst (v := 0) C dX25_isSought_48 rfl ?_
      obtain rfl := Option.some.inj hf
      exact gx_zret (b := false) C dX25_isSought_49
    · refine gx_icmp_eq_f (tgt := 48) C dX25_isSought_41 rfl c19 ?_
      refine gx_iconst (v := 1) C dX25_isSought_44 rfl ?_
      refine gx_goto (tgt := 49) C dX25_isSought_45 rfl ?_
      obtain rfl := Option.some.inj hf
      exact gx_zret (b := true) C dX25_isSought_49
  · refine gx_icmp_ne_t (tgt := 48) C dX25_isSought_22 rfl c11 ?_
    refine gx_iconst (v := 0) C dX25_isSought_48 rfl ?_
    obtain rfl := Option.some.inj hf
    exact gx_zret (b := false) C dX25_isSought_49
theorem w_X25_isSought {l : Launch} (hlt : l.stackTraces = false) {D : gx_D} {h : HX} {a0 : Nat} {p1 : Int32} {r : Bool} (hf : f_X25_isSought D h a0 p1 = some r) : gx_Met l yX25_isSought cX25_isSought 2 (some .boolean) 7 156 D [(va_rf (some a0)), (.int p1)] h (some (.int (b2i r))) h :=
  gx_ofG gz_398 (by simp only [gx_lsr, gx_lsi, gx_lsj, gx_ls0]; decide) gx_le.rf (fun p e R s m args below meth c C hx => by
    simp only [gx_lar, gx_lai, gx_laj, gx_la0, Nat.reduceAdd]
    exact w_X25_isSought_b hlt C hx hf)
def f_X27_isSought (D : gx_D) (h : HX) (a0 : Nat) (p1 : Int32) : Option Bool :=
  (hx_is h a0 [30]).bind fun _ =>
  (hx_gr h a0 [30] 1).bind fun r1 =>
  r1.bind fun a2 =>
  (f_X1_isDeadlock D h a2 p1).bind fun b4 =>
  some b4
theorem is_X27_isSought {D : gx_D} {h : HX} {a0 : Nat} {p1 : Int32} {z} (hf : f_X27_isSought D h a0 p1 = some z) : gx_isC h a0 [30] := by
  unfold f_X27_isSought at hf
  obtain ⟨_, g, -⟩ := gx_bs hf
  exact hx_is_of g
theorem w_X27_isSought_b {l : Launch} (hlt : l.stackTraces = false) {p : Program} {e : Env} {R : Room} {s : State} {m : MethodId} {args : Array Value} {below : List Frame} {meth : Method} {c : Code} {D : gx_D} {h0 : HX} {r : Bool} (C : gx_Ctx p R s m args meth c "ContractMachine$5" cX27_isSought 2 (some .boolean) 8 178 D h0 h0) (hx : meth.name = "isSought") {a0 : Nat} {p1 : Int32} (hf : f_X27_isSought D h0 a0 p1 = some r) : gx_G p l e R s m args below meth c D h0 h0 2 (gx_MQ below args s D h0 h0 (some (.int (b2i r)))) 0 [(0, (va_rf (some a0))), (1, (.int p1))] [] h0 := by
  unfold f_X27_isSought at hf
  replace hf := gx_bs hf
  obtain ⟨_, -, hf⟩ := hf
  refine gx_aload_n C dX27_isSought_0 0 rfl ?_
  replace hf := gx_bs hf
  obtain ⟨r1, g5, hf⟩ := hf
  refine gx_gr C g5 gz_399 q2128 dX27_isSought_1 ?_
  refine gx_iload_n C dX27_isSought_4 1 rfl ?_
  replace hf := gx_bs hf
  obtain ⟨a2, rfl, hf⟩ := hf
  replace hf := gx_bs hf
  obtain ⟨b4, g3, hf⟩ := hf
  refine gx_callVN (st := []) C (w_X1_isDeadlock hlt g3) (is_X1_isDeadlock g3) gz_108 q2078 q1952 qs40 q121 q1953 gz_381 (by decide) rfl rfl (gx_catn (Nat.le_of_ble_eq_true rfl)) dX27_isSought_5 ?_
  obtain rfl := Option.some.inj hf
  exact gx_zret (b := _) C dX27_isSought_8
theorem w_X27_isSought {l : Launch} (hlt : l.stackTraces = false) {D : gx_D} {h : HX} {a0 : Nat} {p1 : Int32} {r : Bool} (hf : f_X27_isSought D h a0 p1 = some r) : gx_Met l yX27_isSought cX27_isSought 2 (some .boolean) 8 178 D [(va_rf (some a0)), (.int p1)] h (some (.int (b2i r))) h :=
  gx_ofG gz_400 (by simp only [gx_lsr, gx_lsi, gx_lsj, gx_ls0]; decide) gx_le.rf (fun p e R s m args below meth c C hx => by
    simp only [gx_lar, gx_lai, gx_laj, gx_la0, Nat.reduceAdd]
    exact w_X27_isSought_b hlt C hx hf)
def f_X23_visit_b5 (D : gx_D) (h : HX) (v0 : Nat) (v1 : Int32) (s0 : Bool) : Option HX :=
  if s0 = true then
  (hx_gr h v0 [27, 28, 30] 0).bind fun r5 =>
  r5.bind fun a6 =>
  (hx_pi h a6 [9] 12 v1).bind fun h7 =>
  some h7
  else
  some h
theorem w_X23_visit_b5 {l : Launch} (hlt : l.stackTraces = false) {p : Program} {e : Env} {R : Room} {s : State} {m : MethodId} {args : Array Value} {below : List Frame} {meth : Method} {c : Code} {D : gx_D} {h0 : HX} {hz : HX} (C : gx_Ctx p R s m args meth c "ContractMachine$Finder" cX23_visit 2 none 9 199 D h0 hz) (hx : meth.name = "visit")  {h : HX} {v0 : Nat} {v1 : Int32} {s0 : Bool} (hf : f_X23_visit_b5 D h v0 v1 s0 = some hz) : gx_G p l e R s m args below meth c D h0 hz 2 (gx_MQ below args s D h0 hz none) 5 [(0, (va_rf (some v0))), (1, (.int v1))] [(.int (b2i s0))] h := by
  unfold f_X23_visit_b5 at hf
  replace hf := gx_ite hf
  rcases hf with ⟨c4, hf⟩ | ⟨c4, hf⟩
  · refine gx_ifz_eq_f (tgt := 16) C dX23_visit_5 rfl c4 ?_
    refine gx_aload_n C dX23_visit_8 0 rfl ?_
    replace hf := gx_bs hf
    obtain ⟨r5, g9, hf⟩ := hf
    refine gx_gr C g9 gz_390 q2129 dX23_visit_9 ?_
    refine gx_iload_n C dX23_visit_12 1 rfl ?_
    replace hf := gx_bs hf
    obtain ⟨a6, rfl, hf⟩ := hf
    replace hf := gx_bs hf
    obtain ⟨h7, g8, hf⟩ := hf
    refine gx_putvN C g8 gz_391 gz_1 rfl rfl q905 dX23_visit_13 ?_
    obtain rfl := Option.some.inj hf
    exact gx_vret C dX23_visit_16
  · refine gx_ifz_eq_t (tgt := 16) C dX23_visit_5 rfl c4 ?_
    obtain rfl := Option.some.inj hf
    exact gx_vret C dX23_visit_16
theorem le_X23_visit_b5 {D : gx_D} {hz : HX} {h : HX} {v0 : Nat} {v1 : Int32} {s0 : Bool} (hf : f_X23_visit_b5 D h v0 v1 s0 = some hz) : gx_le h hz := by
  unfold f_X23_visit_b5 at hf
  replace hf := gx_ite hf
  rcases hf with ⟨c4, hf⟩ | ⟨c4, hf⟩
  · replace hf := gx_bs hf
    obtain ⟨r5, g9, hf⟩ := hf
    replace hf := gx_bs hf
    obtain ⟨a6, rfl, hf⟩ := hf
    replace hf := gx_bs hf
    obtain ⟨h7, g8, hf⟩ := hf
    refine (hx_le_pv g8).tr ?_
    obtain rfl := Option.some.inj hf
    exact gx_le.rf
  · obtain rfl := Option.some.inj hf
    exact gx_le.rf
def f_X23_visit (D : gx_D) (h : HX) (a0 : Nat) (p1 : Int32) : Option HX :=
  (hx_is h a0 [27, 28, 30]).bind fun _ =>
  if hx_isb h a0 [27] = true then
  (f_X24_isSought D h a0 p1).bind fun b3 =>
  f_X23_visit_b5 D h a0 p1 b3
  else
  if hx_isb h a0 [28] = true then
  (f_X25_isSought D h a0 p1).bind fun b12 =>
  f_X23_visit_b5 D h a0 p1 b12
  else
  if hx_isb h a0 [30] = true then
  (f_X27_isSought D h a0 p1).bind fun b15 =>
  f_X23_visit_b5 D h a0 p1 b15
  else
  none
theorem is_X23_visit {D : gx_D} {h : HX} {a0 : Nat} {p1 : Int32} {z} (hf : f_X23_visit D h a0 p1 = some z) : gx_isC h a0 [27, 28, 30] := by
  unfold f_X23_visit at hf
  obtain ⟨_, g, -⟩ := gx_bs hf
  exact hx_is_of g
theorem w_X23_visit_b {l : Launch} (hlt : l.stackTraces = false) {p : Program} {e : Env} {R : Room} {s : State} {m : MethodId} {args : Array Value} {below : List Frame} {meth : Method} {c : Code} {D : gx_D} {h0 : HX} {hz : HX} (C : gx_Ctx p R s m args meth c "ContractMachine$Finder" cX23_visit 2 none 9 199 D h0 hz) (hx : meth.name = "visit") {a0 : Nat} {p1 : Int32} (hf : f_X23_visit D h0 a0 p1 = some hz) : gx_G p l e R s m args below meth c D h0 hz 2 (gx_MQ below args s D h0 hz none) 0 [(0, (va_rf (some a0))), (1, (.int p1))] [] h0 := by
  unfold f_X23_visit at hf
  replace hf := gx_bs hf
  obtain ⟨_, -, hf⟩ := hf
  refine gx_aload_n C dX23_visit_0 0 rfl ?_
  refine gx_iload_n C dX23_visit_1 1 rfl ?_
  replace hf := gx_ite hf
  rcases hf with ⟨c1, hf⟩ | ⟨c1, hf⟩
  · replace hf := gx_bs hf
    obtain ⟨b3, g2, hf⟩ := hf
    refine gx_callU (st := []) C (w_X24_isSought hlt g2) (is_X24_isSought g2) q2064 q2066 (gx_decl C q2065) ⟨by decide, by decide⟩ (gx_cis1 gz_402 (C.hts _ q2067) gx_cis0) q2068 q177 q2069 gz_401 (by decide) rfl rfl (gx_catn (Nat.le_of_ble_eq_true rfl)) dX23_visit_2 ?_
    refine gx_sub [0, 1] rfl ?_
    exact w_X23_visit_b5 hlt C hx hf
  replace hf := gx_ite hf
  rcases hf with ⟨c10, hf⟩ | ⟨c10, hf⟩
  · replace hf := gx_bs hf
    obtain ⟨b12, g11, hf⟩ := hf
    refine gx_callU (st := []) C (w_X25_isSought hlt g11) (is_X25_isSought g11) q2064 q2066 (gx_decl C q2065) ⟨by decide, by decide⟩ (gx_cis1 gz_403 (C.hts _ q2070) gx_cis0) q2071 q178 q2072 gz_401 (by decide) rfl rfl (gx_catn (Nat.le_of_ble_eq_true rfl)) dX23_visit_2 ?_
    refine gx_sub [0, 1] rfl ?_
    exact w_X23_visit_b5 hlt C hx hf
  replace hf := gx_ite hf
  rcases hf with ⟨c13, hf⟩ | ⟨c13, hf⟩
  · replace hf := gx_bs hf
    obtain ⟨b15, g14, hf⟩ := hf
    refine gx_callU (st := []) C (w_X27_isSought hlt g14) (is_X27_isSought g14) q2064 q2066 (gx_decl C q2065) ⟨by decide, by decide⟩ (gx_cis1 gz_404 (C.hts _ q2075) gx_cis0) q2076 q180 q2077 gz_401 (by decide) rfl rfl (gx_catn (Nat.le_of_ble_eq_true rfl)) dX23_visit_2 ?_
    refine gx_sub [0, 1] rfl ?_
    exact w_X23_visit_b5 hlt C hx hf
  cases hf
theorem le_X23_visit {D : gx_D} {hz : HX} {h : HX} {a0 : Nat} {p1 : Int32} (hf : f_X23_visit D h a0 p1 = some hz) : gx_le h hz := by
  unfold f_X23_visit at hf
  replace hf := gx_bs hf
  obtain ⟨_, -, hf⟩ := hf
  replace hf := gx_ite hf
  rcases hf with ⟨c1, hf⟩ | ⟨c1, hf⟩
  · replace hf := gx_bs hf
    obtain ⟨b3, g2, hf⟩ := hf
    exact le_X23_visit_b5 hf
  replace hf := gx_ite hf
  rcases hf with ⟨c10, hf⟩ | ⟨c10, hf⟩
  · replace hf := gx_bs hf
    obtain ⟨b12, g11, hf⟩ := hf
    exact le_X23_visit_b5 hf
  replace hf := gx_ite hf
  rcases hf with ⟨c13, hf⟩ | ⟨c13, hf⟩
  · replace hf := gx_bs hf
    obtain ⟨b15, g14, hf⟩ := hf
    exact le_X23_visit_b5 hf
  cases hf
theorem w_X23_visit {l : Launch} (hlt : l.stackTraces = false) {D : gx_D} {h : HX} {a0 : Nat} {p1 : Int32} {hz : HX} (hf : f_X23_visit D h a0 p1 = some hz) : gx_Met l yX23_visit cX23_visit 2 none 9 199 D [(va_rf (some a0)), (.int p1)] h none hz :=
  gx_ofG gz_392 (by simp only [gx_lsr, gx_lsi, gx_lsj, gx_ls0]; decide) (le_X23_visit hf) (fun p e R s m args below meth c C hx => by
    simp only [gx_lar, gx_lai, gx_laj, gx_la0, Nat.reduceAdd]
    exact w_X23_visit_b hlt C hx hf)
def f_X21_mark (D : gx_D) (h : HX) (a0 : Nat) (p1 : Int32) (p2 : Int32) (p3 : Int32) : Option HX :=
  (hx_is h a0 [25]).bind fun _ =>
  (hx_gr h a0 [25] 2).bind fun r1 =>
  r1.bind fun a2 =>
  (hx_gr h a2 [9] 9).bind fun r3 =>
  r3.bind fun a4 =>
  (hx_si h a4 p1 p2).bind fun h5 =>
  (hx_gr h5 a0 [25] 2).bind fun r6 =>
  r6.bind fun a7 =>
  (hx_gr h5 a7 [9] 10).bind fun r8 =>
  r8.bind fun a9 =>
  (hx_si h5 a9 p1 p3).bind fun h10 =>
  (hx_gr h10 a0 [25] 2).bind fun r11 =>
  r11.bind fun a12 =>
  (hx_gr h10 a12 [9] 11).bind fun r13 =>
  (hx_gi h10 a0 [25] 1).bind fun x14 =>
  r13.bind fun a15 =>
  (hx_si h10 a15 x14 p1).bind fun h16 =>
  (hx_gi h16 a0 [25] 1).bind fun x17 =>
  (hx_pi h16 a0 [25] 1 (x17 + (1 : Int32))).bind fun h18 =>
  some h18
theorem is_X21_mark {D : gx_D} {h : HX} {a0 : Nat} {p1 : Int32} {p2 : Int32} {p3 : Int32} {z} (hf : f_X21_mark D h a0 p1 p2 p3 = some z) : gx_isC h a0 [25] := by
  unfold f_X21_mark at hf
  obtain ⟨_, g, -⟩ := gx_bs hf
  exact hx_is_of g
theorem w_X21_mark_b {l : Launch} (hlt : l.stackTraces = false) {p : Program} {e : Env} {R : Room} {s : State} {m : MethodId} {args : Array Value} {below : List Frame} {meth : Method} {c : Code} {D : gx_D} {h0 : HX} {hz : HX} (C : gx_Ctx p R s m args meth c "ContractMachine$Search" cX21_mark 4 none 1 24 D h0 hz) (hx : meth.name = "mark") {a0 : Nat} {p1 : Int32} {p2 : Int32} {p3 : Int32} (hf : f_X21_mark D h0 a0 p1 p2 p3 = some hz) : gx_G p l e R s m args below meth c D h0 hz 4 (gx_MQ below args s D h0 hz none) 0 [(0, (va_rf (some a0))), (1, (.int p1)), (2, (.int p2)), (3, (.int p3))] [] h0 := by
  unfold f_X21_mark at hf
  replace hf := gx_bs hf
  obtain ⟨_, -, hf⟩ := hf
  refine gx_aload_n C dX21_mark_0 0 rfl ?_
  replace hf := gx_bs hf
  obtain ⟨r1, g30, hf⟩ := hf
  refine gx_gr C g30 gz_385 q2006 dX21_mark_1 ?_
  replace hf := gx_bs hf
  obtain ⟨a2, rfl, hf⟩ := hf
  replace hf := gx_bs hf
  obtain ⟨r3, g29, hf⟩ := hf
  refine gx_grN C g29 gz_90 q899 dX21_mark_4 ?_
  refine gx_iload_n C dX21_mark_7 1 rfl ?_
  refine gx_iload_n C dX21_mark_8 2 rfl ?_
  replace hf := gx_bs hf
  obtain ⟨a4, rfl, hf⟩ := hf
  replace hf := gx_bs hf
  obtain ⟨h5, g28, hf⟩ := hf
  refine gx_iast C g28 dX21_mark_9 ?_
  refine gx_aload_n C dX21_mark_10 0 rfl ?_
  replace hf := gx_bs hf
  obtain ⟨r6, g27, hf⟩ := hf
  refine gx_gr C g27 gz_385 q2006 dX21_mark_11 ?_
  replace hf := gx_bs hf
  obtain ⟨a7, rfl, hf⟩ := hf
  replace hf := gx_bs hf
  obtain ⟨r8, g26, hf⟩ := hf
  refine gx_grN C g26 gz_91 q901 dX21_mark_14 ?_
  refine gx_iload_n C dX21_mark_17 1 rfl ?_
  refine gx_iload_n C dX21_mark_18 3 rfl ?_
  replace hf := gx_bs hf
  obtain ⟨a9, rfl, hf⟩ := hf
  replace hf := gx_bs hf
  obtain ⟨h10, g25, hf⟩ := hf
  refine gx_iast C g25 dX21_mark_19 ?_
  refine gx_aload_n C dX21_mark_20 0 rfl ?_
  replace hf := gx_bs hf
  obtain ⟨r11, g24, hf⟩ := hf
  refine gx_gr C g24 gz_385 q2006 dX21_mark_21 ?_
  replace hf := gx_bs hf
  obtain ⟨a12, rfl, hf⟩ := hf
  replace hf := gx_bs hf
  obtain ⟨r13, g23, hf⟩ := hf
  refine gx_grN C g23 gz_92 q903 dX21_mark_24 ?_
  refine gx_aload_n C dX21_mark_27 0 rfl ?_
  replace hf := gx_bs hf
  obtain ⟨x14, g22, hf⟩ := hf
  refine gx_gi C g22 gz_405 q2005 dX21_mark_28 ?_
  refine gx_iload_n C dX21_mark_31 1 rfl ?_
  replace hf := gx_bs hf
  obtain ⟨a15, rfl, hf⟩ := hf
  replace hf := gx_bs hf
  obtain ⟨h16, g21, hf⟩ := hf
  refine gx_iast C g21 dX21_mark_32 ?_
  refine gx_aload_n C dX21_mark_33 0 rfl ?_
  refine gx_dup C dX21_mark_34 rfl ?_
  replace hf := gx_bs hf
  obtain ⟨x17, g20, hf⟩ := hf
  refine gx_gi C g20 gz_405 q2005 dX21_mark_35 ?_
  refine gx_iconst (v := 1) C dX21_mark_38 rfl ?_
  refine gx_iadd C dX21_mark_39 ?_
  replace hf := gx_bs hf
  obtain ⟨h18, g19, hf⟩ := hf
  refine gx_putv C g19 gz_405 gz_1 rfl rfl q2005 dX21_mark_40 ?_
  obtain rfl := Option.some.inj hf
  exact gx_vret C dX21_mark_43
theorem le_X21_mark {D : gx_D} {hz : HX} {h : HX} {a0 : Nat} {p1 : Int32} {p2 : Int32} {p3 : Int32} (hf : f_X21_mark D h a0 p1 p2 p3 = some hz) : gx_le h hz := by
  unfold f_X21_mark at hf
  replace hf := gx_bs hf
  obtain ⟨_, -, hf⟩ := hf
  replace hf := gx_bs hf
  obtain ⟨r1, g30, hf⟩ := hf
  replace hf := gx_bs hf
  obtain ⟨a2, rfl, hf⟩ := hf
  replace hf := gx_bs hf
  obtain ⟨r3, g29, hf⟩ := hf
  replace hf := gx_bs hf
  obtain ⟨a4, rfl, hf⟩ := hf
  replace hf := gx_bs hf
  obtain ⟨h5, g28, hf⟩ := hf
  refine (hx_le_si g28).tr ?_
  replace hf := gx_bs hf
  obtain ⟨r6, g27, hf⟩ := hf
  replace hf := gx_bs hf
  obtain ⟨a7, rfl, hf⟩ := hf
  replace hf := gx_bs hf
  obtain ⟨r8, g26, hf⟩ := hf
  replace hf := gx_bs hf
  obtain ⟨a9, rfl, hf⟩ := hf
  replace hf := gx_bs hf
  obtain ⟨h10, g25, hf⟩ := hf
  refine (hx_le_si g25).tr ?_
  replace hf := gx_bs hf
  obtain ⟨r11, g24, hf⟩ := hf
  replace hf := gx_bs hf
  obtain ⟨a12, rfl, hf⟩ := hf
  replace hf := gx_bs hf
  obtain ⟨r13, g23, hf⟩ := hf
  replace hf := gx_bs hf
  obtain ⟨x14, g22, hf⟩ := hf
  replace hf := gx_bs hf
  obtain ⟨a15, rfl, hf⟩ := hf
  replace hf := gx_bs hf
  obtain ⟨h16, g21, hf⟩ := hf
  refine (hx_le_si g21).tr ?_
  replace hf := gx_bs hf
  obtain ⟨x17, g20, hf⟩ := hf
  replace hf := gx_bs hf
  obtain ⟨h18, g19, hf⟩ := hf
  refine (hx_le_pv g19).tr ?_
  obtain rfl := Option.some.inj hf
  exact gx_le.rf
theorem w_X21_mark {l : Launch} (hlt : l.stackTraces = false) {D : gx_D} {h : HX} {a0 : Nat} {p1 : Int32} {p2 : Int32} {p3 : Int32} {hz : HX} (hf : f_X21_mark D h a0 p1 p2 p3 = some hz) : gx_Met l yX21_mark cX21_mark 4 none 1 24 D [(va_rf (some a0)), (.int p1), (.int p2), (.int p3)] h none hz :=
  gx_ofG gz_386 (by simp only [gx_lsr, gx_lsi, gx_lsj, gx_ls0]; decide) (le_X21_mark hf) (fun p e R s m args below meth c C hx => by
    simp only [gx_lar, gx_lai, gx_laj, gx_la0, Nat.reduceAdd]
    exact w_X21_mark_b hlt C hx hf)
def f_X21_expand_b97 (D : gx_D) (k2 : HX → Nat → Int32 → Int32 → Option HX) (h : HX) (v0 : Nat) (v1 : Int32) (v2 : Int32) : Option HX :=
  k2 h v0 v1 ((v2 + (1 : Int32)))
theorem w_X21_expand_b97 {l : Launch} (hlt : l.stackTraces = false) {p : Program} {e : Env} {R : Room} {s : State} {m : MethodId} {args : Array Value} {below : List Frame} {meth : Method} {c : Code} {D : gx_D} {h0 : HX} {hz : HX} (C : gx_Ctx p R s m args meth c "ContractMachine$Search" cX21_expand 5 none 7 156 D h0 hz) (hx : meth.name = "expand")  {k2 : HX → Nat → Int32 → Int32 → Option HX} (wk2 : ∀ ⦃h : HX⦄ ⦃v0 : Nat⦄ ⦃v1 : Int32⦄ ⦃v2 : Int32⦄, k2 h v0 v1 v2 = some hz → gx_G p l e R s m args below meth c D h0 hz 5 (gx_MQ below args s D h0 hz none) 2 [(0, (va_rf (some v0))), (1, (.int v1)), (2, (.int v2))] [] h) {h : HX} {v0 : Nat} {v1 : Int32} {v2 : Int32} (hf : f_X21_expand_b97 D k2 h v0 v1 v2 = some hz) : gx_G p l e R s m args below meth c D h0 hz 5 (gx_MQ below args s D h0 hz none) 97 [(0, (va_rf (some v0))), (1, (.int v1)), (2, (.int v2))] [] h := by
  unfold f_X21_expand_b97 at hf
  refine gx_inc (v := 1) C dX21_expand_97 2 rfl rfl (by decide) [0, 1] rfl (gx_okn rfl rfl (gx_okr rfl gx_catv_i gx_ok0)) ?_
  refine gx_goto (tgt := 2) C dX21_expand_100 rfl ?_
  refine gx_sub [1, 2, 0] rfl ?_
  exact wk2 hf
theorem le_X21_expand_b97 {D : gx_D} {hz : HX} {k2 : HX → Nat → Int32 → Int32 → Option HX} (lek2 : ∀ ⦃h : HX⦄ ⦃v0 : Nat⦄ ⦃v1 : Int32⦄ ⦃v2 : Int32⦄, k2 h v0 v1 v2 = some hz → gx_le h hz) {h : HX} {v0 : Nat} {v1 : Int32} {v2 : Int32} (hf : f_X21_expand_b97 D k2 h v0 v1 v2 = some hz) : gx_le h hz := by
  unfold f_X21_expand_b97 at hf
  exact lek2 hf
def f_X21_expand_b77 (D : gx_D) (k2 : HX → Nat → Int32 → Int32 → Option HX) (h : HX) (v0 : Nat) (v1 : Int32) (v2 : Int32) (v3 : Int32) (s0 : Int32) : Option HX :=
  (hx_gr h v0 [25] 2).bind fun r27 =>
  r27.bind fun a28 =>
  (hx_gr h a28 [9] 9).bind fun r29 =>
  r29.bind fun a30 =>
  (hx_ai h a30 0 v1).bind fun x31 =>
  (f_X21_mark D h v0 v3 (x31 + (1 : Int32)) s0).bind fun h33 =>
  f_X21_expand_b97 D k2 h33 v0 v1 v2
theorem w_X21_expand_b77 {l : Launch} (hlt : l.stackTraces = false) {p : Program} {e : Env} {R : Room} {s : State} {m : MethodId} {args : Array Value} {below : List Frame} {meth : Method} {c : Code} {D : gx_D} {h0 : HX} {hz : HX} (C : gx_Ctx p R s m args meth c "ContractMachine$Search" cX21_expand 5 none 7 156 D h0 hz) (hx : meth.name = "expand")  {k2 : HX → Nat → Int32 → Int32 → Option HX} (wk2 : ∀ ⦃h : HX⦄ ⦃v0 : Nat⦄ ⦃v1 : Int32⦄ ⦃v2 : Int32⦄, k2 h v0 v1 v2 = some hz → gx_G p l e R s m args below meth c D h0 hz 5 (gx_MQ below args s D h0 hz none) 2 [(0, (va_rf (some v0))), (1, (.int v1)), (2, (.int v2))] [] h) {h : HX} {v0 : Nat} {v1 : Int32} {v2 : Int32} {v3 : Int32} {s0 : Int32} (hf : f_X21_expand_b77 D k2 h v0 v1 v2 v3 s0 = some hz) : gx_G p l e R s m args below meth c D h0 hz 5 (gx_MQ below args s D h0 hz none) 77 [(0, (va_rf (some v0))), (1, (.int v1)), (2, (.int v2)), (3, (.int v3))] [(.int s0)] h := by
  unfold f_X21_expand_b77 at hf
  refine gx_ist C dX21_expand_77 (by decide) [0, 1, 2, 3]  rfl (gx_okn rfl rfl (gx_okn rfl rfl (gx_okn rfl rfl (gx_okr rfl gx_catv_i gx_ok0)))) ?_
  refine gx_aload_n C dX21_expand_79 1 rfl ?_
  refine gx_iload_n C dX21_expand_80 4 rfl ?_
  refine gx_aload_n C dX21_expand_81 1 rfl ?_
  replace hf := gx_bs hf
  obtain ⟨r27, g36, hf⟩ := hf
  refine gx_gr C g36 gz_385 q2006 dX21_expand_82 ?_
  replace hf := gx_bs hf
  obtain ⟨a28, rfl, hf⟩ := hf
  replace hf := gx_bs hf
  obtain ⟨r29, g35, hf⟩ := hf
  refine gx_grN C g35 gz_90 q899 dX21_expand_85 ?_
  refine gx_iload_n C dX21_expand_88 2 rfl ?_
  replace hf := gx_bs hf
  obtain ⟨a30, rfl, hf⟩ := hf
  replace hf := gx_bs hf
  obtain ⟨x31, g34, hf⟩ := hf
  refine gx_iald C g34 dX21_expand_89 ?_
  refine gx_iconst (v := 1) C dX21_expand_90 rfl ?_
  refine gx_iadd C dX21_expand_91 ?_
  refine gx_iload C dX21_expand_92 0 rfl ?_
  replace hf := gx_bs hf
  obtain ⟨h33, g32, hf⟩ := hf
  refine gx_callV (st := []) C (w_X21_mark hlt g32) (is_X21_mark g32) gz_407 rfl (lw_V q2028 q2030 qs41 q174 q2031) gz_406 (by decide) rfl rfl (gx_catn (Nat.le_of_ble_eq_true rfl)) dX21_expand_94 ?_
  refine gx_sub [1, 2, 3] rfl ?_
  exact w_X21_expand_b97 hlt C hx wk2 hf
theorem le_X21_expand_b77 {D : gx_D} {hz : HX} {k2 : HX → Nat → Int32 → Int32 → Option HX} (lek2 : ∀ ⦃h : HX⦄ ⦃v0 : Nat⦄ ⦃v1 : Int32⦄ ⦃v2 : Int32⦄, k2 h v0 v1 v2 = some hz → gx_le h hz) {h : HX} {v0 : Nat} {v1 : Int32} {v2 : Int32} {v3 : Int32} {s0 : Int32} (hf : f_X21_expand_b77 D k2 h v0 v1 v2 v3 s0 = some hz) : gx_le h hz := by
  unfold f_X21_expand_b77 at hf
  replace hf := gx_bs hf
  obtain ⟨r27, g36, hf⟩ := hf
  replace hf := gx_bs hf
  obtain ⟨a28, rfl, hf⟩ := hf
  replace hf := gx_bs hf
  obtain ⟨r29, g35, hf⟩ := hf
  replace hf := gx_bs hf
  obtain ⟨a30, rfl, hf⟩ := hf
  replace hf := gx_bs hf
  obtain ⟨x31, g34, hf⟩ := hf
  replace hf := gx_bs hf
  obtain ⟨h33, g32, hf⟩ := hf
  refine (le_X21_mark g32).tr ?_
  exact le_X21_expand_b97 lek2 hf
def f_X21_expand_b2 (D : gx_D) : Nat → HX → Nat → Int32 → Int32 → Option HX
  | 0, _, _, _, _ => none
  | n + 1, h, v0, v1, v2 =>
  (hx_gr h v0 [25] 2).bind fun r1 =>
  r1.bind fun a2 =>
  (hx_gr h a2 [9] 5).bind fun r3 =>
  r3.bind fun a4 =>
  (hx_gr h a4 [10] 1).bind fun r5 =>
  r5.bind fun a6 =>
  (f_J2_size D h a6).bind fun x8 =>
  if x8 ≤ v2 then
  some h
  else
  (hx_gr h v0 [25] 2).bind fun r10 =>
  r10.bind fun a11 =>
  (f_X1_next D h a11 v1 v2).bind fun x13 =>
  if x13 = (-1 : Int32) then
  f_X21_expand_b97 D (f_X21_expand_b2 D n) h v0 v1 v2
  else
  (hx_gr h v0 [25] 2).bind fun r15 =>
  r15.bind fun a16 =>
  (hx_gr h a16 [9] 9).bind fun r17 =>
  r17.bind fun a18 =>
  (hx_ai h a18 0 x13).bind fun x19 =>
  if x19 = (-1 : Int32) then
  (hx_gr h v0 [25] 2).bind fun r21 =>
  r21.bind fun a22 =>
  (hx_gr h a22 [9] 9).bind fun r23 =>
  r23.bind fun a24 =>
  (hx_ai h a24 0 v1).bind fun x25 =>
  if x25 = 0 then
  f_X21_expand_b77 D (f_X21_expand_b2 D n) h v0 v1 v2 x13 v2
  else
  (hx_gr h v0 [25] 2).bind fun r37 =>
  r37.bind fun a38 =>
  (hx_gr h a38 [9] 10).bind fun r39 =>
  r39.bind fun a40 =>
  (hx_ai h a40 0 v1).bind fun x41 =>
  f_X21_expand_b77 D (f_X21_expand_b2 D n) h v0 v1 v2 x13 x41
  else
  f_X21_expand_b97 D (f_X21_expand_b2 D n) h v0 v1 v2
theorem w_X21_expand_b2 {l : Launch} (hlt : l.stackTraces = false) {p : Program} {e : Env} {R : Room} {s : State} {m : MethodId} {args : Array Value} {below : List Frame} {meth : Method} {c : Code} {D : gx_D} {h0 : HX} {hz : HX} (C : gx_Ctx p R s m args meth c "ContractMachine$Search" cX21_expand 5 none 7 156 D h0 hz) (hx : meth.name = "expand")  : ∀ (n : Nat) ⦃h : HX⦄ ⦃v0 : Nat⦄ ⦃v1 : Int32⦄ ⦃v2 : Int32⦄, f_X21_expand_b2 D n h v0 v1 v2 = some hz → gx_G p l e R s m args below meth c D h0 hz 5 (gx_MQ below args s D h0 hz none) 2 [(0, (va_rf (some v0))), (1, (.int v1)), (2, (.int v2))] [] h := by
  intro n
  induction n with
  | zero => intro h v0 v1 v2 hf; unfold f_X21_expand_b2 at hf; cases hf
  | succ n wk2 =>
    intro h v0 v1 v2 hf
    unfold f_X21_expand_b2 at hf
    refine gx_iload_n C dX21_expand_2 2 rfl ?_
    refine gx_aload_n C dX21_expand_3 0 rfl ?_
    replace hf := gx_bs hf
    obtain ⟨r1, g54, hf⟩ := hf
    refine gx_gr C g54 gz_385 q2006 dX21_expand_4 ?_
    replace hf := gx_bs hf
    obtain ⟨a2, rfl, hf⟩ := hf
    replace hf := gx_bs hf
    obtain ⟨r3, g53, hf⟩ := hf
    refine gx_grN C g53 gz_20 q891 dX21_expand_7 ?_
    replace hf := gx_bs hf
    obtain ⟨a4, rfl, hf⟩ := hf
    replace hf := gx_bs hf
    obtain ⟨r5, g52, hf⟩ := hf
    refine gx_grN C g52 gz_27 q563 dX21_expand_10 ?_
    replace hf := gx_bs hf
    obtain ⟨a6, rfl, hf⟩ := hf
    replace hf := gx_bs hf
    obtain ⟨x8, g7, hf⟩ := hf
    refine gx_callF (st := [(.int v2)]) C (w_J2_size hlt g7) (is_J2_size g7) q2099 (gx_cis1 gz_19 ⟨gz_51, q770⟩ gx_cis0) q772 q127 q774 gz_50 (by decide) rfl rfl (gx_catn (Nat.le_of_ble_eq_true rfl)) dX21_expand_13 ?_
    replace hf := gx_ite hf
    rcases hf with ⟨c9, hf⟩ | ⟨c9, hf⟩
    · refine gx_icmp_ge_t (tgt := 103) C dX21_expand_18 rfl c9 ?_
      obtain rfl := Option.some.inj hf
      exact gx_vret C dX21_expand_103
    · refine gx_icmp_ge_f (tgt := 103) C dX21_expand_18 rfl c9 ?_
      refine gx_aload_n C dX21_expand_21 0 rfl ?_
      replace hf := gx_bs hf
      obtain ⟨r10, g51, hf⟩ := hf
      refine gx_gr C g51 gz_385 q2006 dX21_expand_22 ?_
      refine gx_iload_n C dX21_expand_25 1 rfl ?_
      refine gx_iload_n C dX21_expand_26 2 rfl ?_
      replace hf := gx_bs hf
      obtain ⟨a11, rfl, hf⟩ := hf
      replace hf := gx_bs hf
      obtain ⟨x13, g12, hf⟩ := hf
      refine gx_callVN (st := []) C (w_X1_next hlt g12) (is_X1_next g12) gz_108 q2100 q1844 qs35 q121 q1845 gz_314 (by decide) rfl rfl (gx_catn (Nat.le_of_ble_eq_true rfl)) dX21_expand_27 ?_
      refine gx_istn C dX21_expand_30 3 rfl (by decide) [0, 1, 2]  rfl (gx_okn rfl rfl (gx_okn rfl rfl (gx_okr rfl gx_catv_i gx_ok0))) ?_
      refine gx_iload_n C dX21_expand_31 0 rfl ?_
      refine gx_iconst (v := -1) C dX21_expand_32 rfl ?_
      replace hf := gx_ite hf
      rcases hf with ⟨c14, hf⟩ | ⟨c14, hf⟩
      · refine gx_icmp_eq_t (tgt := 97) C dX21_expand_33 rfl c14 ?_
        refine gx_sub [1, 2, 3] rfl ?_
        exact w_X21_expand_b97 hlt C hx wk2 hf
      · refine gx_icmp_eq_f (tgt := 97) C dX21_expand_33 rfl c14 ?_
        refine gx_aload_n C dX21_expand_36 1 rfl ?_
        replace hf := gx_bs hf
        obtain ⟨r15, g50, hf⟩ := hf
        refine gx_gr C g50 gz_385 q2006 dX21_expand_37 ?_
        replace hf := gx_bs hf
        obtain ⟨a16, rfl, hf⟩ := hf
        replace hf := gx_bs hf
        obtain ⟨r17, g49, hf⟩ := hf
        refine gx_grN C g49 gz_90 q899 dX21_expand_40 ?_
        refine gx_iload_n C dX21_expand_43 0 rfl ?_
        replace hf := gx_bs hf
        obtain ⟨a18, rfl, hf⟩ := hf
        replace hf := gx_bs hf
        obtain ⟨x19, g48, hf⟩ := hf
        refine gx_iald C g48 dX21_expand_44 ?_
        refine gx_iconst (v := -1) C dX21_expand_45 rfl ?_
        replace hf := gx_ite hf
        rcases hf with ⟨c20, hf⟩ | ⟨c20, hf⟩
        · refine gx_icmp_eq_t (tgt := 52) C dX21_expand_46 rfl c20 ?_
          refine gx_aload_n C dX21_expand_52 1 rfl ?_
          replace hf := gx_bs hf
          obtain ⟨r21, g47, hf⟩ := hf
          refine gx_gr C g47 gz_385 q2006 dX21_expand_53 ?_
          replace hf := gx_bs hf
          obtain ⟨a22, rfl, hf⟩ := hf
          replace hf := gx_bs hf
          obtain ⟨r23, g46, hf⟩ := hf
          refine gx_grN C g46 gz_90 q899 dX21_expand_56 ?_
          refine gx_iload_n C dX21_expand_59 2 rfl ?_
          replace hf := gx_bs hf
          obtain ⟨a24, rfl, hf⟩ := hf
          replace hf := gx_bs hf
          obtain ⟨x25, g45, hf⟩ := hf
          refine gx_iald C g45 dX21_expand_60 ?_
          replace hf := gx_ite hf
          rcases hf with ⟨c26, hf⟩ | ⟨c26, hf⟩
          · refine gx_if_ne_f (tgt := 68) C dX21_expand_61 rfl c26 ?_
            refine gx_iload_n C dX21_expand_64 3 rfl ?_
            refine gx_goto (tgt := 77) C dX21_expand_65 rfl ?_
            refine gx_sub [1, 2, 3, 0] rfl ?_
            exact w_X21_expand_b77 hlt C hx wk2 hf
          · refine gx_if_ne_t (tgt := 68) C dX21_expand_61 rfl c26 ?_
            refine gx_aload_n C dX21_expand_68 1 rfl ?_
            replace hf := gx_bs hf
            obtain ⟨r37, g44, hf⟩ := hf
            refine gx_gr C g44 gz_385 q2006 dX21_expand_69 ?_
            replace hf := gx_bs hf
            obtain ⟨a38, rfl, hf⟩ := hf
            replace hf := gx_bs hf
            obtain ⟨r39, g43, hf⟩ := hf
            refine gx_grN C g43 gz_91 q901 dX21_expand_72 ?_
            refine gx_iload_n C dX21_expand_75 2 rfl ?_
            replace hf := gx_bs hf
            obtain ⟨a40, rfl, hf⟩ := hf
            replace hf := gx_bs hf
            obtain ⟨x41, g42, hf⟩ := hf
            refine gx_iald C g42 dX21_expand_76 ?_
            refine gx_sub [1, 2, 3, 0] rfl ?_
            exact w_X21_expand_b77 hlt C hx wk2 hf
        · refine gx_icmp_eq_f (tgt := 52) C dX21_expand_46 rfl c20 ?_
          refine gx_goto (tgt := 97) C dX21_expand_49 rfl ?_
          refine gx_sub [1, 2, 3] rfl ?_
          exact w_X21_expand_b97 hlt C hx wk2 hf
theorem le_X21_expand_b2 {D : gx_D} {hz : HX} : ∀ (n : Nat) ⦃h : HX⦄ ⦃v0 : Nat⦄ ⦃v1 : Int32⦄ ⦃v2 : Int32⦄, f_X21_expand_b2 D n h v0 v1 v2 = some hz → gx_le h hz := by
  intro n
  induction n with
  | zero => intro h v0 v1 v2 hf; unfold f_X21_expand_b2 at hf; cases hf
  | succ n lek2 =>
    intro h v0 v1 v2 hf
    unfold f_X21_expand_b2 at hf
    replace hf := gx_bs hf
    obtain ⟨r1, g54, hf⟩ := hf
    replace hf := gx_bs hf
    obtain ⟨a2, rfl, hf⟩ := hf
    replace hf := gx_bs hf
    obtain ⟨r3, g53, hf⟩ := hf
    replace hf := gx_bs hf
    obtain ⟨a4, rfl, hf⟩ := hf
    replace hf := gx_bs hf
    obtain ⟨r5, g52, hf⟩ := hf
    replace hf := gx_bs hf
    obtain ⟨a6, rfl, hf⟩ := hf
    replace hf := gx_bs hf
    obtain ⟨x8, g7, hf⟩ := hf
    replace hf := gx_ite hf
    rcases hf with ⟨c9, hf⟩ | ⟨c9, hf⟩
    · obtain rfl := Option.some.inj hf
      exact gx_le.rf
    · replace hf := gx_bs hf
      obtain ⟨r10, g51, hf⟩ := hf
      replace hf := gx_bs hf
      obtain ⟨a11, rfl, hf⟩ := hf
      replace hf := gx_bs hf
      obtain ⟨x13, g12, hf⟩ := hf
      replace hf := gx_ite hf
      rcases hf with ⟨c14, hf⟩ | ⟨c14, hf⟩
      · exact le_X21_expand_b97 lek2 hf
      · replace hf := gx_bs hf
        obtain ⟨r15, g50, hf⟩ := hf
        replace hf := gx_bs hf
        obtain ⟨a16, rfl, hf⟩ := hf
        replace hf := gx_bs hf
        obtain ⟨r17, g49, hf⟩ := hf
        replace hf := gx_bs hf
        obtain ⟨a18, rfl, hf⟩ := hf
        replace hf := gx_bs hf
        obtain ⟨x19, g48, hf⟩ := hf
        replace hf := gx_ite hf
        rcases hf with ⟨c20, hf⟩ | ⟨c20, hf⟩
        · replace hf := gx_bs hf
          obtain ⟨r21, g47, hf⟩ := hf
          replace hf := gx_bs hf
          obtain ⟨a22, rfl, hf⟩ := hf
          replace hf := gx_bs hf
          obtain ⟨r23, g46, hf⟩ := hf
          replace hf := gx_bs hf
          obtain ⟨a24, rfl, hf⟩ := hf
          replace hf := gx_bs hf
          obtain ⟨x25, g45, hf⟩ := hf
          replace hf := gx_ite hf
          rcases hf with ⟨c26, hf⟩ | ⟨c26, hf⟩
          · exact le_X21_expand_b77 lek2 hf
          · replace hf := gx_bs hf
            obtain ⟨r37, g44, hf⟩ := hf
            replace hf := gx_bs hf
            obtain ⟨a38, rfl, hf⟩ := hf
            replace hf := gx_bs hf
            obtain ⟨r39, g43, hf⟩ := hf
            replace hf := gx_bs hf
            obtain ⟨a40, rfl, hf⟩ := hf
            replace hf := gx_bs hf
            obtain ⟨x41, g42, hf⟩ := hf
            exact le_X21_expand_b77 lek2 hf
        · exact le_X21_expand_b97 lek2 hf
def f_X21_expand (D : gx_D) (h : HX) (a0 : Nat) (p1 : Int32) : Option HX :=
  (hx_is h a0 [25]).bind fun _ =>
  f_X21_expand_b2 D gx_fuel h a0 p1 ((0 : Int32))
theorem is_X21_expand {D : gx_D} {h : HX} {a0 : Nat} {p1 : Int32} {z} (hf : f_X21_expand D h a0 p1 = some z) : gx_isC h a0 [25] := by
  unfold f_X21_expand at hf
  obtain ⟨_, g, -⟩ := gx_bs hf
  exact hx_is_of g
theorem w_X21_expand_b {l : Launch} (hlt : l.stackTraces = false) {p : Program} {e : Env} {R : Room} {s : State} {m : MethodId} {args : Array Value} {below : List Frame} {meth : Method} {c : Code} {D : gx_D} {h0 : HX} {hz : HX} (C : gx_Ctx p R s m args meth c "ContractMachine$Search" cX21_expand 5 none 7 156 D h0 hz) (hx : meth.name = "expand") {a0 : Nat} {p1 : Int32} (hf : f_X21_expand D h0 a0 p1 = some hz) : gx_G p l e R s m args below meth c D h0 hz 5 (gx_MQ below args s D h0 hz none) 0 [(0, (va_rf (some a0))), (1, (.int p1))] [] h0 := by
  unfold f_X21_expand at hf
  replace hf := gx_bs hf
  obtain ⟨_, -, hf⟩ := hf
  refine gx_iconst (v := 0) C dX21_expand_0 rfl ?_
  refine gx_istn C dX21_expand_1 2 rfl (by decide) [0, 1]  rfl (gx_okn rfl rfl (gx_okr rfl gx_catv_i gx_ok0)) ?_
  refine gx_sub [1, 2, 0] rfl ?_
  exact w_X21_expand_b2 hlt C hx gx_fuel hf
theorem le_X21_expand {D : gx_D} {hz : HX} {h : HX} {a0 : Nat} {p1 : Int32} (hf : f_X21_expand D h a0 p1 = some hz) : gx_le h hz := by
  unfold f_X21_expand at hf
  replace hf := gx_bs hf
  obtain ⟨_, -, hf⟩ := hf
  exact le_X21_expand_b2 gx_fuel hf
theorem w_X21_expand {l : Launch} (hlt : l.stackTraces = false) {D : gx_D} {h : HX} {a0 : Nat} {p1 : Int32} {hz : HX} (hf : f_X21_expand D h a0 p1 = some hz) : gx_Met l yX21_expand cX21_expand 5 none 7 156 D [(va_rf (some a0)), (.int p1)] h none hz :=
  gx_ofG gz_386 (by simp only [gx_lsr, gx_lsi, gx_lsj, gx_ls0]; decide) (le_X21_expand hf) (fun p e R s m args below meth c C hx => by
    simp only [gx_lar, gx_lai, gx_laj, gx_la0, Nat.reduceAdd]
    exact w_X21_expand_b hlt C hx hf)
def f_X37_isDone (D : gx_D) (h : HX) (a0 : Nat) : Option Bool :=
  (hx_is h a0 [26, 29]).bind fun _ =>
  some false
theorem is_X37_isDone {D : gx_D} {h : HX} {a0 : Nat} {z} (hf : f_X37_isDone D h a0 = some z) : gx_isC h a0 [26, 29] := by
  unfold f_X37_isDone at hf
  obtain ⟨_, g, -⟩ := gx_bs hf
  exact hx_is_of g
theorem w_X37_isDone_b {l : Launch} (hlt : l.stackTraces = false) {p : Program} {e : Env} {R : Room} {s : State} {m : MethodId} {args : Array Value} {below : List Frame} {meth : Method} {c : Code} {D : gx_D} {h0 : HX} {r : Bool} (C : gx_Ctx p R s m args meth c "ContractMachine$Visitor" cX37_isDone 1 (some .boolean) 1 24 D h0 h0) (hx : meth.name = "isDone") {a0 : Nat} (hf : f_X37_isDone D h0 a0 = some r) : gx_G p l e R s m args below meth c D h0 h0 1 (gx_MQ below args s D h0 h0 (some (.int (b2i r)))) 0 [(0, (va_rf (some a0)))] [] h0 := by
  unfold f_X37_isDone at hf
  replace hf := gx_bs hf
  obtain ⟨_, -, hf⟩ := hf
  refine gx_iconst (v := 0) C dX37_isDone_0 rfl ?_
  obtain rfl := Option.some.inj hf
  exact gx_zret (b := false) C dX37_isDone_1
theorem w_X37_isDone {l : Launch} (hlt : l.stackTraces = false) {D : gx_D} {h : HX} {a0 : Nat} {r : Bool} (hf : f_X37_isDone D h a0 = some r) : gx_Met l yX37_isDone cX37_isDone 1 (some .boolean) 1 24 D [(va_rf (some a0))] h (some (.int (b2i r))) h :=
  gx_ofG gz_408 (by simp only [gx_lsr, gx_lsi, gx_lsj, gx_ls0]; decide) gx_le.rf (fun p e R s m args below meth c C hx => by
    simp only [gx_lar, gx_lai, gx_laj, gx_la0, Nat.reduceAdd]
    exact w_X37_isDone_b hlt C hx hf)
def f_X21_inBreadth_b74 (D : gx_D) (h : HX) (v0 : Nat) : Option ((Int32) × HX) :=
  (hx_gi h v0 [25] 0).bind fun x11 =>
  some (x11, h)
theorem w_X21_inBreadth_b74 {l : Launch} (hlt : l.stackTraces = false) {p : Program} {e : Env} {R : Room} {s : State} {m : MethodId} {args : Array Value} {below : List Frame} {meth : Method} {c : Code} {D : gx_D} {h0 : HX} {r : Int32} {hz : HX} (C : gx_Ctx p R s m args meth c "ContractMachine$Search" cX21_inBreadth 3 (some .int) 10 220 D h0 hz) (hx : meth.name = "inBreadth")  {h : HX} {v0 : Nat} (hf : f_X21_inBreadth_b74 D h v0 = some (r, hz)) : gx_G p l e R s m args below meth c D h0 hz 3 (gx_MQ below args s D h0 hz (some (.int r))) 74 [(0, (va_rf (some v0)))] [] h := by
  unfold f_X21_inBreadth_b74 at hf
  refine gx_aload_n C dX21_inBreadth_74 0 rfl ?_
  replace hf := gx_bs hf
  obtain ⟨x11, g12, hf⟩ := hf
  refine gx_gi C g12 gz_409 q2004 dX21_inBreadth_75 ?_
  obtain ⟨rfl, rfl⟩ := Prod.mk.inj (Option.some.inj hf)
  exact gx_iret C dX21_inBreadth_78
theorem le_X21_inBreadth_b74 {D : gx_D} {r : Int32} {hz : HX} {h : HX} {v0 : Nat} (hf : f_X21_inBreadth_b74 D h v0 = some (r, hz)) : gx_le h hz := by
  unfold f_X21_inBreadth_b74 at hf
  replace hf := gx_bs hf
  obtain ⟨x11, g12, hf⟩ := hf
  obtain ⟨rfl, rfl⟩ := Prod.mk.inj (Option.some.inj hf)
  exact gx_le.rf
def f_X21_inBreadth_b66 (D : gx_D) (k16 : HX → Nat → Option Nat → Option ((Int32) × HX)) (h : HX) (v0 : Nat) (v1 : Option Nat) (v2 : Int32) : Option ((Int32) × HX) :=
  (f_X21_expand D h v0 v2).bind fun h30 =>
  k16 h30 v0 v1
theorem w_X21_inBreadth_b66 {l : Launch} (hlt : l.stackTraces = false) {p : Program} {e : Env} {R : Room} {s : State} {m : MethodId} {args : Array Value} {below : List Frame} {meth : Method} {c : Code} {D : gx_D} {h0 : HX} {r : Int32} {hz : HX} (C : gx_Ctx p R s m args meth c "ContractMachine$Search" cX21_inBreadth 3 (some .int) 10 220 D h0 hz) (hx : meth.name = "inBreadth")  {k16 : HX → Nat → Option Nat → Option ((Int32) × HX)} (wk16 : ∀ ⦃h : HX⦄ ⦃v0 : Nat⦄ ⦃v1 : Option Nat⦄, k16 h v0 v1 = some (r, hz) → gx_G p l e R s m args below meth c D h0 hz 3 (gx_MQ below args s D h0 hz (some (.int r))) 16 [(0, (va_rf (some v0))), (1, (va_rf v1))] [] h) {h : HX} {v0 : Nat} {v1 : Option Nat} {v2 : Int32} (hf : f_X21_inBreadth_b66 D k16 h v0 v1 v2 = some (r, hz)) : gx_G p l e R s m args below meth c D h0 hz 3 (gx_MQ below args s D h0 hz (some (.int r))) 66 [(0, (va_rf (some v0))), (1, (va_rf v1)), (2, (.int v2))] [] h := by
  unfold f_X21_inBreadth_b66 at hf
  refine gx_aload_n C dX21_inBreadth_66 0 rfl ?_
  refine gx_iload_n C dX21_inBreadth_67 2 rfl ?_
  replace hf := gx_bs hf
  obtain ⟨h30, g29, hf⟩ := hf
  refine gx_callV (st := []) C (w_X21_expand hlt g29) (is_X21_expand g29) gz_407 rfl (lw_V q2094 q2096 qs42 q174 q2097) gz_424 (by decide) rfl rfl (gx_catn (Nat.le_of_ble_eq_true rfl)) dX21_inBreadth_68 ?_
  refine gx_goto (tgt := 16) C dX21_inBreadth_71 rfl ?_
  refine gx_sub [0, 1] rfl ?_
  exact wk16 hf
theorem le_X21_inBreadth_b66 {D : gx_D} {r : Int32} {hz : HX} {k16 : HX → Nat → Option Nat → Option ((Int32) × HX)} (lek16 : ∀ ⦃h : HX⦄ ⦃v0 : Nat⦄ ⦃v1 : Option Nat⦄, k16 h v0 v1 = some (r, hz) → gx_le h hz) {h : HX} {v0 : Nat} {v1 : Option Nat} {v2 : Int32} (hf : f_X21_inBreadth_b66 D k16 h v0 v1 v2 = some (r, hz)) : gx_le h hz := by
  unfold f_X21_inBreadth_b66 at hf
  replace hf := gx_bs hf
  obtain ⟨h30, g29, hf⟩ := hf
  refine (le_X21_expand g29).tr ?_
  exact lek16 hf
def f_X21_inBreadth_b33 (D : gx_D) (k16 : HX → Nat → Option Nat → Option ((Int32) × HX)) (h : HX) (v0 : Nat) (v1 : Option Nat) (s0 : Bool) : Option ((Int32) × HX) :=
  if s0 = true then
  f_X21_inBreadth_b74 D h v0
  else
  (hx_gr h v0 [25] 2).bind fun r18 =>
  r18.bind fun a19 =>
  (hx_gr h a19 [9] 11).bind fun r20 =>
  (hx_gi h v0 [25] 0).bind fun x21 =>
  r20.bind fun a22 =>
  (hx_ai h a22 0 x21).bind fun x23 =>
  (hx_gi h v0 [25] 0).bind fun x24 =>
  (hx_pi h v0 [25] 0 (x24 + (1 : Int32))).bind fun h25 =>
  v1.bind fun a26 =>
  if hx_isb h25 a26 [26] = true then
  (f_X22_visit D h25 a26 x23).bind fun u31 =>
  f_X21_inBreadth_b66 D k16 h25 v0 (some a26) x23
  else
  if hx_isb h25 a26 [27, 28, 30] = true then
  (f_X23_visit D h25 a26 x23).bind fun h34 =>
  f_X21_inBreadth_b66 D k16 h34 v0 (some a26) x23
  else
  if hx_isb h25 a26 [29] = true then
  (f_X26_visit D h25 a26 x23).bind fun h37 =>
  f_X21_inBreadth_b66 D k16 h37 v0 (some a26) x23
  else
  none
theorem w_X21_inBreadth_b33 {l : Launch} (hlt : l.stackTraces = false) {p : Program} {e : Env} {R : Room} {s : State} {m : MethodId} {args : Array Value} {below : List Frame} {meth : Method} {c : Code} {D : gx_D} {h0 : HX} {r : Int32} {hz : HX} (C : gx_Ctx p R s m args meth c "ContractMachine$Search" cX21_inBreadth 3 (some .int) 10 220 D h0 hz) (hx : meth.name = "inBreadth")  {k16 : HX → Nat → Option Nat → Option ((Int32) × HX)} (wk16 : ∀ ⦃h : HX⦄ ⦃v0 : Nat⦄ ⦃v1 : Option Nat⦄, k16 h v0 v1 = some (r, hz) → gx_G p l e R s m args below meth c D h0 hz 3 (gx_MQ below args s D h0 hz (some (.int r))) 16 [(0, (va_rf (some v0))), (1, (va_rf v1))] [] h) {h : HX} {v0 : Nat} {v1 : Option Nat} {s0 : Bool} (hf : f_X21_inBreadth_b33 D k16 h v0 v1 s0 = some (r, hz)) : gx_G p l e R s m args below meth c D h0 hz 3 (gx_MQ below args s D h0 hz (some (.int r))) 33 [(0, (va_rf (some v0))), (1, (va_rf v1))] [(.int (b2i s0))] h := by
  unfold f_X21_inBreadth_b33 at hf
  replace hf := gx_ite hf
  rcases hf with ⟨c17, hf⟩ | ⟨c17, hf⟩
  · refine gx_ifz_ne_t (tgt := 74) C dX21_inBreadth_33 rfl c17 ?_
    refine gx_sub [0] rfl ?_
    exact w_X21_inBreadth_b74 hlt C hx hf
  · refine gx_ifz_ne_f (tgt := 74) C dX21_inBreadth_33 rfl c17 ?_
    refine gx_aload_n C dX21_inBreadth_36 0 rfl ?_
    replace hf := gx_bs hf
    obtain ⟨r18, g43, hf⟩ := hf
    refine gx_gr C g43 gz_385 q2006 dX21_inBreadth_37 ?_
    replace hf := gx_bs hf
    obtain ⟨a19, rfl, hf⟩ := hf
    replace hf := gx_bs hf
    obtain ⟨r20, g42, hf⟩ := hf
    refine gx_grN C g42 gz_92 q903 dX21_inBreadth_40 ?_
    refine gx_aload_n C dX21_inBreadth_43 0 rfl ?_
    replace hf := gx_bs hf
    obtain ⟨x21, g41, hf⟩ := hf
    refine gx_gi C g41 gz_409 q2004 dX21_inBreadth_44 ?_
    replace hf := gx_bs hf
    obtain ⟨a22, rfl, hf⟩ := hf
    replace hf := gx_bs hf
    obtain ⟨x23, g40, hf⟩ := hf
    refine gx_iald C g40 dX21_inBreadth_47 ?_
    refine gx_istn C dX21_inBreadth_48 2 rfl (by decide) [0, 1]  rfl (gx_okn rfl rfl (gx_okr rfl gx_catv_r gx_ok0)) ?_
    refine gx_aload_n C dX21_inBreadth_49 1 rfl ?_
    refine gx_dup C dX21_inBreadth_50 rfl ?_
    replace hf := gx_bs hf
    obtain ⟨x24, g39, hf⟩ := hf
    refine gx_gi C g39 gz_409 q2004 dX21_inBreadth_51 ?_
    refine gx_iconst (v := 1) C dX21_inBreadth_54 rfl ?_
    refine gx_iadd C dX21_inBreadth_55 ?_
    replace hf := gx_bs hf
    obtain ⟨h25, g38, hf⟩ := hf
    refine gx_putv C g38 gz_409 gz_1 rfl rfl q2004 dX21_inBreadth_56 ?_
    refine gx_aload_n C dX21_inBreadth_59 2 rfl ?_
    refine gx_iload_n C dX21_inBreadth_60 0 rfl ?_
    replace hf := gx_bs hf
    obtain ⟨a26, rfl, hf⟩ := hf
    replace hf := gx_ite hf
    rcases hf with ⟨c27, hf⟩ | ⟨c27, hf⟩
    · replace hf := gx_bs hf
      obtain ⟨u31, g28, hf⟩ := hf
      refine gx_callF (st := []) C (w_X22_visit hlt g28) (is_X22_visit g28) q2056 (gx_cis1 gz_413 ⟨gz_419, q2079⟩ gx_cis0) q2081 q175 q2083 gz_418 (by decide) rfl rfl (gx_catn (Nat.le_of_ble_eq_true rfl)) dX21_inBreadth_61 ?_
      refine gx_sub [1, 2, 0] rfl ?_
      exact w_X21_inBreadth_b66 hlt C hx wk16 hf
    replace hf := gx_ite hf
    rcases hf with ⟨c32, hf⟩ | ⟨c32, hf⟩
    · replace hf := gx_bs hf
      obtain ⟨h34, g33, hf⟩ := hf
      refine gx_callF (st := []) C (w_X23_visit hlt g33) (is_X23_visit g33) q2056 (gx_cis1 gz_402 ⟨gz_422, q2059⟩ (gx_cis1 gz_403 ⟨gz_421, q2084⟩ (gx_cis1 gz_404 ⟨gz_420, q2092⟩ gx_cis0))) q2061 q176 q2063 gz_418 (by decide) rfl rfl (gx_catn (Nat.le_of_ble_eq_true rfl)) dX21_inBreadth_61 ?_
      refine gx_sub [1, 2, 0] rfl ?_
      exact w_X21_inBreadth_b66 hlt C hx wk16 hf
    replace hf := gx_ite hf
    rcases hf with ⟨c35, hf⟩ | ⟨c35, hf⟩
    · replace hf := gx_bs hf
      obtain ⟨h37, g36, hf⟩ := hf
      refine gx_callF (st := []) C (w_X26_visit hlt g36) (is_X26_visit g36) q2056 (gx_cis1 gz_411 ⟨gz_423, q2086⟩ gx_cis0) q2088 q179 q2090 gz_418 (by decide) rfl rfl (gx_catn (Nat.le_of_ble_eq_true rfl)) dX21_inBreadth_61 ?_
      refine gx_sub [1, 2, 0] rfl ?_
      exact w_X21_inBreadth_b66 hlt C hx wk16 hf
    cases hf
theorem le_X21_inBreadth_b33 {D : gx_D} {r : Int32} {hz : HX} {k16 : HX → Nat → Option Nat → Option ((Int32) × HX)} (lek16 : ∀ ⦃h : HX⦄ ⦃v0 : Nat⦄ ⦃v1 : Option Nat⦄, k16 h v0 v1 = some (r, hz) → gx_le h hz) {h : HX} {v0 : Nat} {v1 : Option Nat} {s0 : Bool} (hf : f_X21_inBreadth_b33 D k16 h v0 v1 s0 = some (r, hz)) : gx_le h hz := by
  unfold f_X21_inBreadth_b33 at hf
  replace hf := gx_ite hf
  rcases hf with ⟨c17, hf⟩ | ⟨c17, hf⟩
  · exact le_X21_inBreadth_b74 hf
  · replace hf := gx_bs hf
    obtain ⟨r18, g43, hf⟩ := hf
    replace hf := gx_bs hf
    obtain ⟨a19, rfl, hf⟩ := hf
    replace hf := gx_bs hf
    obtain ⟨r20, g42, hf⟩ := hf
    replace hf := gx_bs hf
    obtain ⟨x21, g41, hf⟩ := hf
    replace hf := gx_bs hf
    obtain ⟨a22, rfl, hf⟩ := hf
    replace hf := gx_bs hf
    obtain ⟨x23, g40, hf⟩ := hf
    replace hf := gx_bs hf
    obtain ⟨x24, g39, hf⟩ := hf
    replace hf := gx_bs hf
    obtain ⟨h25, g38, hf⟩ := hf
    refine (hx_le_pv g38).tr ?_
    replace hf := gx_bs hf
    obtain ⟨a26, rfl, hf⟩ := hf
    replace hf := gx_ite hf
    rcases hf with ⟨c27, hf⟩ | ⟨c27, hf⟩
    · replace hf := gx_bs hf
      obtain ⟨u31, g28, hf⟩ := hf
      exact le_X21_inBreadth_b66 lek16 hf
    replace hf := gx_ite hf
    rcases hf with ⟨c32, hf⟩ | ⟨c32, hf⟩
    · replace hf := gx_bs hf
      obtain ⟨h34, g33, hf⟩ := hf
      refine (le_X23_visit g33).tr ?_
      exact le_X21_inBreadth_b66 lek16 hf
    replace hf := gx_ite hf
    rcases hf with ⟨c35, hf⟩ | ⟨c35, hf⟩
    · replace hf := gx_bs hf
      obtain ⟨h37, g36, hf⟩ := hf
      refine (le_X26_visit g36).tr ?_
      exact le_X21_inBreadth_b66 lek16 hf
    cases hf
def f_X21_inBreadth_b16 (D : gx_D) : Nat → HX → Nat → Option Nat → Option ((Int32) × HX)
  | 0, _, _, _ => none
  | n + 1, h, v0, v1 =>
  (hx_gi h v0 [25] 0).bind fun x8 =>
  (hx_gi h v0 [25] 1).bind fun x9 =>
  if x9 ≤ x8 then
  f_X21_inBreadth_b74 D h v0
  else
  v1.bind fun a13 =>
  if hx_isb h a13 [26, 29] = true then
  (f_X37_isDone D h a13).bind fun b16 =>
  f_X21_inBreadth_b33 D (f_X21_inBreadth_b16 D n) h v0 (some a13) b16
  else
  if hx_isb h a13 [27, 28, 30] = true then
  (f_X23_isDone D h a13).bind fun b46 =>
  f_X21_inBreadth_b33 D (f_X21_inBreadth_b16 D n) h v0 (some a13) b46
  else
  none
theorem w_X21_inBreadth_b16 {l : Launch} (hlt : l.stackTraces = false) {p : Program} {e : Env} {R : Room} {s : State} {m : MethodId} {args : Array Value} {below : List Frame} {meth : Method} {c : Code} {D : gx_D} {h0 : HX} {r : Int32} {hz : HX} (C : gx_Ctx p R s m args meth c "ContractMachine$Search" cX21_inBreadth 3 (some .int) 10 220 D h0 hz) (hx : meth.name = "inBreadth")  : ∀ (n : Nat) ⦃h : HX⦄ ⦃v0 : Nat⦄ ⦃v1 : Option Nat⦄, f_X21_inBreadth_b16 D n h v0 v1 = some (r, hz) → gx_G p l e R s m args below meth c D h0 hz 3 (gx_MQ below args s D h0 hz (some (.int r))) 16 [(0, (va_rf (some v0))), (1, (va_rf v1))] [] h := by
  intro n
  induction n with
  | zero => intro h v0 v1 hf; unfold f_X21_inBreadth_b16 at hf; cases hf
  | succ n wk16 =>
    intro h v0 v1 hf
    unfold f_X21_inBreadth_b16 at hf
    refine gx_aload_n C dX21_inBreadth_16 0 rfl ?_
    replace hf := gx_bs hf
    obtain ⟨x8, g48, hf⟩ := hf
    refine gx_gi C g48 gz_409 q2004 dX21_inBreadth_17 ?_
    refine gx_aload_n C dX21_inBreadth_20 0 rfl ?_
    replace hf := gx_bs hf
    obtain ⟨x9, g47, hf⟩ := hf
    refine gx_gi C g47 gz_405 q2005 dX21_inBreadth_21 ?_
    replace hf := gx_ite hf
    rcases hf with ⟨c10, hf⟩ | ⟨c10, hf⟩
    · refine gx_icmp_ge_t (tgt := 74) C dX21_inBreadth_24 rfl c10 ?_
      refine gx_sub [0] rfl ?_
      exact w_X21_inBreadth_b74 hlt C hx hf
    · refine gx_icmp_ge_f (tgt := 74) C dX21_inBreadth_24 rfl c10 ?_
      refine gx_aload_n C dX21_inBreadth_27 1 rfl ?_
      replace hf := gx_bs hf
      obtain ⟨a13, rfl, hf⟩ := hf
      replace hf := gx_ite hf
      rcases hf with ⟨c14, hf⟩ | ⟨c14, hf⟩
      · replace hf := gx_bs hf
        obtain ⟨b16, g15, hf⟩ := hf
        refine gx_callFD (st := []) C (w_X37_isDone hlt g15) (is_X37_isDone g15) q2033 (gx_cis1 gz_413 gz_414 (gx_cis1 gz_411 gz_412 gx_cis0)) ⟨by decide, by decide⟩ q2044 q3281 q2046 gz_410 (by decide) rfl rfl (gx_catn (Nat.le_of_ble_eq_true rfl)) dX21_inBreadth_28 ?_
        refine gx_sub [0, 1] rfl ?_
        exact w_X21_inBreadth_b33 hlt C hx wk16 hf
      replace hf := gx_ite hf
      rcases hf with ⟨c44, hf⟩ | ⟨c44, hf⟩
      · replace hf := gx_bs hf
        obtain ⟨b46, g45, hf⟩ := hf
        refine gx_callF (st := []) C (w_X23_isDone hlt g45) (is_X23_isDone g45) q2033 (gx_cis1 gz_402 ⟨gz_417, q2037⟩ (gx_cis1 gz_403 ⟨gz_416, q2048⟩ (gx_cis1 gz_404 ⟨gz_415, q2053⟩ gx_cis0))) q2039 q176 q2041 gz_410 (by decide) rfl rfl (gx_catn (Nat.le_of_ble_eq_true rfl)) dX21_inBreadth_28 ?_
        refine gx_sub [0, 1] rfl ?_
        exact w_X21_inBreadth_b33 hlt C hx wk16 hf
      cases hf
theorem le_X21_inBreadth_b16 {D : gx_D} {r : Int32} {hz : HX} : ∀ (n : Nat) ⦃h : HX⦄ ⦃v0 : Nat⦄ ⦃v1 : Option Nat⦄, f_X21_inBreadth_b16 D n h v0 v1 = some (r, hz) → gx_le h hz := by
  intro n
  induction n with
  | zero => intro h v0 v1 hf; unfold f_X21_inBreadth_b16 at hf; cases hf
  | succ n lek16 =>
    intro h v0 v1 hf
    unfold f_X21_inBreadth_b16 at hf
    replace hf := gx_bs hf
    obtain ⟨x8, g48, hf⟩ := hf
    replace hf := gx_bs hf
    obtain ⟨x9, g47, hf⟩ := hf
    replace hf := gx_ite hf
    rcases hf with ⟨c10, hf⟩ | ⟨c10, hf⟩
    · exact le_X21_inBreadth_b74 hf
    · replace hf := gx_bs hf
      obtain ⟨a13, rfl, hf⟩ := hf
      replace hf := gx_ite hf
      rcases hf with ⟨c14, hf⟩ | ⟨c14, hf⟩
      · replace hf := gx_bs hf
        obtain ⟨b16, g15, hf⟩ := hf
        exact le_X21_inBreadth_b33 lek16 hf
      replace hf := gx_ite hf
      rcases hf with ⟨c44, hf⟩ | ⟨c44, hf⟩
      · replace hf := gx_bs hf
        obtain ⟨b46, g45, hf⟩ := hf
        exact le_X21_inBreadth_b33 lek16 hf
      cases hf
def f_X21_inBreadth (D : gx_D) (h : HX) (a0 : Nat) (p1 : Option Nat) : Option ((Int32) × HX) :=
  (hx_is h a0 [25]).bind fun _ =>
  (hx_gr h a0 [25] 2).bind fun r1 =>
  r1.bind fun a2 =>
  (hx_gr h a2 [9] 6).bind fun r3 =>
  r3.bind fun a4 =>
  (hx_gi h a4 [11] 6).bind fun x5 =>
  (f_X21_mark D h a0 x5 (0 : Int32) (-1 : Int32)).bind fun h7 =>
  f_X21_inBreadth_b16 D gx_fuel h7 a0 p1
theorem is_X21_inBreadth {D : gx_D} {h : HX} {a0 : Nat} {p1 : Option Nat} {z} (hf : f_X21_inBreadth D h a0 p1 = some z) : gx_isC h a0 [25] := by
  unfold f_X21_inBreadth at hf
  obtain ⟨_, g, -⟩ := gx_bs hf
  exact hx_is_of g
theorem w_X21_inBreadth_b {l : Launch} (hlt : l.stackTraces = false) {p : Program} {e : Env} {R : Room} {s : State} {m : MethodId} {args : Array Value} {below : List Frame} {meth : Method} {c : Code} {D : gx_D} {h0 : HX} {r : Int32} {hz : HX} (C : gx_Ctx p R s m args meth c "ContractMachine$Search" cX21_inBreadth 3 (some .int) 10 220 D h0 hz) (hx : meth.name = "inBreadth") {a0 : Nat} {p1 : Option Nat} (hf : f_X21_inBreadth D h0 a0 p1 = some (r, hz)) : gx_G p l e R s m args below meth c D h0 hz 3 (gx_MQ below args s D h0 hz (some (.int r))) 0 [(0, (va_rf (some a0))), (1, (va_rf p1))] [] h0 := by
  unfold f_X21_inBreadth at hf
  replace hf := gx_bs hf
  obtain ⟨_, -, hf⟩ := hf
  refine gx_aload_n C dX21_inBreadth_0 0 rfl ?_
  refine gx_aload_n C dX21_inBreadth_1 0 rfl ?_
  replace hf := gx_bs hf
  obtain ⟨r1, g51, hf⟩ := hf
  refine gx_gr C g51 gz_385 q2006 dX21_inBreadth_2 ?_
  replace hf := gx_bs hf
  obtain ⟨a2, rfl, hf⟩ := hf
  replace hf := gx_bs hf
  obtain ⟨r3, g50, hf⟩ := hf
  refine gx_grN C g50 gz_85 q895 dX21_inBreadth_5 ?_
  replace hf := gx_bs hf
  obtain ⟨a4, rfl, hf⟩ := hf
  replace hf := gx_bs hf
  obtain ⟨x5, g49, hf⟩ := hf
  refine gx_giN C g49 gz_65 q613 dX21_inBreadth_8 ?_
  refine gx_iconst (v := 0) C dX21_inBreadth_11 rfl ?_
  refine gx_iconst (v := -1) C dX21_inBreadth_12 rfl ?_
  replace hf := gx_bs hf
  obtain ⟨h7, g6, hf⟩ := hf
  refine gx_callV (st := []) C (w_X21_mark hlt g6) (is_X21_mark g6) gz_407 rfl (lw_V q2028 q2030 qs41 q174 q2031) gz_406 (by decide) rfl rfl (gx_catn (Nat.le_of_ble_eq_true rfl)) dX21_inBreadth_13 ?_
  refine gx_sub [0, 1] rfl ?_
  exact w_X21_inBreadth_b16 hlt C hx gx_fuel hf
theorem le_X21_inBreadth {D : gx_D} {r : Int32} {hz : HX} {h : HX} {a0 : Nat} {p1 : Option Nat} (hf : f_X21_inBreadth D h a0 p1 = some (r, hz)) : gx_le h hz := by
  unfold f_X21_inBreadth at hf
  replace hf := gx_bs hf
  obtain ⟨_, -, hf⟩ := hf
  replace hf := gx_bs hf
  obtain ⟨r1, g51, hf⟩ := hf
  replace hf := gx_bs hf
  obtain ⟨a2, rfl, hf⟩ := hf
  replace hf := gx_bs hf
  obtain ⟨r3, g50, hf⟩ := hf
  replace hf := gx_bs hf
  obtain ⟨a4, rfl, hf⟩ := hf
  replace hf := gx_bs hf
  obtain ⟨x5, g49, hf⟩ := hf
  replace hf := gx_bs hf
  obtain ⟨h7, g6, hf⟩ := hf
  refine (le_X21_mark g6).tr ?_
  exact le_X21_inBreadth_b16 gx_fuel hf
theorem w_X21_inBreadth {l : Launch} (hlt : l.stackTraces = false) {D : gx_D} {h : HX} {a0 : Nat} {p1 : Option Nat} {r : Int32} {hz : HX} (hf : f_X21_inBreadth D h a0 p1 = some (r, hz)) : gx_Met l yX21_inBreadth cX21_inBreadth 3 (some .int) 10 220 D [(va_rf (some a0)), (va_rf p1)] h (some (.int r)) hz :=
  gx_ofG gz_386 (by simp only [gx_lsr, gx_lsi, gx_lsj, gx_ls0]; decide) (le_X21_inBreadth hf) (fun p e R s m args below meth c C hx => by
    simp only [gx_lar, gx_lai, gx_laj, gx_la0, Nat.reduceAdd]
    exact w_X21_inBreadth_b hlt C hx hf)
def f_X1_reachableCount (D : gx_D) (h : HX) (a0 : Nat) : Option ((Int32) × HX) :=
  (hx_is h a0 [9]).bind fun _ =>
  gx_b2 (hx_new h 3 25 gx_df25) fun a1 h2 =>
  (f_X21_init D h2 a1 (some a0)).bind fun h4 =>
  gx_b2 (hx_new h4 1 26 gx_df26) fun a5 h6 =>
  (f_X22_init D h6 a5 (some a0)).bind fun h8 =>
  gx_b2 (f_X21_inBreadth D h8 a1 (some a5)) fun x10 h11 =>
  some (x10, h11)
theorem is_X1_reachableCount {D : gx_D} {h : HX} {a0 : Nat} {z} (hf : f_X1_reachableCount D h a0 = some z) : gx_isC h a0 [9] := by
  unfold f_X1_reachableCount at hf
  obtain ⟨_, g, -⟩ := gx_bs hf
  exact hx_is_of g
theorem w_X1_reachableCount_b {l : Launch} (hlt : l.stackTraces = false) {p : Program} {e : Env} {R : Room} {s : State} {m : MethodId} {args : Array Value} {below : List Frame} {meth : Method} {c : Code} {D : gx_D} {h0 : HX} {r : Int32} {hz : HX} (C : gx_Ctx p R s m args meth c "ContractMachine" cX1_reachableCount 1 (some .int) 11 242 D h0 hz) (hx : meth.name = "reachableCount") {a0 : Nat} (hf : f_X1_reachableCount D h0 a0 = some (r, hz)) : gx_G p l e R s m args below meth c D h0 hz 1 (gx_MQ below args s D h0 hz (some (.int r))) 0 [(0, (va_rf (some a0)))] [] h0 := by
  unfold f_X1_reachableCount at hf
  replace hf := gx_bs hf
  obtain ⟨_, -, hf⟩ := hf
  replace hf := gx_b2s hf
  obtain ⟨a1, h2, g13, hf⟩ := hf
  refine gx_newN C g13 gz_407 tyX21_ok gx_df25_ok q1998 q1999 q174 dX1_reachableCount_0 rfl ?_
  refine gx_dup C dX1_reachableCount_3 rfl ?_
  refine gx_aload_n C dX1_reachableCount_4 0 rfl ?_
  replace hf := gx_bs hf
  obtain ⟨h4, g3, hf⟩ := hf
  refine gx_callI (st := [(va_rf (some a1))]) C (w_X21_init hlt g3) q2000 q2001 q174 q2002 rfl gz_429 (by decide) rfl rfl (gx_catn (Nat.le_of_ble_eq_true rfl)) dX1_reachableCount_5 ?_
  replace hf := gx_b2s hf
  obtain ⟨a5, h6, g12, hf⟩ := hf
  refine gx_newN C g12 gz_413 tyX22_ok gx_df26_ok q2014 q2015 q175 dX1_reachableCount_8 rfl ?_
  refine gx_dup C dX1_reachableCount_11 rfl ?_
  refine gx_aload_n C dX1_reachableCount_12 0 rfl ?_
  replace hf := gx_bs hf
  obtain ⟨h8, g7, hf⟩ := hf
  refine gx_callI (st := [(va_rf (some a5)), (va_rf (some a1))]) C (w_X22_init hlt g7) q2016 q2017 q175 q2018 rfl gz_428 (by decide) rfl rfl (gx_catn (Nat.le_of_ble_eq_true rfl)) dX1_reachableCount_13 ?_
  replace hf := gx_b2s hf
  obtain ⟨x10, h11, g9, hf⟩ := hf
  refine gx_callV (st := []) C (w_X21_inBreadth hlt g9) (is_X21_inBreadth g9) gz_407 rfl (lw_V q2024 q2025 q2026 q174 q2027) gz_427 (by decide) rfl rfl (gx_catn (Nat.le_of_ble_eq_true rfl)) dX1_reachableCount_16 ?_
  obtain ⟨rfl, rfl⟩ := Prod.mk.inj (Option.some.inj hf)
  exact gx_iret C dX1_reachableCount_19
theorem le_X1_reachableCount {D : gx_D} {r : Int32} {hz : HX} {h : HX} {a0 : Nat} (hf : f_X1_reachableCount D h a0 = some (r, hz)) : gx_le h hz := by
  unfold f_X1_reachableCount at hf
  replace hf := gx_bs hf
  obtain ⟨_, -, hf⟩ := hf
  replace hf := gx_b2s hf
  obtain ⟨a1, h2, g13, hf⟩ := hf
  refine (hx_le_new g13).tr ?_
  replace hf := gx_bs hf
  obtain ⟨h4, g3, hf⟩ := hf
  refine (le_X21_init g3).tr ?_
  replace hf := gx_b2s hf
  obtain ⟨a5, h6, g12, hf⟩ := hf
  refine (hx_le_new g12).tr ?_
  replace hf := gx_bs hf
  obtain ⟨h8, g7, hf⟩ := hf
  refine (le_X22_init g7).tr ?_
  replace hf := gx_b2s hf
  obtain ⟨x10, h11, g9, hf⟩ := hf
  refine (le_X21_inBreadth g9).tr ?_
  obtain ⟨rfl, rfl⟩ := Prod.mk.inj (Option.some.inj hf)
  exact gx_le.rf
theorem w_X1_reachableCount {l : Launch} (hlt : l.stackTraces = false) {D : gx_D} {h : HX} {a0 : Nat} {r : Int32} {hz : HX} (hf : f_X1_reachableCount D h a0 = some (r, hz)) : gx_Met l yX1_reachableCount cX1_reachableCount 1 (some .int) 11 242 D [(va_rf (some a0))] h (some (.int r)) hz :=
  gx_ofG gz_26 (by simp only [gx_lsr, gx_lsi, gx_lsj, gx_ls0]; decide) (le_X1_reachableCount hf) (fun p e R s m args below meth c C hx => by
    simp only [gx_lar, gx_lai, gx_laj, gx_la0, Nat.reduceAdd]
    exact w_X1_reachableCount_b hlt C hx hf)
def f_X26_init (D : gx_D) (h : HX) (a0 : Nat) (p1 : Option Nat) : Option HX :=
  (hx_pr h a0 [29] 0 p1).bind fun h1 =>
  some h1
theorem w_X26_init_b {l : Launch} (hlt : l.stackTraces = false) {p : Program} {e : Env} {R : Room} {s : State} {m : MethodId} {args : Array Value} {below : List Frame} {meth : Method} {c : Code} {D : gx_D} {h0 : HX} {hz : HX} (C : gx_Ctx p R s m args meth c "ContractMachine$4" cX26_init 2 none 1 24 D h0 hz) (hx : meth.name = "<init>") {a0 : Nat} {p1 : Option Nat} (hf : f_X26_init D h0 a0 p1 = some hz) : gx_G p l e R s m args below meth c D h0 hz 2 (gx_MQ below args s D h0 hz none) 0 [(0, (va_rf (some a0))), (1, (va_rf p1))] [] h0 := by
  unfold f_X26_init at hf
  refine gx_aload_n C dX26_init_0 0 rfl ?_
  refine gx_aload_n C dX26_init_1 1 rfl ?_
  replace hf := gx_bs hf
  obtain ⟨h1, g2, hf⟩ := hf
  refine gx_putvF C hx g2 gz_387 gz_186 (gx_narrow_r rfl _).1 (gx_narrow_r rfl _).2 q2111 dX26_init_2 ?_
  refine gx_aload_n C dX26_init_5 0 rfl ?_
  refine gx_objInit (st := []) C q2110 q188 q189 (by decide) (by decide) dX26_init_6 ?_
  obtain rfl := Option.some.inj hf
  exact gx_vret C dX26_init_9
theorem le_X26_init {D : gx_D} {hz : HX} {h : HX} {a0 : Nat} {p1 : Option Nat} (hf : f_X26_init D h a0 p1 = some hz) : gx_le h hz := by
  unfold f_X26_init at hf
  replace hf := gx_bs hf
  obtain ⟨h1, g2, hf⟩ := hf
  refine (hx_le_pv g2).tr ?_
  obtain rfl := Option.some.inj hf
  exact gx_le.rf
theorem w_X26_init {l : Launch} (hlt : l.stackTraces = false) {D : gx_D} {h : HX} {a0 : Nat} {p1 : Option Nat} {hz : HX} (hf : f_X26_init D h a0 p1 = some hz) : gx_Met l yX26_init cX26_init 2 none 1 24 D [(va_rf (some a0)), (va_rf p1)] h none hz :=
  gx_ofG gz_389 (by simp only [gx_lsr, gx_lsi, gx_lsj, gx_ls0]; decide) (le_X26_init hf) (fun p e R s m args below meth c C hx => by
    simp only [gx_lar, gx_lai, gx_laj, gx_la0, Nat.reduceAdd]
    exact w_X26_init_b hlt C hx hf)
def f_X1_deadlockCount (D : gx_D) (h : HX) (a0 : Nat) : Option ((Int32) × HX) :=
  (hx_is h a0 [9]).bind fun _ =>
  (hx_pi h a0 [9] 13 (0 : Int32)).bind fun h1 =>
  gx_b2 (hx_new h1 3 25 gx_df25) fun a2 h3 =>
  (f_X21_init D h3 a2 (some a0)).bind fun h5 =>
  gx_b2 (hx_new h5 1 29 gx_df29) fun a6 h7 =>
  (f_X26_init D h7 a6 (some a0)).bind fun h9 =>
  gx_b2 (f_X21_inBreadth D h9 a2 (some a6)) fun x11 h12 =>
  (hx_gi h12 a0 [9] 13).bind fun x13 =>
  some (x13, h12)
theorem is_X1_deadlockCount {D : gx_D} {h : HX} {a0 : Nat} {z} (hf : f_X1_deadlockCount D h a0 = some z) : gx_isC h a0 [9] := by
  unfold f_X1_deadlockCount at hf
  obtain ⟨_, g, -⟩ := gx_bs hf
  exact hx_is_of g
theorem w_X1_deadlockCount_b {l : Launch} (hlt : l.stackTraces = false) {p : Program} {e : Env} {R : Room} {s : State} {m : MethodId} {args : Array Value} {below : List Frame} {meth : Method} {c : Code} {D : gx_D} {h0 : HX} {r : Int32} {hz : HX} (C : gx_Ctx p R s m args meth c "ContractMachine" cX1_deadlockCount 2 (some .int) 11 242 D h0 hz) (hx : meth.name = "deadlockCount") {a0 : Nat} (hf : f_X1_deadlockCount D h0 a0 = some (r, hz)) : gx_G p l e R s m args below meth c D h0 hz 2 (gx_MQ below args s D h0 hz (some (.int r))) 0 [(0, (va_rf (some a0)))] [] h0 := by
  unfold f_X1_deadlockCount at hf
  replace hf := gx_bs hf
  obtain ⟨_, -, hf⟩ := hf
  refine gx_aload_n C dX1_deadlockCount_0 0 rfl ?_
  refine gx_iconst (v := 0) C dX1_deadlockCount_1 rfl ?_
  replace hf := gx_bs hf
  obtain ⟨h1, g17, hf⟩ := hf
  refine gx_putv C g17 gz_388 gz_1 rfl rfl q908 dX1_deadlockCount_2 ?_
  replace hf := gx_b2s hf
  obtain ⟨a2, h3, g16, hf⟩ := hf
  refine gx_newN C g16 gz_407 tyX21_ok gx_df25_ok q1998 q1999 q174 dX1_deadlockCount_5 rfl ?_
  refine gx_dup C dX1_deadlockCount_8 rfl ?_
  refine gx_aload_n C dX1_deadlockCount_9 0 rfl ?_
  replace hf := gx_bs hf
  obtain ⟨h5, g4, hf⟩ := hf
  refine gx_callI (st := [(va_rf (some a2))]) C (w_X21_init hlt g4) q2000 q2001 q174 q2002 rfl gz_429 (by decide) rfl rfl (gx_catn (Nat.le_of_ble_eq_true rfl)) dX1_deadlockCount_10 ?_
  replace hf := gx_b2s hf
  obtain ⟨a6, h7, g15, hf⟩ := hf
  refine gx_newN C g15 gz_411 tyX26_ok gx_df29_ok q2105 q2106 q179 dX1_deadlockCount_13 rfl ?_
  refine gx_dup C dX1_deadlockCount_16 rfl ?_
  refine gx_aload_n C dX1_deadlockCount_17 0 rfl ?_
  replace hf := gx_bs hf
  obtain ⟨h9, g8, hf⟩ := hf
  refine gx_callI (st := [(va_rf (some a6)), (va_rf (some a2))]) C (w_X26_init hlt g8) q2107 q2108 q179 q2109 rfl gz_431 (by decide) rfl rfl (gx_catn (Nat.le_of_ble_eq_true rfl)) dX1_deadlockCount_18 ?_
  replace hf := gx_b2s hf
  obtain ⟨x11, h12, g10, hf⟩ := hf
  refine gx_callV (st := []) C (w_X21_inBreadth hlt g10) (is_X21_inBreadth g10) gz_407 rfl (lw_V q2024 q2025 q2026 q174 q2027) gz_427 (by decide) rfl rfl (gx_catn (Nat.le_of_ble_eq_true rfl)) dX1_deadlockCount_21 ?_
  refine gx_istn C dX1_deadlockCount_24 1 rfl (by decide) [0]  rfl (gx_okr rfl gx_catv_r gx_ok0) ?_
  refine gx_aload_n C dX1_deadlockCount_25 1 rfl ?_
  replace hf := gx_bs hf
  obtain ⟨x13, g14, hf⟩ := hf
  refine gx_gi C g14 gz_388 q908 dX1_deadlockCount_26 ?_
  obtain ⟨rfl, rfl⟩ := Prod.mk.inj (Option.some.inj hf)
  exact gx_iret C dX1_deadlockCount_29
theorem le_X1_deadlockCount {D : gx_D} {r : Int32} {hz : HX} {h : HX} {a0 : Nat} (hf : f_X1_deadlockCount D h a0 = some (r, hz)) : gx_le h hz := by
  unfold f_X1_deadlockCount at hf
  replace hf := gx_bs hf
  obtain ⟨_, -, hf⟩ := hf
  replace hf := gx_bs hf
  obtain ⟨h1, g17, hf⟩ := hf
  refine (hx_le_pv g17).tr ?_
  replace hf := gx_b2s hf
  obtain ⟨a2, h3, g16, hf⟩ := hf
  refine (hx_le_new g16).tr ?_
  replace hf := gx_bs hf
  obtain ⟨h5, g4, hf⟩ := hf
  refine (le_X21_init g4).tr ?_
  replace hf := gx_b2s hf
  obtain ⟨a6, h7, g15, hf⟩ := hf
  refine (hx_le_new g15).tr ?_
  replace hf := gx_bs hf
  obtain ⟨h9, g8, hf⟩ := hf
  refine (le_X26_init g8).tr ?_
  replace hf := gx_b2s hf
  obtain ⟨x11, h12, g10, hf⟩ := hf
  refine (le_X21_inBreadth g10).tr ?_
  replace hf := gx_bs hf
  obtain ⟨x13, g14, hf⟩ := hf
  obtain ⟨rfl, rfl⟩ := Prod.mk.inj (Option.some.inj hf)
  exact gx_le.rf
theorem w_X1_deadlockCount {l : Launch} (hlt : l.stackTraces = false) {D : gx_D} {h : HX} {a0 : Nat} {r : Int32} {hz : HX} (hf : f_X1_deadlockCount D h a0 = some (r, hz)) : gx_Met l yX1_deadlockCount cX1_deadlockCount 2 (some .int) 11 242 D [(va_rf (some a0))] h (some (.int r)) hz :=
  gx_ofG gz_26 (by simp only [gx_lsr, gx_lsi, gx_lsj, gx_ls0]; decide) (le_X1_deadlockCount hf) (fun p e R s m args below meth c C hx => by
    simp only [gx_lar, gx_lai, gx_laj, gx_la0, Nat.reduceAdd]
    exact w_X1_deadlockCount_b hlt C hx hf)
def f_X23_init (D : gx_D) (h : HX) (a0 : Nat) (p1 : Option Nat) : Option HX :=
  (hx_pr h a0 [27, 28, 30] 0 p1).bind fun h1 =>
  p1.bind fun a2 =>
  (hx_pi h1 a2 [9] 12 (-1 : Int32)).bind fun h3 =>
  some h3
theorem w_X23_init_b {l : Launch} (hlt : l.stackTraces = false) {p : Program} {e : Env} {R : Room} {s : State} {m : MethodId} {args : Array Value} {below : List Frame} {meth : Method} {c : Code} {D : gx_D} {h0 : HX} {hz : HX} (C : gx_Ctx p R s m args meth c "ContractMachine$Finder" cX23_init 2 none 1 24 D h0 hz) (hx : meth.name = "<init>") {a0 : Nat} {p1 : Option Nat} (hf : f_X23_init D h0 a0 p1 = some hz) : gx_G p l e R s m args below meth c D h0 hz 2 (gx_MQ below args s D h0 hz none) 0 [(0, (va_rf (some a0))), (1, (va_rf p1))] [] h0 := by
  unfold f_X23_init at hf
  refine gx_aload_n C dX23_init_0 0 rfl ?_
  refine gx_aload_n C dX23_init_1 1 rfl ?_
  replace hf := gx_bs hf
  obtain ⟨h1, g5, hf⟩ := hf
  refine gx_putvF C hx g5 gz_390 gz_186 (gx_narrow_r rfl _).1 (gx_narrow_r rfl _).2 q2129 dX23_init_2 ?_
  refine gx_aload_n C dX23_init_5 0 rfl ?_
  refine gx_objInit (st := []) C q2127 q188 q189 (by decide) (by decide) dX23_init_6 ?_
  refine gx_aload_n C dX23_init_9 1 rfl ?_
  refine gx_iconst (v := -1) C dX23_init_10 rfl ?_
  replace hf := gx_bs hf
  obtain ⟨a2, rfl, hf⟩ := hf
  replace hf := gx_bs hf
  obtain ⟨h3, g4, hf⟩ := hf
  refine gx_putvN C g4 gz_391 gz_1 rfl rfl q905 dX23_init_11 ?_
  obtain rfl := Option.some.inj hf
  exact gx_vret C dX23_init_14
theorem le_X23_init {D : gx_D} {hz : HX} {h : HX} {a0 : Nat} {p1 : Option Nat} (hf : f_X23_init D h a0 p1 = some hz) : gx_le h hz := by
  unfold f_X23_init at hf
  replace hf := gx_bs hf
  obtain ⟨h1, g5, hf⟩ := hf
  refine (hx_le_pv g5).tr ?_
  replace hf := gx_bs hf
  obtain ⟨a2, rfl, hf⟩ := hf
  replace hf := gx_bs hf
  obtain ⟨h3, g4, hf⟩ := hf
  refine (hx_le_pv g4).tr ?_
  obtain rfl := Option.some.inj hf
  exact gx_le.rf
theorem w_X23_init {l : Launch} (hlt : l.stackTraces = false) {D : gx_D} {h : HX} {a0 : Nat} {p1 : Option Nat} {hz : HX} (hf : f_X23_init D h a0 p1 = some hz) : gx_Met l yX23_init cX23_init 2 none 1 24 D [(va_rf (some a0)), (va_rf p1)] h none hz :=
  gx_ofG gz_392 (by simp only [gx_lsr, gx_lsi, gx_lsj, gx_ls0]; decide) (le_X23_init hf) (fun p e R s m args below meth c C hx => by
    simp only [gx_lar, gx_lai, gx_laj, gx_la0, Nat.reduceAdd]
    exact w_X23_init_b hlt C hx hf)
def f_X27_init (D : gx_D) (h : HX) (a0 : Nat) (p1 : Option Nat) : Option HX :=
  (hx_pr h a0 [30] 1 p1).bind fun h1 =>
  (f_X23_init D h1 a0 p1).bind fun h3 =>
  some h3
theorem w_X27_init_b {l : Launch} (hlt : l.stackTraces = false) {p : Program} {e : Env} {R : Room} {s : State} {m : MethodId} {args : Array Value} {below : List Frame} {meth : Method} {c : Code} {D : gx_D} {h0 : HX} {hz : HX} (C : gx_Ctx p R s m args meth c "ContractMachine$5" cX27_init 2 none 2 45 D h0 hz) (hx : meth.name = "<init>") {a0 : Nat} {p1 : Option Nat} (hf : f_X27_init D h0 a0 p1 = some hz) : gx_G p l e R s m args below meth c D h0 hz 2 (gx_MQ below args s D h0 hz none) 0 [(0, (va_rf (some a0))), (1, (va_rf p1))] [] h0 := by
  unfold f_X27_init at hf
  refine gx_aload_n C dX27_init_0 0 rfl ?_
  refine gx_aload_n C dX27_init_1 1 rfl ?_
  replace hf := gx_bs hf
  obtain ⟨h1, g4, hf⟩ := hf
  refine gx_putvF C hx g4 gz_399 gz_186 (gx_narrow_r rfl _).1 (gx_narrow_r rfl _).2 q2128 dX27_init_2 ?_
  refine gx_aload_n C dX27_init_5 0 rfl ?_
  refine gx_aload_n C dX27_init_6 1 rfl ?_
  replace hf := gx_bs hf
  obtain ⟨h3, g2, hf⟩ := hf
  refine gx_callI (st := []) C (w_X23_init hlt g2) q2124 q2125 q176 q2126 rfl gz_432 (by decide) rfl rfl (gx_catn (Nat.le_of_ble_eq_true rfl)) dX27_init_7 ?_
  obtain rfl := Option.some.inj hf
  exact gx_vret C dX27_init_10
theorem le_X27_init {D : gx_D} {hz : HX} {h : HX} {a0 : Nat} {p1 : Option Nat} (hf : f_X27_init D h a0 p1 = some hz) : gx_le h hz := by
  unfold f_X27_init at hf
  replace hf := gx_bs hf
  obtain ⟨h1, g4, hf⟩ := hf
  refine (hx_le_pv g4).tr ?_
  replace hf := gx_bs hf
  obtain ⟨h3, g2, hf⟩ := hf
  refine (le_X23_init g2).tr ?_
  obtain rfl := Option.some.inj hf
  exact gx_le.rf
theorem w_X27_init {l : Launch} (hlt : l.stackTraces = false) {D : gx_D} {h : HX} {a0 : Nat} {p1 : Option Nat} {hz : HX} (hf : f_X27_init D h a0 p1 = some hz) : gx_Met l yX27_init cX27_init 2 none 2 45 D [(va_rf (some a0)), (va_rf p1)] h none hz :=
  gx_ofG gz_400 (by simp only [gx_lsr, gx_lsi, gx_lsj, gx_ls0]; decide) (le_X27_init hf) (fun p e R s m args below meth c C hx => by
    simp only [gx_lar, gx_lai, gx_laj, gx_la0, Nat.reduceAdd]
    exact w_X27_init_b hlt C hx hf)
def f_X1_stepsToDeadlock (D : gx_D) (h : HX) (a0 : Nat) : Option ((Int32) × HX) :=
  (hx_is h a0 [9]).bind fun _ =>
  gx_b2 (hx_new h 3 25 gx_df25) fun a1 h2 =>
  (f_X21_init D h2 a1 (some a0)).bind fun h4 =>
  gx_b2 (hx_new h4 2 30 gx_df30) fun a5 h6 =>
  (f_X27_init D h6 a5 (some a0)).bind fun h8 =>
  gx_b2 (f_X21_inBreadth D h8 a1 (some a5)) fun x10 h11 =>
  (hx_gi h11 a0 [9] 12).bind fun x12 =>
  if x12 = (-1 : Int32) then
  some ((-1 : Int32), h11)
  else
  (hx_gr h11 a0 [9] 9).bind fun r14 =>
  (hx_gi h11 a0 [9] 12).bind fun x15 =>
  r14.bind fun a16 =>
  (hx_ai h11 a16 0 x15).bind fun x17 =>
  some (x17, h11)
theorem is_X1_stepsToDeadlock {D : gx_D} {h : HX} {a0 : Nat} {z} (hf : f_X1_stepsToDeadlock D h a0 = some z) : gx_isC h a0 [9] := by
  unfold f_X1_stepsToDeadlock at hf
  obtain ⟨_, g, -⟩ := gx_bs hf
  exact hx_is_of g
theorem w_X1_stepsToDeadlock_b {l : Launch} (hlt : l.stackTraces = false) {p : Program} {e : Env} {R : Room} {s : State} {m : MethodId} {args : Array Value} {below : List Frame} {meth : Method} {c : Code} {D : gx_D} {h0 : HX} {r : Int32} {hz : HX} (C : gx_Ctx p R s m args meth c "ContractMachine" cX1_stepsToDeadlock 2 (some .int) 11 242 D h0 hz) (hx : meth.name = "stepsToDeadlock") {a0 : Nat} (hf : f_X1_stepsToDeadlock D h0 a0 = some (r, hz)) : gx_G p l e R s m args below meth c D h0 hz 2 (gx_MQ below args s D h0 hz (some (.int r))) 0 [(0, (va_rf (some a0)))] [] h0 := by
  unfold f_X1_stepsToDeadlock at hf
  replace hf := gx_bs hf
  obtain ⟨_, -, hf⟩ := hf
  replace hf := gx_b2s hf
  obtain ⟨a1, h2, g23, hf⟩ := hf
  refine gx_newN C g23 gz_407 tyX21_ok gx_df25_ok q1998 q1999 q174 dX1_stepsToDeadlock_0 rfl ?_
  refine gx_dup C dX1_stepsToDeadlock_3 rfl ?_
  refine gx_aload_n C dX1_stepsToDeadlock_4 0 rfl ?_
  replace hf := gx_bs hf
  obtain ⟨h4, g3, hf⟩ := hf
  refine gx_callI (st := [(va_rf (some a1))]) C (w_X21_init hlt g3) q2000 q2001 q174 q2002 rfl gz_429 (by decide) rfl rfl (gx_catn (Nat.le_of_ble_eq_true rfl)) dX1_stepsToDeadlock_5 ?_
  replace hf := gx_b2s hf
  obtain ⟨a5, h6, g22, hf⟩ := hf
  refine gx_newN C g22 gz_404 tyX27_ok gx_df30_ok q2119 q2120 q180 dX1_stepsToDeadlock_8 rfl ?_
  refine gx_dup C dX1_stepsToDeadlock_11 rfl ?_
  refine gx_aload_n C dX1_stepsToDeadlock_12 0 rfl ?_
  replace hf := gx_bs hf
  obtain ⟨h8, g7, hf⟩ := hf
  refine gx_callI (st := [(va_rf (some a5)), (va_rf (some a1))]) C (w_X27_init hlt g7) q2121 q2122 q180 q2123 rfl gz_434 (by decide) rfl rfl (gx_catn (Nat.le_of_ble_eq_true rfl)) dX1_stepsToDeadlock_13 ?_
  replace hf := gx_b2s hf
  obtain ⟨x10, h11, g9, hf⟩ := hf
  refine gx_callV (st := []) C (w_X21_inBreadth hlt g9) (is_X21_inBreadth g9) gz_407 rfl (lw_V q2024 q2025 q2026 q174 q2027) gz_427 (by decide) rfl rfl (gx_catn (Nat.le_of_ble_eq_true rfl)) dX1_stepsToDeadlock_16 ?_
  refine gx_istn C dX1_stepsToDeadlock_19 1 rfl (by decide) [0]  rfl (gx_okr rfl gx_catv_r gx_ok0) ?_
  refine gx_aload_n C dX1_stepsToDeadlock_20 1 rfl ?_
  replace hf := gx_bs hf
  obtain ⟨x12, g21, hf⟩ := hf
  refine gx_gi C g21 gz_391 q906 dX1_stepsToDeadlock_21 ?_
  refine gx_iconst (v := -1) C dX1_stepsToDeadlock_24 rfl ?_
  replace hf := gx_ite hf
  rcases hf with ⟨c13, hf⟩ | ⟨c13, hf⟩
  · refine gx_icmp_ne_f (tgt := 32) C dX1_stepsToDeadlock_25 rfl c13 ?_
    refine gx_iconst (v := -1) C dX1_stepsToDeadlock_28 rfl ?_
    refine gx_goto (tgt := 41) C dX1_stepsToDeadlock_29 rfl ?_
    obtain ⟨rfl, rfl⟩ := Prod.mk.inj (Option.some.inj hf)
    exact gx_iret C dX1_stepsToDeadlock_41
  · refine gx_icmp_ne_t (tgt := 32) C dX1_stepsToDeadlock_25 rfl c13 ?_
    refine gx_aload_n C dX1_stepsToDeadlock_32 1 rfl ?_
    replace hf := gx_bs hf
    obtain ⟨r14, g20, hf⟩ := hf
    refine gx_gr C g20 gz_90 q900 dX1_stepsToDeadlock_33 ?_
    refine gx_aload_n C dX1_stepsToDeadlock_36 1 rfl ?_
    replace hf := gx_bs hf
    obtain ⟨x15, g19, hf⟩ := hf
    refine gx_gi C g19 gz_391 q906 dX1_stepsToDeadlock_37 ?_
    replace hf := gx_bs hf
    obtain ⟨a16, rfl, hf⟩ := hf
    replace hf := gx_bs hf
    obtain ⟨x17, g18, hf⟩ := hf
    refine gx_iald C g18 dX1_stepsToDeadlock_40 ?_
    obtain ⟨rfl, rfl⟩ := Prod.mk.inj (Option.some.inj hf)
    exact gx_iret C dX1_stepsToDeadlock_41
theorem le_X1_stepsToDeadlock {D : gx_D} {r : Int32} {hz : HX} {h : HX} {a0 : Nat} (hf : f_X1_stepsToDeadlock D h a0 = some (r, hz)) : gx_le h hz := by
  unfold f_X1_stepsToDeadlock at hf
  replace hf := gx_bs hf
  obtain ⟨_, -, hf⟩ := hf
  replace hf := gx_b2s hf
  obtain ⟨a1, h2, g23, hf⟩ := hf
  refine (hx_le_new g23).tr ?_
  replace hf := gx_bs hf
  obtain ⟨h4, g3, hf⟩ := hf
  refine (le_X21_init g3).tr ?_
  replace hf := gx_b2s hf
  obtain ⟨a5, h6, g22, hf⟩ := hf
  refine (hx_le_new g22).tr ?_
  replace hf := gx_bs hf
  obtain ⟨h8, g7, hf⟩ := hf
  refine (le_X27_init g7).tr ?_
  replace hf := gx_b2s hf
  obtain ⟨x10, h11, g9, hf⟩ := hf
  refine (le_X21_inBreadth g9).tr ?_
  replace hf := gx_bs hf
  obtain ⟨x12, g21, hf⟩ := hf
  replace hf := gx_ite hf
  rcases hf with ⟨c13, hf⟩ | ⟨c13, hf⟩
  · obtain ⟨rfl, rfl⟩ := Prod.mk.inj (Option.some.inj hf)
    exact gx_le.rf
  · replace hf := gx_bs hf
    obtain ⟨r14, g20, hf⟩ := hf
    replace hf := gx_bs hf
    obtain ⟨x15, g19, hf⟩ := hf
    replace hf := gx_bs hf
    obtain ⟨a16, rfl, hf⟩ := hf
    replace hf := gx_bs hf
    obtain ⟨x17, g18, hf⟩ := hf
    obtain ⟨rfl, rfl⟩ := Prod.mk.inj (Option.some.inj hf)
    exact gx_le.rf
theorem w_X1_stepsToDeadlock {l : Launch} (hlt : l.stackTraces = false) {D : gx_D} {h : HX} {a0 : Nat} {r : Int32} {hz : HX} (hf : f_X1_stepsToDeadlock D h a0 = some (r, hz)) : gx_Met l yX1_stepsToDeadlock cX1_stepsToDeadlock 2 (some .int) 11 242 D [(va_rf (some a0))] h (some (.int r)) hz :=
  gx_ofG gz_26 (by simp only [gx_lsr, gx_lsi, gx_lsj, gx_ls0]; decide) (le_X1_stepsToDeadlock hf) (fun p e R s m args below meth c C hx => by
    simp only [gx_lar, gx_lai, gx_laj, gx_la0, Nat.reduceAdd]
    exact w_X1_stepsToDeadlock_b hlt C hx hf)
def f_X1_areAccountsConsistent_b82 (D : gx_D) (h : HX) (v0 : Nat) (v1 : Int32) (v2 : Int32) : Option Bool :=
  (hx_gr h v0 [9] 6).bind fun r13 =>
  r13.bind fun a14 =>
  (hx_gi h a14 [11] 7).bind fun x15 =>
  if v1 = x15 then
  (hx_gr h v0 [9] 6).bind fun r17 =>
  r17.bind fun a18 =>
  (hx_gi h a18 [11] 7).bind fun x19 =>
  if v2 = (x19 + (1 : Int32)) then
  (hx_gr h v0 [9] 6).bind fun r21 =>
  r21.bind fun a22 =>
  (hx_gr h a22 [11] 3).bind fun r23 =>
  r23.bind fun a24 =>
  (hx_ai h a24 0 (0 : Int32)).bind fun x25 =>
  if x25 = 0 then
  some true
  else
  some false
  else
  some false
  else
  some false
theorem w_X1_areAccountsConsistent_b82 {l : Launch} (hlt : l.stackTraces = false) {p : Program} {e : Env} {R : Room} {s : State} {m : MethodId} {args : Array Value} {below : List Frame} {meth : Method} {c : Code} {D : gx_D} {h0 : HX} {r : Bool} (C : gx_Ctx p R s m args meth c "ContractMachine" cX1_areAccountsConsistent 7 (some .boolean) 1 24 D h0 h0) (hx : meth.name = "areAccountsConsistent")  {v0 : Nat} {v1 : Int32} {v2 : Int32} (hf : f_X1_areAccountsConsistent_b82 D h0 v0 v1 v2 = some r) : gx_G p l e R s m args below meth c D h0 h0 7 (gx_MQ below args s D h0 h0 (some (.int (b2i r)))) 82 [(0, (va_rf (some v0))), (1, (.int v1)), (2, (.int v2))] [] h0 := by
  unfold f_X1_areAccountsConsistent_b82 at hf
  refine gx_iload_n C dX1_areAccountsConsistent_82 1 rfl ?_
  refine gx_aload_n C dX1_areAccountsConsistent_83 0 rfl ?_
  replace hf := gx_bs hf
  obtain ⟨r13, g33, hf⟩ := hf
  refine gx_gr C g33 gz_85 q896 dX1_areAccountsConsistent_84 ?_
  replace hf := gx_bs hf
  obtain ⟨a14, rfl, hf⟩ := hf
  replace hf := gx_bs hf
  obtain ⟨x15, g32, hf⟩ := hf
  refine gx_giN C g32 gz_66 q618 dX1_areAccountsConsistent_87 ?_
  replace hf := gx_ite hf
  rcases hf with ⟨c16, hf⟩ | ⟨c16, hf⟩
  · refine gx_icmp_ne_f (tgt := 122) C dX1_areAccountsConsistent_90 rfl c16 ?_
    refine gx_iload_n C dX1_areAccountsConsistent_93 2 rfl ?_
    refine gx_aload_n C dX1_areAccountsConsistent_94 0 rfl ?_
    replace hf := gx_bs hf
    obtain ⟨r17, g31, hf⟩ := hf
    refine gx_gr C g31 gz_85 q896 dX1_areAccountsConsistent_95 ?_
    replace hf := gx_bs hf
    obtain ⟨a18, rfl, hf⟩ := hf
    replace hf := gx_bs hf
    obtain ⟨x19, g30, hf⟩ := hf
    refine gx_giN C g30 gz_66 q618 dX1_areAccountsConsistent_98 ?_
    refine gx_iconst (v := 1) C dX1_areAccountsConsistent_101 rfl ?_
    refine gx_iadd C dX1_areAccountsConsistent_102 ?_
    replace hf := gx_ite hf
    rcases hf with ⟨c20, hf⟩ | ⟨c20, hf⟩
    · refine gx_icmp_ne_f (tgt := 122) C dX1_areAccountsConsistent_103 rfl c20 ?_
      refine gx_aload_n C dX1_areAccountsConsistent_106 0 rfl ?_
      replace hf := gx_bs hf
      obtain ⟨r21, g29, hf⟩ := hf
      refine gx_gr C g29 gz_85 q896 dX1_areAccountsConsistent_107 ?_
      replace hf := gx_bs hf
      obtain ⟨a22, rfl, hf⟩ := hf
      replace hf := gx_bs hf
      obtain ⟨r23, g28, hf⟩ := hf
      refine gx_grN C g28 gz_61 q606 dX1_areAccountsConsistent_110 ?_
      refine gx_iconst (v := 0) C dX1_areAccountsConsistent_113 rfl ?_
      replace hf := gx_bs hf
      obtain ⟨a24, rfl, hf⟩ := hf
      replace hf := gx_bs hf
      obtain ⟨x25, g27, hf⟩ := hf
      refine gx_iald C g27 dX1_areAccountsConsistent_114 ?_
      replace hf := gx_ite hf
      rcases hf with ⟨c26, hf⟩ | ⟨c26, hf⟩
      · refine gx_if_ne_f (tgt := 122) C dX1_areAccountsConsistent_115 rfl c26 ?_
        refine gx_iconst (v := 1) C dX1_areAccountsConsistent_118 rfl ?_
        refine gx_goto (tgt := 123) C dX1_areAccountsConsistent_119 rfl ?_
        obtain rfl := Option.some.inj hf
        exact gx_zret (b := true) C dX1_areAccountsConsistent_123
      · refine gx_if_ne_t (tgt := 122) C dX1_areAccountsConsistent_115 rfl c26 ?_
        refine gx_iconst (v := 0) C dX1_areAccountsConsistent_122 rfl ?_
        obtain rfl := Option.some.inj hf
        exact gx_zret (b := false) C dX1_areAccountsConsistent_123
    · refine gx_icmp_ne_t (tgt := 122) C dX1_areAccountsConsistent_103 rfl c20 ?_
      refine gx_iconst (v := 0) C dX1_areAccountsConsistent_122 rfl ?_
      obtain rfl := Option.some.inj hf
      exact gx_zret (b := false) C dX1_areAccountsConsistent_123
  · refine gx_icmp_ne_t (tgt := 122) C dX1_areAccountsConsistent_90 rfl c16 ?_
    refine gx_iconst (v := 0) C dX1_areAccountsConsistent_122 rfl ?_
    obtain rfl := Option.some.inj hf
    exact gx_zret (b := false) C dX1_areAccountsConsistent_123
def f_X1_areAccountsConsistent_b58 (D : gx_D) : Nat → HX → Nat → Int32 → Int32 → Option Nat → Int32 → Int32 → Option Bool
  | 0, _, _, _, _, _, _, _ => none
  | n + 1, h, v0, v1, v2, v3, v4, v5 =>
  if v4 ≤ v5 then
  f_X1_areAccountsConsistent_b82 D h v0 v1 v2
  else
  v3.bind fun a34 =>
  (hx_ai h a34 0 v5).bind fun x35 =>
  (f_X1_areAccountsConsistent_b58 D n) h v0 v1 ((v2 + x35)) (some a34) v4 ((v5 + (1 : Int32)))
theorem w_X1_areAccountsConsistent_b58 {l : Launch} (hlt : l.stackTraces = false) {p : Program} {e : Env} {R : Room} {s : State} {m : MethodId} {args : Array Value} {below : List Frame} {meth : Method} {c : Code} {D : gx_D} {h0 : HX} {r : Bool} (C : gx_Ctx p R s m args meth c "ContractMachine" cX1_areAccountsConsistent 7 (some .boolean) 1 24 D h0 h0) (hx : meth.name = "areAccountsConsistent")  : ∀ (n : Nat) ⦃v0 : Nat⦄ ⦃v1 : Int32⦄ ⦃v2 : Int32⦄ ⦃v3 : Option Nat⦄ ⦃v4 : Int32⦄ ⦃v5 : Int32⦄, f_X1_areAccountsConsistent_b58 D n h0 v0 v1 v2 v3 v4 v5 = some r → gx_G p l e R s m args below meth c D h0 h0 7 (gx_MQ below args s D h0 h0 (some (.int (b2i r)))) 58 [(0, (va_rf (some v0))), (1, (.int v1)), (2, (.int v2)), (3, (va_rf v3)), (4, (.int v4)), (5, (.int v5))] [] h0 := by
  intro n
  induction n with
  | zero => intro v0 v1 v2 v3 v4 v5 hf; unfold f_X1_areAccountsConsistent_b58 at hf; cases hf
  | succ n wk58 =>
    intro v0 v1 v2 v3 v4 v5 hf
    unfold f_X1_areAccountsConsistent_b58 at hf
    refine gx_iload C dX1_areAccountsConsistent_58 5 rfl ?_
    refine gx_iload C dX1_areAccountsConsistent_60 4 rfl ?_
    replace hf := gx_ite hf
    rcases hf with ⟨c12, hf⟩ | ⟨c12, hf⟩
    · refine gx_icmp_ge_t (tgt := 82) C dX1_areAccountsConsistent_62 rfl c12 ?_
      refine gx_sub [0, 1, 2] rfl ?_
      exact w_X1_areAccountsConsistent_b82 hlt C hx hf
    · refine gx_icmp_ge_f (tgt := 82) C dX1_areAccountsConsistent_62 rfl c12 ?_
      refine gx_aload_n C dX1_areAccountsConsistent_65 3 rfl ?_
      refine gx_iload C dX1_areAccountsConsistent_66 5 rfl ?_
      replace hf := gx_bs hf
      obtain ⟨a34, rfl, hf⟩ := hf
      replace hf := gx_bs hf
      obtain ⟨x35, g36, hf⟩ := hf
      refine gx_iald C g36 dX1_areAccountsConsistent_68 ?_
      refine gx_ist C dX1_areAccountsConsistent_69 (by decide) [0, 1, 2, 3, 4, 5]  rfl (gx_okn rfl rfl (gx_okn rfl rfl (gx_okn rfl rfl (gx_okn rfl rfl (gx_okn rfl rfl (gx_okr rfl gx_catv_i gx_ok0)))))) ?_
      refine gx_iload_n C dX1_areAccountsConsistent_71 3 rfl ?_
      refine gx_iload C dX1_areAccountsConsistent_72 0 rfl ?_
      refine gx_iadd C dX1_areAccountsConsistent_74 ?_
      refine gx_istn C dX1_areAccountsConsistent_75 2 rfl (by decide) [1, 2, 4, 5, 6]  rfl (gx_okn rfl rfl (gx_okr rfl gx_catv_i (gx_okn rfl rfl (gx_okn rfl rfl (gx_okn rfl rfl gx_ok0))))) ?_
      refine gx_inc (v := 1) C dX1_areAccountsConsistent_76 5 rfl rfl (by decide) [0, 1, 2, 3, 4] rfl (gx_okn rfl rfl (gx_okn rfl rfl (gx_okn rfl rfl (gx_okn rfl rfl (gx_okr rfl gx_catv_i gx_ok0))))) ?_
      refine gx_goto (tgt := 58) C dX1_areAccountsConsistent_79 rfl ?_
      refine gx_sub [2, 3, 1, 4, 5, 0] rfl ?_
      exact wk58 hf
def f_X1_areAccountsConsistent_b43 (D : gx_D) (h : HX) (v0 : Nat) (v1 : Int32) (v2 : Int32) : Option Bool :=
  (hx_gr h v0 [9] 6).bind fun r7 =>
  r7.bind fun a8 =>
  (hx_gr h a8 [11] 2).bind fun r9 =>
  r9.bind fun a10 =>
  (hx_len h a10).bind fun x11 =>
  f_X1_areAccountsConsistent_b58 D gx_fuel h v0 v1 v2 (some a10) x11 ((0 : Int32))
theorem w_X1_areAccountsConsistent_b43 {l : Launch} (hlt : l.stackTraces = false) {p : Program} {e : Env} {R : Room} {s : State} {m : MethodId} {args : Array Value} {below : List Frame} {meth : Method} {c : Code} {D : gx_D} {h0 : HX} {r : Bool} (C : gx_Ctx p R s m args meth c "ContractMachine" cX1_areAccountsConsistent 7 (some .boolean) 1 24 D h0 h0) (hx : meth.name = "areAccountsConsistent")  {v0 : Nat} {v1 : Int32} {v2 : Int32} (hf : f_X1_areAccountsConsistent_b43 D h0 v0 v1 v2 = some r) : gx_G p l e R s m args below meth c D h0 h0 7 (gx_MQ below args s D h0 h0 (some (.int (b2i r)))) 43 [(0, (va_rf (some v0))), (1, (.int v1)), (2, (.int v2))] [] h0 := by
  unfold f_X1_areAccountsConsistent_b43 at hf
  refine gx_aload_n C dX1_areAccountsConsistent_43 0 rfl ?_
  replace hf := gx_bs hf
  obtain ⟨r7, g39, hf⟩ := hf
  refine gx_gr C g39 gz_85 q896 dX1_areAccountsConsistent_44 ?_
  replace hf := gx_bs hf
  obtain ⟨a8, rfl, hf⟩ := hf
  replace hf := gx_bs hf
  obtain ⟨r9, g38, hf⟩ := hf
  refine gx_grN C g38 gz_60 q603 dX1_areAccountsConsistent_47 ?_
  refine gx_astn C dX1_areAccountsConsistent_50 3 rfl (by decide) [0, 1, 2]  rfl (gx_okn rfl rfl (gx_okn rfl rfl (gx_okr rfl gx_catv_i gx_ok0))) ?_
  refine gx_aload_n C dX1_areAccountsConsistent_51 0 rfl ?_
  replace hf := gx_bs hf
  obtain ⟨a10, rfl, hf⟩ := hf
  replace hf := gx_bs hf
  obtain ⟨x11, g37, hf⟩ := hf
  refine gx_alen C g37 dX1_areAccountsConsistent_52 ?_
  refine gx_ist C dX1_areAccountsConsistent_53 (by decide) [0, 1, 2, 3]  rfl (gx_okr rfl gx_catv_r (gx_okn rfl rfl (gx_okn rfl rfl (gx_okn rfl rfl gx_ok0)))) ?_
  refine gx_iconst (v := 0) C dX1_areAccountsConsistent_55 rfl ?_
  refine gx_ist C dX1_areAccountsConsistent_56 (by decide) [0, 1, 2, 3, 4]  rfl (gx_okr rfl gx_catv_i (gx_okn rfl rfl (gx_okn rfl rfl (gx_okn rfl rfl (gx_okn rfl rfl gx_ok0))))) ?_
  refine gx_sub [3, 4, 5, 2, 1, 0] rfl ?_
  exact w_X1_areAccountsConsistent_b58 hlt C hx gx_fuel hf
def f_X1_areAccountsConsistent_b19 (D : gx_D) : Nat → HX → Nat → Int32 → Int32 → Option Nat → Int32 → Int32 → Option Bool
  | 0, _, _, _, _, _, _, _ => none
  | n + 1, h, v0, v1, v2, v3, v4, v5 =>
  if v4 ≤ v5 then
  f_X1_areAccountsConsistent_b43 D h v0 v1 v2
  else
  v3.bind fun a40 =>
  (hx_ai h a40 0 v5).bind fun x41 =>
  (f_X1_areAccountsConsistent_b19 D n) h v0 ((v1 + x41)) v2 (some a40) v4 ((v5 + (1 : Int32)))
theorem w_X1_areAccountsConsistent_b19 {l : Launch} (hlt : l.stackTraces = false) {p : Program} {e : Env} {R : Room} {s : State} {m : MethodId} {args : Array Value} {below : List Frame} {meth : Method} {c : Code} {D : gx_D} {h0 : HX} {r : Bool} (C : gx_Ctx p R s m args meth c "ContractMachine" cX1_areAccountsConsistent 7 (some .boolean) 1 24 D h0 h0) (hx : meth.name = "areAccountsConsistent")  : ∀ (n : Nat) ⦃v0 : Nat⦄ ⦃v1 : Int32⦄ ⦃v2 : Int32⦄ ⦃v3 : Option Nat⦄ ⦃v4 : Int32⦄ ⦃v5 : Int32⦄, f_X1_areAccountsConsistent_b19 D n h0 v0 v1 v2 v3 v4 v5 = some r → gx_G p l e R s m args below meth c D h0 h0 7 (gx_MQ below args s D h0 h0 (some (.int (b2i r)))) 19 [(0, (va_rf (some v0))), (1, (.int v1)), (2, (.int v2)), (3, (va_rf v3)), (4, (.int v4)), (5, (.int v5))] [] h0 := by
  intro n
  induction n with
  | zero => intro v0 v1 v2 v3 v4 v5 hf; unfold f_X1_areAccountsConsistent_b19 at hf; cases hf
  | succ n wk19 =>
    intro v0 v1 v2 v3 v4 v5 hf
    unfold f_X1_areAccountsConsistent_b19 at hf
    refine gx_iload C dX1_areAccountsConsistent_19 5 rfl ?_
    refine gx_iload C dX1_areAccountsConsistent_21 4 rfl ?_
    replace hf := gx_ite hf
    rcases hf with ⟨c6, hf⟩ | ⟨c6, hf⟩
    · refine gx_icmp_ge_t (tgt := 43) C dX1_areAccountsConsistent_23 rfl c6 ?_
      refine gx_sub [0, 1, 2] rfl ?_
      exact w_X1_areAccountsConsistent_b43 hlt C hx hf
    · refine gx_icmp_ge_f (tgt := 43) C dX1_areAccountsConsistent_23 rfl c6 ?_
      refine gx_aload_n C dX1_areAccountsConsistent_26 3 rfl ?_
      refine gx_iload C dX1_areAccountsConsistent_27 5 rfl ?_
      replace hf := gx_bs hf
      obtain ⟨a40, rfl, hf⟩ := hf
      replace hf := gx_bs hf
      obtain ⟨x41, g42, hf⟩ := hf
      refine gx_iald C g42 dX1_areAccountsConsistent_29 ?_
      refine gx_ist C dX1_areAccountsConsistent_30 (by decide) [0, 1, 2, 3, 4, 5]  rfl (gx_okn rfl rfl (gx_okn rfl rfl (gx_okn rfl rfl (gx_okn rfl rfl (gx_okn rfl rfl (gx_okr rfl gx_catv_i gx_ok0)))))) ?_
      refine gx_iload_n C dX1_areAccountsConsistent_32 2 rfl ?_
      refine gx_iload C dX1_areAccountsConsistent_33 0 rfl ?_
      refine gx_iadd C dX1_areAccountsConsistent_35 ?_
      refine gx_istn C dX1_areAccountsConsistent_36 1 rfl (by decide) [1, 3, 4, 5, 6]  rfl (gx_okr rfl gx_catv_r (gx_okn rfl rfl (gx_okn rfl rfl (gx_okn rfl rfl (gx_okn rfl rfl gx_ok0))))) ?_
      refine gx_inc (v := 1) C dX1_areAccountsConsistent_37 5 rfl rfl (by decide) [0, 1, 2, 3, 4] rfl (gx_okn rfl rfl (gx_okn rfl rfl (gx_okn rfl rfl (gx_okn rfl rfl (gx_okr rfl gx_catv_i gx_ok0))))) ?_
      refine gx_goto (tgt := 19) C dX1_areAccountsConsistent_40 rfl ?_
      refine gx_sub [2, 1, 3, 4, 5, 0] rfl ?_
      exact wk19 hf
def f_X1_areAccountsConsistent (D : gx_D) (h : HX) (a0 : Nat) : Option Bool :=
  (hx_is h a0 [9]).bind fun _ =>
  (hx_gr h a0 [9] 6).bind fun r1 =>
  r1.bind fun a2 =>
  (hx_gr h a2 [11] 1).bind fun r3 =>
  r3.bind fun a4 =>
  (hx_len h a4).bind fun x5 =>
  f_X1_areAccountsConsistent_b19 D gx_fuel h a0 ((0 : Int32)) ((0 : Int32)) (some a4) x5 ((0 : Int32))
theorem is_X1_areAccountsConsistent {D : gx_D} {h : HX} {a0 : Nat} {z} (hf : f_X1_areAccountsConsistent D h a0 = some z) : gx_isC h a0 [9] := by
  unfold f_X1_areAccountsConsistent at hf
  obtain ⟨_, g, -⟩ := gx_bs hf
  exact hx_is_of g
theorem w_X1_areAccountsConsistent_b {l : Launch} (hlt : l.stackTraces = false) {p : Program} {e : Env} {R : Room} {s : State} {m : MethodId} {args : Array Value} {below : List Frame} {meth : Method} {c : Code} {D : gx_D} {h0 : HX} {r : Bool} (C : gx_Ctx p R s m args meth c "ContractMachine" cX1_areAccountsConsistent 7 (some .boolean) 1 24 D h0 h0) (hx : meth.name = "areAccountsConsistent") {a0 : Nat} (hf : f_X1_areAccountsConsistent D h0 a0 = some r) : gx_G p l e R s m args below meth c D h0 h0 7 (gx_MQ below args s D h0 h0 (some (.int (b2i r)))) 0 [(0, (va_rf (some a0)))] [] h0 := by
  unfold f_X1_areAccountsConsistent at hf
  replace hf := gx_bs hf
  obtain ⟨_, -, hf⟩ := hf
  refine gx_iconst (v := 0) C dX1_areAccountsConsistent_0 rfl ?_
  refine gx_istn C dX1_areAccountsConsistent_1 1 rfl (by decide) [0]  rfl (gx_okr rfl gx_catv_r gx_ok0) ?_
  refine gx_iconst (v := 0) C dX1_areAccountsConsistent_2 rfl ?_
  refine gx_istn C dX1_areAccountsConsistent_3 2 rfl (by decide) [0, 1]  rfl (gx_okr rfl gx_catv_i (gx_okn rfl rfl gx_ok0)) ?_
  refine gx_aload_n C dX1_areAccountsConsistent_4 2 rfl ?_
  replace hf := gx_bs hf
  obtain ⟨r1, g45, hf⟩ := hf
  refine gx_gr C g45 gz_85 q896 dX1_areAccountsConsistent_5 ?_
  replace hf := gx_bs hf
  obtain ⟨a2, rfl, hf⟩ := hf
  replace hf := gx_bs hf
  obtain ⟨r3, g44, hf⟩ := hf
  refine gx_grN C g44 gz_58 q600 dX1_areAccountsConsistent_8 ?_
  refine gx_astn C dX1_areAccountsConsistent_11 3 rfl (by decide) [0, 1, 2]  rfl (gx_okr rfl gx_catv_i (gx_okn rfl rfl (gx_okn rfl rfl gx_ok0))) ?_
  refine gx_aload_n C dX1_areAccountsConsistent_12 0 rfl ?_
  replace hf := gx_bs hf
  obtain ⟨a4, rfl, hf⟩ := hf
  replace hf := gx_bs hf
  obtain ⟨x5, g43, hf⟩ := hf
  refine gx_alen C g43 dX1_areAccountsConsistent_13 ?_
  refine gx_ist C dX1_areAccountsConsistent_14 (by decide) [0, 1, 2, 3]  rfl (gx_okr rfl gx_catv_r (gx_okn rfl rfl (gx_okn rfl rfl (gx_okn rfl rfl gx_ok0)))) ?_
  refine gx_iconst (v := 0) C dX1_areAccountsConsistent_16 rfl ?_
  refine gx_ist C dX1_areAccountsConsistent_17 (by decide) [0, 1, 2, 3, 4]  rfl (gx_okr rfl gx_catv_i (gx_okn rfl rfl (gx_okn rfl rfl (gx_okn rfl rfl (gx_okn rfl rfl gx_ok0))))) ?_
  refine gx_sub [5, 4, 3, 2, 1, 0] rfl ?_
  exact w_X1_areAccountsConsistent_b19 hlt C hx gx_fuel hf
theorem w_X1_areAccountsConsistent {l : Launch} (hlt : l.stackTraces = false) {D : gx_D} {h : HX} {a0 : Nat} {r : Bool} (hf : f_X1_areAccountsConsistent D h a0 = some r) : gx_Met l yX1_areAccountsConsistent cX1_areAccountsConsistent 7 (some .boolean) 1 24 D [(va_rf (some a0))] h (some (.int (b2i r))) h :=
  gx_ofG gz_26 (by simp only [gx_lsr, gx_lsi, gx_lsj, gx_ls0]; decide) gx_le.rf (fun p e R s m args below meth c C hx => by
    simp only [gx_lar, gx_lai, gx_laj, gx_la0, Nat.reduceAdd]
    exact w_X1_areAccountsConsistent_b hlt C hx hf)
def f_X21_inDepth_b18 (D : gx_D) : Nat → HX → Nat → Int32 → Option ((Int32) × HX)
  | 0, _, _, _ => none
  | n + 1, h, v0, v1 =>
  (hx_gi h v0 [25] 1).bind fun x8 =>
  if x8 ≤ 0 then
  some (v1, h)
  else
  (hx_gi h v0 [25] 1).bind fun x10 =>
  (hx_pi h v0 [25] 1 (x10 - (1 : Int32))).bind fun h11 =>
  (hx_gr h11 v0 [25] 2).bind fun r12 =>
  r12.bind fun a13 =>
  (hx_gr h11 a13 [9] 11).bind fun r14 =>
  (hx_gi h11 v0 [25] 1).bind fun x15 =>
  r14.bind fun a16 =>
  (hx_ai h11 a16 0 x15).bind fun x17 =>
  (f_X21_expand D h11 v0 x17).bind fun h19 =>
  (f_X21_inDepth_b18 D n) h19 v0 ((v1 + (1 : Int32)))
theorem w_X21_inDepth_b18 {l : Launch} (hlt : l.stackTraces = false) {p : Program} {e : Env} {R : Room} {s : State} {m : MethodId} {args : Array Value} {below : List Frame} {meth : Method} {c : Code} {D : gx_D} {h0 : HX} {r : Int32} {hz : HX} (C : gx_Ctx p R s m args meth c "ContractMachine$Search" cX21_inDepth 2 (some .int) 8 180 D h0 hz) (hx : meth.name = "inDepth")  : ∀ (n : Nat) ⦃h : HX⦄ ⦃v0 : Nat⦄ ⦃v1 : Int32⦄, f_X21_inDepth_b18 D n h v0 v1 = some (r, hz) → gx_G p l e R s m args below meth c D h0 hz 2 (gx_MQ below args s D h0 hz (some (.int r))) 18 [(0, (va_rf (some v0))), (1, (.int v1))] [] h := by
  intro n
  induction n with
  | zero => intro h v0 v1 hf; unfold f_X21_inDepth_b18 at hf; cases hf
  | succ n wk18 =>
    intro h v0 v1 hf
    unfold f_X21_inDepth_b18 at hf
    refine gx_aload_n C dX21_inDepth_18 0 rfl ?_
    replace hf := gx_bs hf
    obtain ⟨x8, g26, hf⟩ := hf
    refine gx_gi C g26 gz_405 q2005 dX21_inDepth_19 ?_
    replace hf := gx_ite hf
    rcases hf with ⟨c9, hf⟩ | ⟨c9, hf⟩
    · refine gx_if_le_t (tgt := 57) C dX21_inDepth_22 rfl c9 ?_
      refine gx_iload_n C dX21_inDepth_57 1 rfl ?_
      obtain ⟨rfl, rfl⟩ := Prod.mk.inj (Option.some.inj hf)
      exact gx_iret C dX21_inDepth_58
    · refine gx_if_le_f (tgt := 57) C dX21_inDepth_22 rfl c9 ?_
      refine gx_aload_n C dX21_inDepth_25 0 rfl ?_
      refine gx_dup C dX21_inDepth_26 rfl ?_
      replace hf := gx_bs hf
      obtain ⟨x10, g25, hf⟩ := hf
      refine gx_gi C g25 gz_405 q2005 dX21_inDepth_27 ?_
      refine gx_iconst (v := 1) C dX21_inDepth_30 rfl ?_
      refine gx_isub C dX21_inDepth_31 ?_
      replace hf := gx_bs hf
      obtain ⟨h11, g24, hf⟩ := hf
      refine gx_putv C g24 gz_405 gz_1 rfl rfl q2005 dX21_inDepth_32 ?_
      refine gx_inc (v := 1) C dX21_inDepth_35 1 rfl rfl (by decide) [0] rfl (gx_okr rfl gx_catv_r gx_ok0) ?_
      refine gx_aload_n C dX21_inDepth_38 1 rfl ?_
      refine gx_aload_n C dX21_inDepth_39 1 rfl ?_
      replace hf := gx_bs hf
      obtain ⟨r12, g23, hf⟩ := hf
      refine gx_gr C g23 gz_385 q2006 dX21_inDepth_40 ?_
      replace hf := gx_bs hf
      obtain ⟨a13, rfl, hf⟩ := hf
      replace hf := gx_bs hf
      obtain ⟨r14, g22, hf⟩ := hf
      refine gx_grN C g22 gz_92 q903 dX21_inDepth_43 ?_
      refine gx_aload_n C dX21_inDepth_46 1 rfl ?_
      replace hf := gx_bs hf
      obtain ⟨x15, g21, hf⟩ := hf
      refine gx_gi C g21 gz_405 q2005 dX21_inDepth_47 ?_
      replace hf := gx_bs hf
      obtain ⟨a16, rfl, hf⟩ := hf
      replace hf := gx_bs hf
      obtain ⟨x17, g20, hf⟩ := hf
      refine gx_iald C g20 dX21_inDepth_50 ?_
      replace hf := gx_bs hf
      obtain ⟨h19, g18, hf⟩ := hf
      refine gx_callV (st := []) C (w_X21_expand hlt g18) (is_X21_expand g18) gz_407 rfl (lw_V q2094 q2096 qs42 q174 q2097) gz_424 (by decide) rfl rfl (gx_catn (Nat.le_of_ble_eq_true rfl)) dX21_inDepth_51 ?_
      refine gx_goto (tgt := 18) C dX21_inDepth_54 rfl ?_
      refine gx_sub [1, 0] rfl ?_
      exact wk18 hf
theorem le_X21_inDepth_b18 {D : gx_D} {r : Int32} {hz : HX} : ∀ (n : Nat) ⦃h : HX⦄ ⦃v0 : Nat⦄ ⦃v1 : Int32⦄, f_X21_inDepth_b18 D n h v0 v1 = some (r, hz) → gx_le h hz := by
  intro n
  induction n with
  | zero => intro h v0 v1 hf; unfold f_X21_inDepth_b18 at hf; cases hf
  | succ n lek18 =>
    intro h v0 v1 hf
    unfold f_X21_inDepth_b18 at hf
    replace hf := gx_bs hf
    obtain ⟨x8, g26, hf⟩ := hf
    replace hf := gx_ite hf
    rcases hf with ⟨c9, hf⟩ | ⟨c9, hf⟩
    · obtain ⟨rfl, rfl⟩ := Prod.mk.inj (Option.some.inj hf)
      exact gx_le.rf
    · replace hf := gx_bs hf
      obtain ⟨x10, g25, hf⟩ := hf
      replace hf := gx_bs hf
      obtain ⟨h11, g24, hf⟩ := hf
      refine (hx_le_pv g24).tr ?_
      replace hf := gx_bs hf
      obtain ⟨r12, g23, hf⟩ := hf
      replace hf := gx_bs hf
      obtain ⟨a13, rfl, hf⟩ := hf
      replace hf := gx_bs hf
      obtain ⟨r14, g22, hf⟩ := hf
      replace hf := gx_bs hf
      obtain ⟨x15, g21, hf⟩ := hf
      replace hf := gx_bs hf
      obtain ⟨a16, rfl, hf⟩ := hf
      replace hf := gx_bs hf
      obtain ⟨x17, g20, hf⟩ := hf
      replace hf := gx_bs hf
      obtain ⟨h19, g18, hf⟩ := hf
      refine (le_X21_expand g18).tr ?_
      exact lek18 hf
def f_X21_inDepth (D : gx_D) (h : HX) (a0 : Nat) : Option ((Int32) × HX) :=
  (hx_is h a0 [25]).bind fun _ =>
  (hx_gr h a0 [25] 2).bind fun r1 =>
  r1.bind fun a2 =>
  (hx_gr h a2 [9] 6).bind fun r3 =>
  r3.bind fun a4 =>
  (hx_gi h a4 [11] 6).bind fun x5 =>
  (f_X21_mark D h a0 x5 (0 : Int32) (-1 : Int32)).bind fun h7 =>
  f_X21_inDepth_b18 D gx_fuel h7 a0 ((0 : Int32))
theorem is_X21_inDepth {D : gx_D} {h : HX} {a0 : Nat} {z} (hf : f_X21_inDepth D h a0 = some z) : gx_isC h a0 [25] := by
  unfold f_X21_inDepth at hf
  obtain ⟨_, g, -⟩ := gx_bs hf
  exact hx_is_of g
theorem w_X21_inDepth_b {l : Launch} (hlt : l.stackTraces = false) {p : Program} {e : Env} {R : Room} {s : State} {m : MethodId} {args : Array Value} {below : List Frame} {meth : Method} {c : Code} {D : gx_D} {h0 : HX} {r : Int32} {hz : HX} (C : gx_Ctx p R s m args meth c "ContractMachine$Search" cX21_inDepth 2 (some .int) 8 180 D h0 hz) (hx : meth.name = "inDepth") {a0 : Nat} (hf : f_X21_inDepth D h0 a0 = some (r, hz)) : gx_G p l e R s m args below meth c D h0 hz 2 (gx_MQ below args s D h0 hz (some (.int r))) 0 [(0, (va_rf (some a0)))] [] h0 := by
  unfold f_X21_inDepth at hf
  replace hf := gx_bs hf
  obtain ⟨_, -, hf⟩ := hf
  refine gx_iconst (v := 0) C dX21_inDepth_0 rfl ?_
  refine gx_istn C dX21_inDepth_1 1 rfl (by decide) [0]  rfl (gx_okr rfl gx_catv_r gx_ok0) ?_
  refine gx_aload_n C dX21_inDepth_2 1 rfl ?_
  refine gx_aload_n C dX21_inDepth_3 1 rfl ?_
  replace hf := gx_bs hf
  obtain ⟨r1, g29, hf⟩ := hf
  refine gx_gr C g29 gz_385 q2006 dX21_inDepth_4 ?_
  replace hf := gx_bs hf
  obtain ⟨a2, rfl, hf⟩ := hf
  replace hf := gx_bs hf
  obtain ⟨r3, g28, hf⟩ := hf
  refine gx_grN C g28 gz_85 q895 dX21_inDepth_7 ?_
  replace hf := gx_bs hf
  obtain ⟨a4, rfl, hf⟩ := hf
  replace hf := gx_bs hf
  obtain ⟨x5, g27, hf⟩ := hf
  refine gx_giN C g27 gz_65 q613 dX21_inDepth_10 ?_
  refine gx_iconst (v := 0) C dX21_inDepth_13 rfl ?_
  refine gx_iconst (v := -1) C dX21_inDepth_14 rfl ?_
  replace hf := gx_bs hf
  obtain ⟨h7, g6, hf⟩ := hf
  refine gx_callV (st := []) C (w_X21_mark hlt g6) (is_X21_mark g6) gz_407 rfl (lw_V q2028 q2030 qs41 q174 q2031) gz_406 (by decide) rfl rfl (gx_catn (Nat.le_of_ble_eq_true rfl)) dX21_inDepth_15 ?_
  refine gx_sub [1, 0] rfl ?_
  exact w_X21_inDepth_b18 hlt C hx gx_fuel hf
theorem le_X21_inDepth {D : gx_D} {r : Int32} {hz : HX} {h : HX} {a0 : Nat} (hf : f_X21_inDepth D h a0 = some (r, hz)) : gx_le h hz := by
  unfold f_X21_inDepth at hf
  replace hf := gx_bs hf
  obtain ⟨_, -, hf⟩ := hf
  replace hf := gx_bs hf
  obtain ⟨r1, g29, hf⟩ := hf
  replace hf := gx_bs hf
  obtain ⟨a2, rfl, hf⟩ := hf
  replace hf := gx_bs hf
  obtain ⟨r3, g28, hf⟩ := hf
  replace hf := gx_bs hf
  obtain ⟨a4, rfl, hf⟩ := hf
  replace hf := gx_bs hf
  obtain ⟨x5, g27, hf⟩ := hf
  replace hf := gx_bs hf
  obtain ⟨h7, g6, hf⟩ := hf
  refine (le_X21_mark g6).tr ?_
  exact le_X21_inDepth_b18 gx_fuel hf
theorem w_X21_inDepth {l : Launch} (hlt : l.stackTraces = false) {D : gx_D} {h : HX} {a0 : Nat} {r : Int32} {hz : HX} (hf : f_X21_inDepth D h a0 = some (r, hz)) : gx_Met l yX21_inDepth cX21_inDepth 2 (some .int) 8 180 D [(va_rf (some a0))] h (some (.int r)) hz :=
  gx_ofG gz_386 (by simp only [gx_lsr, gx_lsi, gx_lsj, gx_ls0]; decide) (le_X21_inDepth hf) (fun p e R s m args below meth c C hx => by
    simp only [gx_lar, gx_lai, gx_laj, gx_la0, Nat.reduceAdd]
    exact w_X21_inDepth_b hlt C hx hf)
def f_X1_isConsistent_b23 (D : gx_D) (h : HX) (v0 : Nat) (s0 : Bool) : Option ((Bool) × HX) :=
  if s0 = true then
  (f_X1_areAccountsConsistent D h v0).bind fun b11 =>
  if b11 = true then
  gx_b2 (hx_new h 3 25 gx_df25) fun a13 h14 =>
  (f_X21_init D h14 a13 (some v0)).bind fun h16 =>
  gx_b2 (f_X21_inDepth D h16 a13) fun x18 h19 =>
  gx_b2 (f_X1_reachableCount D h19 v0) fun x21 h22 =>
  if x18 = x21 then
  some (true, h22)
  else
  some (false, h22)
  else
  some (false, h)
  else
  some (false, h)
theorem w_X1_isConsistent_b23 {l : Launch} (hlt : l.stackTraces = false) {p : Program} {e : Env} {R : Room} {s : State} {m : MethodId} {args : Array Value} {below : List Frame} {meth : Method} {c : Code} {D : gx_D} {h0 : HX} {r : Bool} {hz : HX} (C : gx_Ctx p R s m args meth c "ContractMachine" cX1_isConsistent 2 (some .boolean) 12 262 D h0 hz) (hx : meth.name = "isConsistent")  {h : HX} {v0 : Nat} {s0 : Bool} (hf : f_X1_isConsistent_b23 D h v0 s0 = some (r, hz)) : gx_G p l e R s m args below meth c D h0 hz 2 (gx_MQ below args s D h0 hz (some (.int (b2i r)))) 23 [(0, (va_rf (some v0)))] [(.int (b2i s0))] h := by
  unfold f_X1_isConsistent_b23 at hf
  refine gx_istn C dX1_isConsistent_23 1 rfl (by decide) [0]  rfl (gx_okr rfl gx_catv_r gx_ok0) ?_
  refine gx_iload_n C dX1_isConsistent_24 0 rfl ?_
  replace hf := gx_ite hf
  rcases hf with ⟨c9, hf⟩ | ⟨c9, hf⟩
  · refine gx_ifz_eq_f (tgt := 57) C dX1_isConsistent_25 rfl c9 ?_
    refine gx_aload_n C dX1_isConsistent_28 1 rfl ?_
    replace hf := gx_bs hf
    obtain ⟨b11, g10, hf⟩ := hf
    refine gx_callV (st := []) C (w_X1_areAccountsConsistent hlt g10) (is_X1_areAccountsConsistent g10) gz_108 rfl (lw_V q2139 q2141 qs43 q121 q2142) gz_435 (by decide) rfl rfl (gx_catn (Nat.le_of_ble_eq_true rfl)) dX1_isConsistent_29 ?_
    replace hf := gx_ite hf
    rcases hf with ⟨c12, hf⟩ | ⟨c12, hf⟩
    · refine gx_ifz_eq_f (tgt := 57) C dX1_isConsistent_32 rfl c12 ?_
      replace hf := gx_b2s hf
      obtain ⟨a13, h14, g24, hf⟩ := hf
      refine gx_newN C g24 gz_407 tyX21_ok gx_df25_ok q1998 q1999 q174 dX1_isConsistent_35 rfl ?_
      refine gx_dup C dX1_isConsistent_38 rfl ?_
      refine gx_aload_n C dX1_isConsistent_39 1 rfl ?_
      replace hf := gx_bs hf
      obtain ⟨h16, g15, hf⟩ := hf
      refine gx_callI (st := [(va_rf (some a13))]) C (w_X21_init hlt g15) q2000 q2001 q174 q2002 rfl gz_429 (by decide) rfl rfl (gx_catn (Nat.le_of_ble_eq_true rfl)) dX1_isConsistent_40 ?_
      replace hf := gx_b2s hf
      obtain ⟨x18, h19, g17, hf⟩ := hf
      refine gx_callV (st := []) C (w_X21_inDepth hlt g17) (is_X21_inDepth g17) gz_407 rfl (lw_V q2143 q2144 q2145 q174 q2146) gz_436 (by decide) rfl rfl (gx_catn (Nat.le_of_ble_eq_true rfl)) dX1_isConsistent_43 ?_
      refine gx_aload_n C dX1_isConsistent_46 1 rfl ?_
      replace hf := gx_b2s hf
      obtain ⟨x21, h22, g20, hf⟩ := hf
      refine gx_callV (st := [(.int x18)]) C (w_X1_reachableCount hlt g20) (is_X1_reachableCount g20) gz_108 rfl (lw_V q2147 q1995 q1996 q121 q1997) gz_437 (by decide) rfl rfl (gx_catn (Nat.le_of_ble_eq_true rfl)) dX1_isConsistent_47 ?_
      replace hf := gx_ite hf
      rcases hf with ⟨c23, hf⟩ | ⟨c23, hf⟩
      · refine gx_icmp_ne_f (tgt := 57) C dX1_isConsistent_50 rfl c23 ?_
        refine gx_iconst (v := 1) C dX1_isConsistent_53 rfl ?_
        refine gx_goto (tgt := 58) C dX1_isConsistent_54 rfl ?_
        obtain ⟨rfl, rfl⟩ := Prod.mk.inj (Option.some.inj hf)
        exact gx_zret (b := true) C dX1_isConsistent_58
      · refine gx_icmp_ne_t (tgt := 57) C dX1_isConsistent_50 rfl c23 ?_
        refine gx_iconst (v := 0) C dX1_isConsistent_57 rfl ?_
        obtain ⟨rfl, rfl⟩ := Prod.mk.inj (Option.some.inj hf)
        exact gx_zret (b := false) C dX1_isConsistent_58
    · refine gx_ifz_eq_t (tgt := 57) C dX1_isConsistent_32 rfl c12 ?_
      refine gx_iconst (v := 0) C dX1_isConsistent_57 rfl ?_
      obtain ⟨rfl, rfl⟩ := Prod.mk.inj (Option.some.inj hf)
      exact gx_zret (b := false) C dX1_isConsistent_58
  · refine gx_ifz_eq_t (tgt := 57) C dX1_isConsistent_25 rfl c9 ?_
    refine gx_iconst (v := 0) C dX1_isConsistent_57 rfl ?_
    obtain ⟨rfl, rfl⟩ := Prod.mk.inj (Option.some.inj hf)
    exact gx_zret (b := false) C dX1_isConsistent_58
theorem le_X1_isConsistent_b23 {D : gx_D} {r : Bool} {hz : HX} {h : HX} {v0 : Nat} {s0 : Bool} (hf : f_X1_isConsistent_b23 D h v0 s0 = some (r, hz)) : gx_le h hz := by
  unfold f_X1_isConsistent_b23 at hf
  replace hf := gx_ite hf
  rcases hf with ⟨c9, hf⟩ | ⟨c9, hf⟩
  · replace hf := gx_bs hf
    obtain ⟨b11, g10, hf⟩ := hf
    replace hf := gx_ite hf
    rcases hf with ⟨c12, hf⟩ | ⟨c12, hf⟩
    · replace hf := gx_b2s hf
      obtain ⟨a13, h14, g24, hf⟩ := hf
      refine (hx_le_new g24).tr ?_
      replace hf := gx_bs hf
      obtain ⟨h16, g15, hf⟩ := hf
      refine (le_X21_init g15).tr ?_
      replace hf := gx_b2s hf
      obtain ⟨x18, h19, g17, hf⟩ := hf
      refine (le_X21_inDepth g17).tr ?_
      replace hf := gx_b2s hf
      obtain ⟨x21, h22, g20, hf⟩ := hf
      refine (le_X1_reachableCount g20).tr ?_
      replace hf := gx_ite hf
      rcases hf with ⟨c23, hf⟩ | ⟨c23, hf⟩
      · obtain ⟨rfl, rfl⟩ := Prod.mk.inj (Option.some.inj hf)
        exact gx_le.rf
      · obtain ⟨rfl, rfl⟩ := Prod.mk.inj (Option.some.inj hf)
        exact gx_le.rf
    · obtain ⟨rfl, rfl⟩ := Prod.mk.inj (Option.some.inj hf)
      exact gx_le.rf
  · obtain ⟨rfl, rfl⟩ := Prod.mk.inj (Option.some.inj hf)
    exact gx_le.rf
def f_X1_isConsistent (D : gx_D) (h : HX) (a0 : Nat) : Option ((Bool) × HX) :=
  (hx_is h a0 [9]).bind fun _ =>
  (hx_gr h a0 [9] 6).bind fun r1 =>
  (hx_gr h a0 [9] 6).bind fun r2 =>
  r2.bind fun a3 =>
  (hx_gi h a3 [11] 6).bind fun x4 =>
  r1.bind fun a5 =>
  (f_X4_broken D h a5 x4).bind fun x7 =>
  if x7 = (-1 : Int32) then
  f_X1_isConsistent_b23 D h a0 true
  else
  f_X1_isConsistent_b23 D h a0 false
theorem is_X1_isConsistent {D : gx_D} {h : HX} {a0 : Nat} {z} (hf : f_X1_isConsistent D h a0 = some z) : gx_isC h a0 [9] := by
  unfold f_X1_isConsistent at hf
  obtain ⟨_, g, -⟩ := gx_bs hf
  exact hx_is_of g
theorem w_X1_isConsistent_b {l : Launch} (hlt : l.stackTraces = false) {p : Program} {e : Env} {R : Room} {s : State} {m : MethodId} {args : Array Value} {below : List Frame} {meth : Method} {c : Code} {D : gx_D} {h0 : HX} {r : Bool} {hz : HX} (C : gx_Ctx p R s m args meth c "ContractMachine" cX1_isConsistent 2 (some .boolean) 12 262 D h0 hz) (hx : meth.name = "isConsistent") {a0 : Nat} (hf : f_X1_isConsistent D h0 a0 = some (r, hz)) : gx_G p l e R s m args below meth c D h0 hz 2 (gx_MQ below args s D h0 hz (some (.int (b2i r)))) 0 [(0, (va_rf (some a0)))] [] h0 := by
  unfold f_X1_isConsistent at hf
  replace hf := gx_bs hf
  obtain ⟨_, -, hf⟩ := hf
  refine gx_aload_n C dX1_isConsistent_0 0 rfl ?_
  replace hf := gx_bs hf
  obtain ⟨r1, g27, hf⟩ := hf
  refine gx_gr C g27 gz_85 q896 dX1_isConsistent_1 ?_
  refine gx_aload_n C dX1_isConsistent_4 0 rfl ?_
  replace hf := gx_bs hf
  obtain ⟨r2, g26, hf⟩ := hf
  refine gx_gr C g26 gz_85 q896 dX1_isConsistent_5 ?_
  replace hf := gx_bs hf
  obtain ⟨a3, rfl, hf⟩ := hf
  replace hf := gx_bs hf
  obtain ⟨x4, g25, hf⟩ := hf
  refine gx_giN C g25 gz_65 q614 dX1_isConsistent_8 ?_
  replace hf := gx_bs hf
  obtain ⟨a5, rfl, hf⟩ := hf
  replace hf := gx_bs hf
  obtain ⟨x7, g6, hf⟩ := hf
  refine gx_callV (st := []) C (w_X4_broken hlt g6) (is_X4_broken g6) gz_13 rfl (lw_V q1829 q1431 q1432 q144 q1433) gz_258 (by decide) rfl rfl (gx_catn (Nat.le_of_ble_eq_true rfl)) dX1_isConsistent_11 ?_
  refine gx_iconst (v := -1) C dX1_isConsistent_14 rfl ?_
  replace hf := gx_ite hf
  rcases hf with ⟨c8, hf⟩ | ⟨c8, hf⟩
  · refine gx_icmp_ne_f (tgt := 22) C dX1_isConsistent_15 rfl c8 ?_
    refine gx_iconst (v := 1) C dX1_isConsistent_18 rfl ?_
    refine gx_goto (tgt := 23) C dX1_isConsistent_19 rfl ?_
    refine gx_sub [0] rfl ?_
    exact w_X1_isConsistent_b23 hlt C hx hf
  · refine gx_icmp_ne_t (tgt := 22) C dX1_isConsistent_15 rfl c8 ?_
    refine gx_iconst (v := 0) C dX1_isConsistent_22 rfl ?_
    refine gx_sub [0] rfl ?_
    exact w_X1_isConsistent_b23 hlt C hx hf
theorem le_X1_isConsistent {D : gx_D} {r : Bool} {hz : HX} {h : HX} {a0 : Nat} (hf : f_X1_isConsistent D h a0 = some (r, hz)) : gx_le h hz := by
  unfold f_X1_isConsistent at hf
  replace hf := gx_bs hf
  obtain ⟨_, -, hf⟩ := hf
  replace hf := gx_bs hf
  obtain ⟨r1, g27, hf⟩ := hf
  replace hf := gx_bs hf
  obtain ⟨r2, g26, hf⟩ := hf
  replace hf := gx_bs hf
  obtain ⟨a3, rfl, hf⟩ := hf
  replace hf := gx_bs hf
  obtain ⟨x4, g25, hf⟩ := hf
  replace hf := gx_bs hf
  obtain ⟨a5, rfl, hf⟩ := hf
  replace hf := gx_bs hf
  obtain ⟨x7, g6, hf⟩ := hf
  replace hf := gx_ite hf
  rcases hf with ⟨c8, hf⟩ | ⟨c8, hf⟩
  · exact le_X1_isConsistent_b23 hf
  · exact le_X1_isConsistent_b23 hf
theorem w_X1_isConsistent {l : Launch} (hlt : l.stackTraces = false) {D : gx_D} {h : HX} {a0 : Nat} {r : Bool} {hz : HX} (hf : f_X1_isConsistent D h a0 = some (r, hz)) : gx_Met l yX1_isConsistent cX1_isConsistent 2 (some .boolean) 12 262 D [(va_rf (some a0))] h (some (.int (b2i r))) hz :=
  gx_ofG gz_26 (by simp only [gx_lsr, gx_lsi, gx_lsj, gx_ls0]; decide) (le_X1_isConsistent hf) (fun p e R s m args below meth c C hx => by
    simp only [gx_lar, gx_lai, gx_laj, gx_la0, Nat.reduceAdd]
    exact w_X1_isConsistent_b hlt C hx hf)
def f_X1_meanValue_b40 (D : gx_D) (h : HX) (v0 : Nat) (v1 : Int32) : Option UInt64 :=
  (hx_gr h v0 [9] 5).bind fun r8 =>
  r8.bind fun a9 =>
  (hx_gr h a9 [10] 2).bind fun r10 =>
  r10.bind fun a11 =>
  (f_J2_size D h a11).bind fun x13 =>
  if (FP.ddiv (FP.i2d v1) (FP.i2d x13)) &&& 0x7fffffffffffffff ≤ 0x7ff0000000000000 then
  some ((FP.ddiv (FP.i2d v1) (FP.i2d x13)))
  else none
theorem w_X1_meanValue_b40 {l : Launch} (hlt : l.stackTraces = false) {p : Program} {e : Env} {R : Room} {s : State} {m : MethodId} {args : Array Value} {below : List Frame} {meth : Method} {c : Code} {D : gx_D} {h0 : HX} {r : UInt64} (C : gx_Ctx p R s m args meth c "ContractMachine" cX1_meanValue 3 (some .double) 3 65 D h0 h0) (hx : meth.name = "meanValue")  {v0 : Nat} {v1 : Int32} (hf : f_X1_meanValue_b40 D h0 v0 v1 = some r) : gx_G p l e R s m args below meth c D h0 h0 3 (gx_MQ below args s D h0 h0 (some (.double r))) 40 [(0, (va_rf (some v0))), (1, (.int v1))] [] h0 := by
  unfold f_X1_meanValue_b40 at hf
  refine gx_iload_n C dX1_meanValue_40 1 rfl ?_
  refine gx_i2d C dX1_meanValue_41 ?_
  refine gx_aload_n C dX1_meanValue_42 0 rfl ?_
  replace hf := gx_bs hf
  obtain ⟨r8, g16, hf⟩ := hf
  refine gx_gr C g16 gz_20 q892 dX1_meanValue_43 ?_
  replace hf := gx_bs hf
  obtain ⟨a9, rfl, hf⟩ := hf
  replace hf := gx_bs hf
  obtain ⟨r10, g15, hf⟩ := hf
  refine gx_grN C g15 gz_46 q569 dX1_meanValue_46 ?_
  replace hf := gx_bs hf
  obtain ⟨a11, rfl, hf⟩ := hf
  replace hf := gx_bs hf
  obtain ⟨x13, g12, hf⟩ := hf
  refine gx_callF (st := [(.double (FP.i2d v1))]) C (w_J2_size hlt g12) (is_J2_size g12) q1481 (gx_cis1 gz_19 ⟨gz_51, q770⟩ gx_cis0) q772 q127 q774 gz_50 (by decide) rfl rfl (gx_catn (Nat.le_of_ble_eq_true rfl)) dX1_meanValue_49 ?_
  refine gx_i2d C dX1_meanValue_54 ?_
  replace hf := gx_ite hf
  rcases hf with ⟨c14, hf⟩ | ⟨c14, hf⟩
  rotate_left
  · cases hf
  refine gx_ddiv C dX1_meanValue_55 c14 ?_
  obtain rfl := Option.some.inj hf
  exact gx_dret C dX1_meanValue_56
def f_X1_meanValue_b4 (D : gx_D) : Nat → HX → Nat → Int32 → Int32 → Option UInt64
  | 0, _, _, _, _ => none
  | n + 1, h, v0, v1, v2 =>
  (hx_gr h v0 [9] 5).bind fun r1 =>
  r1.bind fun a2 =>
  (hx_gr h a2 [10] 2).bind fun r3 =>
  r3.bind fun a4 =>
  (f_J2_size D h a4).bind fun x6 =>
  if x6 ≤ v2 then
  f_X1_meanValue_b40 D h v0 v1
  else
  (hx_gr h v0 [9] 6).bind fun r17 =>
  r17.bind fun a18 =>
  (f_X4_valuation D h a18).bind fun x20 =>
  (f_X1_valueIn D h x20 v2).bind fun x22 =>
  (f_X1_meanValue_b4 D n) h v0 ((v1 + x22)) ((v2 + (1 : Int32)))
theorem w_X1_meanValue_b4 {l : Launch} (hlt : l.stackTraces = false) {p : Program} {e : Env} {R : Room} {s : State} {m : MethodId} {args : Array Value} {below : List Frame} {meth : Method} {c : Code} {D : gx_D} {h0 : HX} {r : UInt64} (C : gx_Ctx p R s m args meth c "ContractMachine" cX1_meanValue 3 (some .double) 3 65 D h0 h0) (hx : meth.name = "meanValue")  : ∀ (n : Nat) ⦃v0 : Nat⦄ ⦃v1 : Int32⦄ ⦃v2 : Int32⦄, f_X1_meanValue_b4 D n h0 v0 v1 v2 = some r → gx_G p l e R s m args below meth c D h0 h0 3 (gx_MQ below args s D h0 h0 (some (.double r))) 4 [(0, (va_rf (some v0))), (1, (.int v1)), (2, (.int v2))] [] h0 := by
  intro n
  induction n with
  | zero => intro v0 v1 v2 hf; unfold f_X1_meanValue_b4 at hf; cases hf
  | succ n wk4 =>
    intro v0 v1 v2 hf
    unfold f_X1_meanValue_b4 at hf
    refine gx_iload_n C dX1_meanValue_4 2 rfl ?_
    refine gx_aload_n C dX1_meanValue_5 0 rfl ?_
    replace hf := gx_bs hf
    obtain ⟨r1, g25, hf⟩ := hf
    refine gx_gr C g25 gz_20 q892 dX1_meanValue_6 ?_
    replace hf := gx_bs hf
    obtain ⟨a2, rfl, hf⟩ := hf
    replace hf := gx_bs hf
    obtain ⟨r3, g24, hf⟩ := hf
    refine gx_grN C g24 gz_46 q569 dX1_meanValue_9 ?_
    replace hf := gx_bs hf
    obtain ⟨a4, rfl, hf⟩ := hf
    replace hf := gx_bs hf
    obtain ⟨x6, g5, hf⟩ := hf
    refine gx_callF (st := [(.int v2)]) C (w_J2_size hlt g5) (is_J2_size g5) q1481 (gx_cis1 gz_19 ⟨gz_51, q770⟩ gx_cis0) q772 q127 q774 gz_50 (by decide) rfl rfl (gx_catn (Nat.le_of_ble_eq_true rfl)) dX1_meanValue_12 ?_
    replace hf := gx_ite hf
    rcases hf with ⟨c7, hf⟩ | ⟨c7, hf⟩
    · refine gx_icmp_ge_t (tgt := 40) C dX1_meanValue_17 rfl c7 ?_
      refine gx_sub [0, 1] rfl ?_
      exact w_X1_meanValue_b40 hlt C hx hf
    · refine gx_icmp_ge_f (tgt := 40) C dX1_meanValue_17 rfl c7 ?_
      refine gx_iload_n C dX1_meanValue_20 1 rfl ?_
      refine gx_aload_n C dX1_meanValue_21 0 rfl ?_
      replace hf := gx_bs hf
      obtain ⟨r17, g23, hf⟩ := hf
      refine gx_gr C g23 gz_85 q896 dX1_meanValue_22 ?_
      replace hf := gx_bs hf
      obtain ⟨a18, rfl, hf⟩ := hf
      replace hf := gx_bs hf
      obtain ⟨x20, g19, hf⟩ := hf
      refine gx_callV (st := [(.int v1)]) C (w_X4_valuation hlt g19) (is_X4_valuation g19) gz_13 rfl (lw_V q1893 q1894 q1895 q144 q1896) gz_329 (by decide) rfl rfl (gx_catn (Nat.le_of_ble_eq_true rfl)) dX1_meanValue_25 ?_
      refine gx_iload_n C dX1_meanValue_28 2 rfl ?_
      replace hf := gx_bs hf
      obtain ⟨x22, g21, hf⟩ := hf
      refine gx_callS (st := [(.int v1)]) C (w_X1_valueIn hlt g21) (lw_S q1897 q1448 q121 q1449) gz_216 (by decide) rfl rfl (gx_catn (Nat.le_of_ble_eq_true rfl)) dX1_meanValue_29 ?_
      refine gx_iadd C dX1_meanValue_32 ?_
      refine gx_istn C dX1_meanValue_33 1 rfl (by decide) [0, 2]  rfl (gx_okr rfl gx_catv_r (gx_okn rfl rfl gx_ok0)) ?_
      refine gx_inc (v := 1) C dX1_meanValue_34 2 rfl rfl (by decide) [0, 1] rfl (gx_okr rfl gx_catv_i (gx_okn rfl rfl gx_ok0)) ?_
      refine gx_goto (tgt := 4) C dX1_meanValue_37 rfl ?_
      refine gx_sub [2, 1, 0] rfl ?_
      exact wk4 hf
def f_X1_meanValue (D : gx_D) (h : HX) (a0 : Nat) : Option UInt64 :=
  (hx_is h a0 [9]).bind fun _ =>
  f_X1_meanValue_b4 D gx_fuel h a0 ((0 : Int32)) ((0 : Int32))
theorem is_X1_meanValue {D : gx_D} {h : HX} {a0 : Nat} {z} (hf : f_X1_meanValue D h a0 = some z) : gx_isC h a0 [9] := by
  unfold f_X1_meanValue at hf
  obtain ⟨_, g, -⟩ := gx_bs hf
  exact hx_is_of g
theorem w_X1_meanValue_b {l : Launch} (hlt : l.stackTraces = false) {p : Program} {e : Env} {R : Room} {s : State} {m : MethodId} {args : Array Value} {below : List Frame} {meth : Method} {c : Code} {D : gx_D} {h0 : HX} {r : UInt64} (C : gx_Ctx p R s m args meth c "ContractMachine" cX1_meanValue 3 (some .double) 3 65 D h0 h0) (hx : meth.name = "meanValue") {a0 : Nat} (hf : f_X1_meanValue D h0 a0 = some r) : gx_G p l e R s m args below meth c D h0 h0 3 (gx_MQ below args s D h0 h0 (some (.double r))) 0 [(0, (va_rf (some a0)))] [] h0 := by
  unfold f_X1_meanValue at hf
  replace hf := gx_bs hf
  obtain ⟨_, -, hf⟩ := hf
  refine gx_iconst (v := 0) C dX1_meanValue_0 rfl ?_
  refine gx_istn C dX1_meanValue_1 1 rfl (by decide) [0]  rfl (gx_okr rfl gx_catv_r gx_ok0) ?_
  refine gx_iconst (v := 0) C dX1_meanValue_2 rfl ?_
  refine gx_istn C dX1_meanValue_3 2 rfl (by decide) [0, 1]  rfl (gx_okr rfl gx_catv_i (gx_okn rfl rfl gx_ok0)) ?_
  refine gx_sub [2, 1, 0] rfl ?_
  exact w_X1_meanValue_b4 hlt C hx gx_fuel hf
theorem w_X1_meanValue {l : Launch} (hlt : l.stackTraces = false) {D : gx_D} {h : HX} {a0 : Nat} {r : UInt64} (hf : f_X1_meanValue D h a0 = some r) : gx_Met l yX1_meanValue cX1_meanValue 3 (some .double) 3 65 D [(va_rf (some a0))] h (some (.double r)) h :=
  gx_ofG gz_26 (by simp only [gx_lsr, gx_lsi, gx_lsj, gx_ls0]; decide) gx_le.rf (fun p e R s m args below meth c C hx => by
    simp only [gx_lar, gx_lai, gx_laj, gx_la0, Nat.reduceAdd]
    exact w_X1_meanValue_b hlt C hx hf)
def f_X1_reset (D : gx_D) (h : HX) (a0 : Nat) : Option ((Int32) × HX) :=
  (hx_is h a0 [9]).bind fun _ =>
  gx_b2 (f_X1_changed D h a0) fun r2 h3 =>
  gx_b2 (f_X1_restart D h3 a0) fun x5 h6 =>
  some (x5, h6)
theorem is_X1_reset {D : gx_D} {h : HX} {a0 : Nat} {z} (hf : f_X1_reset D h a0 = some z) : gx_isC h a0 [9] := by
  unfold f_X1_reset at hf
  obtain ⟨_, g, -⟩ := gx_bs hf
  exact hx_is_of g
theorem w_X1_reset_b {l : Launch} (hlt : l.stackTraces = false) {p : Program} {e : Env} {R : Room} {s : State} {m : MethodId} {args : Array Value} {below : List Frame} {meth : Method} {c : Code} {D : gx_D} {h0 : HX} {r : Int32} {hz : HX} (C : gx_Ctx p R s m args meth c "ContractMachine" cX1_reset 2 (some .int) 7 149 D h0 hz) (hx : meth.name = "reset") {a0 : Nat} (hf : f_X1_reset D h0 a0 = some (r, hz)) : gx_G p l e R s m args below meth c D h0 hz 2 (gx_MQ below args s D h0 hz (some (.int r))) 0 [(0, (va_rf (some a0)))] [] h0 := by
  unfold f_X1_reset at hf
  replace hf := gx_bs hf
  obtain ⟨_, -, hf⟩ := hf
  refine gx_aload_n C dX1_reset_0 0 rfl ?_
  replace hf := gx_b2s hf
  obtain ⟨r2, h3, g1, hf⟩ := hf
  refine gx_callV (st := []) C (w_X1_changed hlt g1) (is_X1_changed g1) gz_108 rfl (lw_V q1631 q1633 qs29 q121 q1634) gz_342 (by decide) rfl rfl (gx_catn (Nat.le_of_ble_eq_true rfl)) dX1_reset_1 ?_
  refine gx_astn C dX1_reset_4 1 rfl (by decide) [0]  rfl (gx_okr rfl gx_catv_r gx_ok0) ?_
  refine gx_aload_n C dX1_reset_5 1 rfl ?_
  replace hf := gx_b2s hf
  obtain ⟨x5, h6, g4, hf⟩ := hf
  refine gx_callV (st := []) C (w_X1_restart hlt g4) (is_X1_restart g4) gz_108 rfl (lw_V q2156 q1907 qs39 q121 q1908) gz_338 (by decide) rfl rfl (gx_catn (Nat.le_of_ble_eq_true rfl)) dX1_reset_6 ?_
  obtain ⟨rfl, rfl⟩ := Prod.mk.inj (Option.some.inj hf)
  exact gx_iret C dX1_reset_9
theorem le_X1_reset {D : gx_D} {r : Int32} {hz : HX} {h : HX} {a0 : Nat} (hf : f_X1_reset D h a0 = some (r, hz)) : gx_le h hz := by
  unfold f_X1_reset at hf
  replace hf := gx_bs hf
  obtain ⟨_, -, hf⟩ := hf
  replace hf := gx_b2s hf
  obtain ⟨r2, h3, g1, hf⟩ := hf
  refine (le_X1_changed g1).tr ?_
  replace hf := gx_b2s hf
  obtain ⟨x5, h6, g4, hf⟩ := hf
  refine (le_X1_restart g4).tr ?_
  obtain ⟨rfl, rfl⟩ := Prod.mk.inj (Option.some.inj hf)
  exact gx_le.rf
theorem w_X1_reset {l : Launch} (hlt : l.stackTraces = false) {D : gx_D} {h : HX} {a0 : Nat} {r : Int32} {hz : HX} (hf : f_X1_reset D h a0 = some (r, hz)) : gx_Met l yX1_reset cX1_reset 2 (some .int) 7 149 D [(va_rf (some a0))] h (some (.int r)) hz :=
  gx_ofG gz_26 (by simp only [gx_lsr, gx_lsi, gx_lsj, gx_ls0]; decide) (le_X1_reset hf) (fun p e R s m args below meth c C hx => by
    simp only [gx_lar, gx_lai, gx_laj, gx_la0, Nat.reduceAdd]
    exact w_X1_reset_b hlt C hx hf)
def f_X1_clearCoverage (D : gx_D) (h : HX) (a0 : Nat) : Option ((Int32) × HX) :=
  (hx_is h a0 [9]).bind fun _ =>
  gx_b2 (f_X1_changed D h a0) fun r2 h3 =>
  r2.bind fun a4 =>
  (hx_gi h3 a4 [11] 7).bind fun x5 =>
  (f_X4_clear D h3 a4).bind fun h7 =>
  some (x5, h7)
theorem is_X1_clearCoverage {D : gx_D} {h : HX} {a0 : Nat} {z} (hf : f_X1_clearCoverage D h a0 = some z) : gx_isC h a0 [9] := by
  unfold f_X1_clearCoverage at hf
  obtain ⟨_, g, -⟩ := gx_bs hf
  exact hx_is_of g
theorem w_X1_clearCoverage_b {l : Launch} (hlt : l.stackTraces = false) {p : Program} {e : Env} {R : Room} {s : State} {m : MethodId} {args : Array Value} {below : List Frame} {meth : Method} {c : Code} {D : gx_D} {h0 : HX} {r : Int32} {hz : HX} (C : gx_Ctx p R s m args meth c "ContractMachine" cX1_clearCoverage 3 (some .int) 7 149 D h0 hz) (hx : meth.name = "clearCoverage") {a0 : Nat} (hf : f_X1_clearCoverage D h0 a0 = some (r, hz)) : gx_G p l e R s m args below meth c D h0 hz 3 (gx_MQ below args s D h0 hz (some (.int r))) 0 [(0, (va_rf (some a0)))] [] h0 := by
  unfold f_X1_clearCoverage at hf
  replace hf := gx_bs hf
  obtain ⟨_, -, hf⟩ := hf
  refine gx_aload_n C dX1_clearCoverage_0 0 rfl ?_
  replace hf := gx_b2s hf
  obtain ⟨r2, h3, g1, hf⟩ := hf
  refine gx_callV (st := []) C (w_X1_changed hlt g1) (is_X1_changed g1) gz_108 rfl (lw_V q1631 q1633 qs29 q121 q1634) gz_342 (by decide) rfl rfl (gx_catn (Nat.le_of_ble_eq_true rfl)) dX1_clearCoverage_1 ?_
  refine gx_astn C dX1_clearCoverage_4 1 rfl (by decide) []  rfl gx_ok0 ?_
  refine gx_aload_n C dX1_clearCoverage_5 0 rfl ?_
  replace hf := gx_bs hf
  obtain ⟨a4, rfl, hf⟩ := hf
  replace hf := gx_bs hf
  obtain ⟨x5, g8, hf⟩ := hf
  refine gx_giN C g8 gz_66 q618 dX1_clearCoverage_6 ?_
  refine gx_istn C dX1_clearCoverage_9 2 rfl (by decide) [0]  rfl (gx_okr rfl gx_catv_r gx_ok0) ?_
  refine gx_aload_n C dX1_clearCoverage_10 1 rfl ?_
  replace hf := gx_bs hf
  obtain ⟨h7, g6, hf⟩ := hf
  refine gx_callV (st := []) C (w_X4_clear hlt g6) (is_X4_clear g6) gz_13 rfl (lw_V q873 q874 q875 q144 q876) gz_104 (by decide) rfl rfl (gx_catn (Nat.le_of_ble_eq_true rfl)) dX1_clearCoverage_11 ?_
  refine gx_iload_n C dX1_clearCoverage_14 0 rfl ?_
  obtain ⟨rfl, rfl⟩ := Prod.mk.inj (Option.some.inj hf)
  exact gx_iret C dX1_clearCoverage_15
theorem le_X1_clearCoverage {D : gx_D} {r : Int32} {hz : HX} {h : HX} {a0 : Nat} (hf : f_X1_clearCoverage D h a0 = some (r, hz)) : gx_le h hz := by
  unfold f_X1_clearCoverage at hf
  replace hf := gx_bs hf
  obtain ⟨_, -, hf⟩ := hf
  replace hf := gx_b2s hf
  obtain ⟨r2, h3, g1, hf⟩ := hf
  refine (le_X1_changed g1).tr ?_
  replace hf := gx_bs hf
  obtain ⟨a4, rfl, hf⟩ := hf
  replace hf := gx_bs hf
  obtain ⟨x5, g8, hf⟩ := hf
  replace hf := gx_bs hf
  obtain ⟨h7, g6, hf⟩ := hf
  refine (le_X4_clear g6).tr ?_
  obtain ⟨rfl, rfl⟩ := Prod.mk.inj (Option.some.inj hf)
  exact gx_le.rf
theorem w_X1_clearCoverage {l : Launch} (hlt : l.stackTraces = false) {D : gx_D} {h : HX} {a0 : Nat} {r : Int32} {hz : HX} (hf : f_X1_clearCoverage D h a0 = some (r, hz)) : gx_Met l yX1_clearCoverage cX1_clearCoverage 3 (some .int) 7 149 D [(va_rf (some a0))] h (some (.int r)) hz :=
  gx_ofG gz_26 (by simp only [gx_lsr, gx_lsi, gx_lsj, gx_ls0]; decide) (le_X1_clearCoverage hf) (fun p e R s m args below meth c C hx => by
    simp only [gx_lar, gx_lai, gx_laj, gx_la0, Nat.reduceAdd]
    exact w_X1_clearCoverage_b hlt C hx hf)
def f_X1_writeConfiguration_b110 (D : gx_D) (h : HX) (v0 : Nat) : Option ((Int32) × HX) :=
  (hx_gr h v0 [9] 14).bind fun r28 =>
  r28.bind fun a29 =>
  (f_J8_length D h a29).bind fun x31 =>
  some (x31, h)
theorem w_X1_writeConfiguration_b110 {l : Launch} (hlt : l.stackTraces = false) {p : Program} {e : Env} {R : Room} {s : State} {m : MethodId} {args : Array Value} {below : List Frame} {meth : Method} {c : Code} {D : gx_D} {h0 : HX} {r : Int32} {hz : HX} (C : gx_Ctx p R s m args meth c "ContractMachine" cX1_writeConfiguration 2 (some .int) 7 159 D h0 hz) (hx : meth.name = "writeConfiguration")  {h : HX} {v0 : Nat} (hf : f_X1_writeConfiguration_b110 D h v0 = some (r, hz)) : gx_G p l e R s m args below meth c D h0 hz 2 (gx_MQ below args s D h0 hz (some (.int r))) 110 [(0, (va_rf (some v0)))] [] h := by
  unfold f_X1_writeConfiguration_b110 at hf
  refine gx_aload_n C dX1_writeConfiguration_110 0 rfl ?_
  replace hf := gx_bs hf
  obtain ⟨r28, g32, hf⟩ := hf
  refine gx_gr C g32 gz_94 q909 dX1_writeConfiguration_111 ?_
  replace hf := gx_bs hf
  obtain ⟨a29, rfl, hf⟩ := hf
  replace hf := gx_bs hf
  obtain ⟨x31, g30, hf⟩ := hf
  refine gx_callV (st := []) C (w_J8_length hlt g30) (is_J8_length g30) gz_113 rfl (lw_V q2236 q470 q3278 q133 q471) gz_451 (by decide) rfl rfl (gx_catn (Nat.le_of_ble_eq_true rfl)) dX1_writeConfiguration_114 ?_
  obtain ⟨rfl, rfl⟩ := Prod.mk.inj (Option.some.inj hf)
  exact gx_iret C dX1_writeConfiguration_117
theorem le_X1_writeConfiguration_b110 {D : gx_D} {r : Int32} {hz : HX} {h : HX} {v0 : Nat} (hf : f_X1_writeConfiguration_b110 D h v0 = some (r, hz)) : gx_le h hz := by
  unfold f_X1_writeConfiguration_b110 at hf
  replace hf := gx_bs hf
  obtain ⟨r28, g32, hf⟩ := hf
  replace hf := gx_bs hf
  obtain ⟨a29, rfl, hf⟩ := hf
  replace hf := gx_bs hf
  obtain ⟨x31, g30, hf⟩ := hf
  obtain ⟨rfl, rfl⟩ := Prod.mk.inj (Option.some.inj hf)
  exact gx_le.rf
def f_X1_writeConfiguration_b40 (D : gx_D) : Nat → HX → Nat → Int32 → Option ((Int32) × HX)
  | 0, _, _, _ => none
  | n + 1, h, v0, v1 =>
  (hx_gr h v0 [9] 5).bind fun r21 =>
  r21.bind fun a22 =>
  (hx_gr h a22 [10] 2).bind fun r23 =>
  r23.bind fun a24 =>
  (f_J2_size D h a24).bind fun x26 =>
  if x26 ≤ v1 then
  f_X1_writeConfiguration_b110 D h v0
  else
  (hx_gr h v0 [9] 14).bind fun r33 =>
  r33.bind fun a34 =>
  gx_b2 (f_J8_append_3 D h a34 (32 : Int32)) fun r36 h37 =>
  (hx_gr h37 v0 [9] 5).bind fun r38 =>
  r38.bind fun a39 =>
  (hx_gr h37 a39 [10] 2).bind fun r40 =>
  r40.bind fun a41 =>
  (f_J2_get D h37 a41 v1).bind fun r43 =>
  (hx_cast h37 r43 [2]).bind fun u44 =>
  r36.bind fun a45 =>
  gx_b2 (f_J8_append D h37 a45 r43) fun r47 h48 =>
  r47.bind fun a49 =>
  gx_b2 (f_J8_append_3 D h48 a49 (61 : Int32)) fun r51 h52 =>
  (hx_gr h52 v0 [9] 6).bind fun r53 =>
  r53.bind fun a54 =>
  (f_X4_valuation D h52 a54).bind fun x56 =>
  (f_X1_valueIn D h52 x56 v1).bind fun x58 =>
  r51.bind fun a59 =>
  gx_b2 (f_J8_append_2 D h52 a59 x58) fun r61 h62 =>
  (f_X1_writeConfiguration_b40 D n) h62 v0 ((v1 + (1 : Int32)))
theorem w_X1_writeConfiguration_b40 {l : Launch} (hlt : l.stackTraces = false) {p : Program} {e : Env} {R : Room} {s : State} {m : MethodId} {args : Array Value} {below : List Frame} {meth : Method} {c : Code} {D : gx_D} {h0 : HX} {r : Int32} {hz : HX} (C : gx_Ctx p R s m args meth c "ContractMachine" cX1_writeConfiguration 2 (some .int) 7 159 D h0 hz) (hx : meth.name = "writeConfiguration")  : ∀ (n : Nat) ⦃h : HX⦄ ⦃v0 : Nat⦄ ⦃v1 : Int32⦄, f_X1_writeConfiguration_b40 D n h v0 v1 = some (r, hz) → gx_G p l e R s m args below meth c D h0 hz 2 (gx_MQ below args s D h0 hz (some (.int r))) 40 [(0, (va_rf (some v0))), (1, (.int v1))] [] h := by
  intro n
  induction n with
  | zero => intro h v0 v1 hf; unfold f_X1_writeConfiguration_b40 at hf; cases hf
  | succ n wk40 =>
    intro h v0 v1 hf
    unfold f_X1_writeConfiguration_b40 at hf
    refine gx_iload_n C dX1_writeConfiguration_40 1 rfl ?_
    refine gx_aload_n C dX1_writeConfiguration_41 0 rfl ?_
    replace hf := gx_bs hf
    obtain ⟨r21, g69, hf⟩ := hf
    refine gx_gr C g69 gz_20 q892 dX1_writeConfiguration_42 ?_
    replace hf := gx_bs hf
    obtain ⟨a22, rfl, hf⟩ := hf
    replace hf := gx_bs hf
    obtain ⟨r23, g68, hf⟩ := hf
    refine gx_grN C g68 gz_46 q569 dX1_writeConfiguration_45 ?_
    replace hf := gx_bs hf
    obtain ⟨a24, rfl, hf⟩ := hf
    replace hf := gx_bs hf
    obtain ⟨x26, g25, hf⟩ := hf
    refine gx_callF (st := [(.int v1)]) C (w_J2_size hlt g25) (is_J2_size g25) q1481 (gx_cis1 gz_19 ⟨gz_51, q770⟩ gx_cis0) q772 q127 q774 gz_50 (by decide) rfl rfl (gx_catn (Nat.le_of_ble_eq_true rfl)) dX1_writeConfiguration_48 ?_
    replace hf := gx_ite hf
    rcases hf with ⟨c27, hf⟩ | ⟨c27, hf⟩
    · refine gx_icmp_ge_t (tgt := 110) C dX1_writeConfiguration_53 rfl c27 ?_
      refine gx_sub [0] rfl ?_
      exact w_X1_writeConfiguration_b110 hlt C hx hf
    · refine gx_icmp_ge_f (tgt := 110) C dX1_writeConfiguration_53 rfl c27 ?_
      refine gx_aload_n C dX1_writeConfiguration_56 0 rfl ?_
      replace hf := gx_bs hf
      obtain ⟨r33, g67, hf⟩ := hf
      refine gx_gr C g67 gz_94 q909 dX1_writeConfiguration_57 ?_
      refine gx_bipush (v := 32) C dX1_writeConfiguration_60 rfl ?_
      replace hf := gx_bs hf
      obtain ⟨a34, rfl, hf⟩ := hf
      replace hf := gx_b2s hf
      obtain ⟨r36, h37, g35, hf⟩ := hf
      refine gx_callV (st := []) C (w_J8_append_3 hlt g35) (is_J8_append_3 g35) gz_113 rfl (lw_V q2234 q1006 q1007 q133 q1008) gz_158 (by decide) rfl rfl (gx_catn (Nat.le_of_ble_eq_true rfl)) dX1_writeConfiguration_62 ?_
      refine gx_aload_n C dX1_writeConfiguration_65 0 rfl ?_
      replace hf := gx_bs hf
      obtain ⟨r38, g66, hf⟩ := hf
      refine gx_gr C g66 gz_20 q892 dX1_writeConfiguration_66 ?_
      replace hf := gx_bs hf
      obtain ⟨a39, rfl, hf⟩ := hf
      replace hf := gx_bs hf
      obtain ⟨r40, g65, hf⟩ := hf
      refine gx_grN C g65 gz_46 q569 dX1_writeConfiguration_69 ?_
      refine gx_iload_n C dX1_writeConfiguration_72 1 rfl ?_
      replace hf := gx_bs hf
      obtain ⟨a41, rfl, hf⟩ := hf
      replace hf := gx_bs hf
      obtain ⟨r43, g42, hf⟩ := hf
      refine gx_callF (st := [(va_rf r36)]) C (w_J2_get hlt g42) (is_J2_get g42) q1804 (gx_cis1 gz_19 ⟨gz_222, q1307⟩ gx_cis0) q1309 q127 q1311 gz_221 (by decide) rfl rfl (gx_catn (Nat.le_of_ble_eq_true rfl)) dX1_writeConfiguration_73 ?_
      replace hf := gx_bs hf
      obtain ⟨u44, g64, hf⟩ := hf
      refine gx_cast C g64 gz_96 q660 dX1_writeConfiguration_78 ?_
      replace hf := gx_bs hf
      obtain ⟨a45, rfl, hf⟩ := hf
      replace hf := gx_b2s hf
      obtain ⟨r47, h48, g46, hf⟩ := hf
      refine gx_callV (st := []) C (w_J8_append hlt g46) (is_J8_append g46) gz_113 rfl (lw_V q2233 q306 q307 q133 q308) gz_450 (by decide) rfl rfl (gx_catn (Nat.le_of_ble_eq_true rfl)) dX1_writeConfiguration_81 ?_
      refine gx_bipush (v := 61) C dX1_writeConfiguration_84 rfl ?_
      replace hf := gx_bs hf
      obtain ⟨a49, rfl, hf⟩ := hf
      replace hf := gx_b2s hf
      obtain ⟨r51, h52, g50, hf⟩ := hf
      refine gx_callV (st := []) C (w_J8_append_3 hlt g50) (is_J8_append_3 g50) gz_113 rfl (lw_V q2234 q1006 q1007 q133 q1008) gz_158 (by decide) rfl rfl (gx_catn (Nat.le_of_ble_eq_true rfl)) dX1_writeConfiguration_86 ?_
      refine gx_aload_n C dX1_writeConfiguration_89 0 rfl ?_
      replace hf := gx_bs hf
      obtain ⟨r53, g63, hf⟩ := hf
      refine gx_gr C g63 gz_85 q896 dX1_writeConfiguration_90 ?_
      replace hf := gx_bs hf
      obtain ⟨a54, rfl, hf⟩ := hf
      replace hf := gx_bs hf
      obtain ⟨x56, g55, hf⟩ := hf
      refine gx_callV (st := [(va_rf r51)]) C (w_X4_valuation hlt g55) (is_X4_valuation g55) gz_13 rfl (lw_V q1893 q1894 q1895 q144 q1896) gz_329 (by decide) rfl rfl (gx_catn (Nat.le_of_ble_eq_true rfl)) dX1_writeConfiguration_93 ?_
      refine gx_iload_n C dX1_writeConfiguration_96 1 rfl ?_
      replace hf := gx_bs hf
      obtain ⟨x58, g57, hf⟩ := hf
      refine gx_callS (st := [(va_rf r51)]) C (w_X1_valueIn hlt g57) (lw_S q1897 q1448 q121 q1449) gz_216 (by decide) rfl rfl (gx_catn (Nat.le_of_ble_eq_true rfl)) dX1_writeConfiguration_97 ?_
      replace hf := gx_bs hf
      obtain ⟨a59, rfl, hf⟩ := hf
      replace hf := gx_b2s hf
      obtain ⟨r61, h62, g60, hf⟩ := hf
      refine gx_callV (st := []) C (w_J8_append_2 hlt g60) (is_J8_append_2 g60) gz_113 rfl (lw_V q2235 q424 q425 q133 q426) gz_452 (by decide) rfl rfl (gx_catn (Nat.le_of_ble_eq_true rfl)) dX1_writeConfiguration_100 ?_
      refine gx_pop C dX1_writeConfiguration_103 (gx_rfcat _) ?_
      refine gx_inc (v := 1) C dX1_writeConfiguration_104 1 rfl rfl (by decide) [0] rfl (gx_okr rfl gx_catv_r gx_ok0) ?_
      refine gx_goto (tgt := 40) C dX1_writeConfiguration_107 rfl ?_
      refine gx_sub [1, 0] rfl ?_
      exact wk40 hf
theorem le_X1_writeConfiguration_b40 {D : gx_D} {r : Int32} {hz : HX} : ∀ (n : Nat) ⦃h : HX⦄ ⦃v0 : Nat⦄ ⦃v1 : Int32⦄, f_X1_writeConfiguration_b40 D n h v0 v1 = some (r, hz) → gx_le h hz := by
  intro n
  induction n with
  | zero => intro h v0 v1 hf; unfold f_X1_writeConfiguration_b40 at hf; cases hf
  | succ n lek40 =>
    intro h v0 v1 hf
    unfold f_X1_writeConfiguration_b40 at hf
    replace hf := gx_bs hf
    obtain ⟨r21, g69, hf⟩ := hf
    replace hf := gx_bs hf
    obtain ⟨a22, rfl, hf⟩ := hf
    replace hf := gx_bs hf
    obtain ⟨r23, g68, hf⟩ := hf
    replace hf := gx_bs hf
    obtain ⟨a24, rfl, hf⟩ := hf
    replace hf := gx_bs hf
    obtain ⟨x26, g25, hf⟩ := hf
    replace hf := gx_ite hf
    rcases hf with ⟨c27, hf⟩ | ⟨c27, hf⟩
    · exact le_X1_writeConfiguration_b110 hf
    · replace hf := gx_bs hf
      obtain ⟨r33, g67, hf⟩ := hf
      replace hf := gx_bs hf
      obtain ⟨a34, rfl, hf⟩ := hf
      replace hf := gx_b2s hf
      obtain ⟨r36, h37, g35, hf⟩ := hf
      refine (le_J8_append_3 g35).tr ?_
      replace hf := gx_bs hf
      obtain ⟨r38, g66, hf⟩ := hf
      replace hf := gx_bs hf
      obtain ⟨a39, rfl, hf⟩ := hf
      replace hf := gx_bs hf
      obtain ⟨r40, g65, hf⟩ := hf
      replace hf := gx_bs hf
      obtain ⟨a41, rfl, hf⟩ := hf
      replace hf := gx_bs hf
      obtain ⟨r43, g42, hf⟩ := hf
      replace hf := gx_bs hf
      obtain ⟨u44, g64, hf⟩ := hf
      replace hf := gx_bs hf
      obtain ⟨a45, rfl, hf⟩ := hf
      replace hf := gx_b2s hf
      obtain ⟨r47, h48, g46, hf⟩ := hf
      refine (le_J8_append g46).tr ?_
      replace hf := gx_bs hf
      obtain ⟨a49, rfl, hf⟩ := hf
      replace hf := gx_b2s hf
      obtain ⟨r51, h52, g50, hf⟩ := hf
      refine (le_J8_append_3 g50).tr ?_
      replace hf := gx_bs hf
      obtain ⟨r53, g63, hf⟩ := hf
      replace hf := gx_bs hf
      obtain ⟨a54, rfl, hf⟩ := hf
      replace hf := gx_bs hf
      obtain ⟨x56, g55, hf⟩ := hf
      replace hf := gx_bs hf
      obtain ⟨x58, g57, hf⟩ := hf
      replace hf := gx_bs hf
      obtain ⟨a59, rfl, hf⟩ := hf
      replace hf := gx_b2s hf
      obtain ⟨r61, h62, g60, hf⟩ := hf
      refine (le_J8_append_2 g60).tr ?_
      exact lek40 hf
def f_X1_writeConfiguration (D : gx_D) (h : HX) (a0 : Nat) : Option ((Int32) × HX) :=
  (hx_is h a0 [9]).bind fun _ =>
  (hx_gr h a0 [9] 14).bind fun r1 =>
  r1.bind fun a2 =>
  (f_J8_setLength D h a2 (0 : Int32)).bind fun h4 =>
  (hx_gr h4 a0 [9] 14).bind fun r5 =>
  (hx_gr h4 a0 [9] 5).bind fun r6 =>
  r6.bind fun a7 =>
  (hx_gr h4 a7 [10] 0).bind fun r8 =>
  (hx_gr h4 a0 [9] 6).bind fun r9 =>
  r9.bind fun a10 =>
  (f_X4_state D h4 a10).bind fun x12 =>
  r8.bind fun a13 =>
  (f_J2_get D h4 a13 x12).bind fun r15 =>
  (hx_cast h4 r15 [2]).bind fun u16 =>
  r5.bind fun a17 =>
  gx_b2 (f_J8_append D h4 a17 r15) fun r19 h20 =>
  f_X1_writeConfiguration_b40 D gx_fuel h20 a0 ((0 : Int32))
theorem is_X1_writeConfiguration {D : gx_D} {h : HX} {a0 : Nat} {z} (hf : f_X1_writeConfiguration D h a0 = some z) : gx_isC h a0 [9] := by
  unfold f_X1_writeConfiguration at hf
  obtain ⟨_, g, -⟩ := gx_bs hf
  exact hx_is_of g
theorem w_X1_writeConfiguration_b {l : Launch} (hlt : l.stackTraces = false) {p : Program} {e : Env} {R : Room} {s : State} {m : MethodId} {args : Array Value} {below : List Frame} {meth : Method} {c : Code} {D : gx_D} {h0 : HX} {r : Int32} {hz : HX} (C : gx_Ctx p R s m args meth c "ContractMachine" cX1_writeConfiguration 2 (some .int) 7 159 D h0 hz) (hx : meth.name = "writeConfiguration") {a0 : Nat} (hf : f_X1_writeConfiguration D h0 a0 = some (r, hz)) : gx_G p l e R s m args below meth c D h0 hz 2 (gx_MQ below args s D h0 hz (some (.int r))) 0 [(0, (va_rf (some a0)))] [] h0 := by
  unfold f_X1_writeConfiguration at hf
  replace hf := gx_bs hf
  obtain ⟨_, -, hf⟩ := hf
  refine gx_aload_n C dX1_writeConfiguration_0 0 rfl ?_
  replace hf := gx_bs hf
  obtain ⟨r1, g75, hf⟩ := hf
  refine gx_gr C g75 gz_94 q909 dX1_writeConfiguration_1 ?_
  refine gx_iconst (v := 0) C dX1_writeConfiguration_4 rfl ?_
  replace hf := gx_bs hf
  obtain ⟨a2, rfl, hf⟩ := hf
  replace hf := gx_bs hf
  obtain ⟨h4, g3, hf⟩ := hf
  refine gx_callV (st := []) C (w_J8_setLength hlt g3) (is_J8_setLength g3) gz_113 rfl (lw_V q2165 q2166 q2167 q133 q2168) gz_449 (by decide) rfl rfl (gx_catn (Nat.le_of_ble_eq_true rfl)) dX1_writeConfiguration_5 ?_
  refine gx_aload_n C dX1_writeConfiguration_8 0 rfl ?_
  replace hf := gx_bs hf
  obtain ⟨r5, g74, hf⟩ := hf
  refine gx_gr C g74 gz_94 q909 dX1_writeConfiguration_9 ?_
  refine gx_aload_n C dX1_writeConfiguration_12 0 rfl ?_
  replace hf := gx_bs hf
  obtain ⟨r6, g73, hf⟩ := hf
  refine gx_gr C g73 gz_20 q892 dX1_writeConfiguration_13 ?_
  replace hf := gx_bs hf
  obtain ⟨a7, rfl, hf⟩ := hf
  replace hf := gx_bs hf
  obtain ⟨r8, g72, hf⟩ := hf
  refine gx_grN C g72 gz_28 q560 dX1_writeConfiguration_16 ?_
  refine gx_aload_n C dX1_writeConfiguration_19 0 rfl ?_
  replace hf := gx_bs hf
  obtain ⟨r9, g71, hf⟩ := hf
  refine gx_gr C g71 gz_85 q896 dX1_writeConfiguration_20 ?_
  replace hf := gx_bs hf
  obtain ⟨a10, rfl, hf⟩ := hf
  replace hf := gx_bs hf
  obtain ⟨x12, g11, hf⟩ := hf
  refine gx_callV (st := [(va_rf r8), (va_rf r5)]) C (w_X4_state hlt g11) (is_X4_state g11) gz_13 rfl (lw_V q1909 q878 q879 q144 q880) gz_68 (by decide) rfl rfl (gx_catn (Nat.le_of_ble_eq_true rfl)) dX1_writeConfiguration_23 ?_
  replace hf := gx_bs hf
  obtain ⟨a13, rfl, hf⟩ := hf
  replace hf := gx_bs hf
  obtain ⟨r15, g14, hf⟩ := hf
  refine gx_callF (st := [(va_rf r5)]) C (w_J2_get hlt g14) (is_J2_get g14) q1804 (gx_cis1 gz_19 ⟨gz_222, q1307⟩ gx_cis0) q1309 q127 q1311 gz_221 (by decide) rfl rfl (gx_catn (Nat.le_of_ble_eq_true rfl)) dX1_writeConfiguration_26 ?_
  replace hf := gx_bs hf
  obtain ⟨u16, g70, hf⟩ := hf
  refine gx_cast C g70 gz_96 q660 dX1_writeConfiguration_31 ?_
  replace hf := gx_bs hf
  obtain ⟨a17, rfl, hf⟩ := hf
  replace hf := gx_b2s hf
  obtain ⟨r19, h20, g18, hf⟩ := hf
  refine gx_callV (st := []) C (w_J8_append hlt g18) (is_J8_append g18) gz_113 rfl (lw_V q2233 q306 q307 q133 q308) gz_450 (by decide) rfl rfl (gx_catn (Nat.le_of_ble_eq_true rfl)) dX1_writeConfiguration_34 ?_
  refine gx_pop C dX1_writeConfiguration_37 (gx_rfcat _) ?_
  refine gx_iconst (v := 0) C dX1_writeConfiguration_38 rfl ?_
  refine gx_istn C dX1_writeConfiguration_39 1 rfl (by decide) [0]  rfl (gx_okr rfl gx_catv_r gx_ok0) ?_
  refine gx_sub [1, 0] rfl ?_
  exact w_X1_writeConfiguration_b40 hlt C hx gx_fuel hf
theorem le_X1_writeConfiguration {D : gx_D} {r : Int32} {hz : HX} {h : HX} {a0 : Nat} (hf : f_X1_writeConfiguration D h a0 = some (r, hz)) : gx_le h hz := by
  unfold f_X1_writeConfiguration at hf
  replace hf := gx_bs hf
  obtain ⟨_, -, hf⟩ := hf
  replace hf := gx_bs hf
  obtain ⟨r1, g75, hf⟩ := hf
  replace hf := gx_bs hf
  obtain ⟨a2, rfl, hf⟩ := hf
  replace hf := gx_bs hf
  obtain ⟨h4, g3, hf⟩ := hf
  refine (le_J8_setLength g3).tr ?_
  replace hf := gx_bs hf
  obtain ⟨r5, g74, hf⟩ := hf
  replace hf := gx_bs hf
  obtain ⟨r6, g73, hf⟩ := hf
  replace hf := gx_bs hf
  obtain ⟨a7, rfl, hf⟩ := hf
  replace hf := gx_bs hf
  obtain ⟨r8, g72, hf⟩ := hf
  replace hf := gx_bs hf
  obtain ⟨r9, g71, hf⟩ := hf
  replace hf := gx_bs hf
  obtain ⟨a10, rfl, hf⟩ := hf
  replace hf := gx_bs hf
  obtain ⟨x12, g11, hf⟩ := hf
  replace hf := gx_bs hf
  obtain ⟨a13, rfl, hf⟩ := hf
  replace hf := gx_bs hf
  obtain ⟨r15, g14, hf⟩ := hf
  replace hf := gx_bs hf
  obtain ⟨u16, g70, hf⟩ := hf
  replace hf := gx_bs hf
  obtain ⟨a17, rfl, hf⟩ := hf
  replace hf := gx_b2s hf
  obtain ⟨r19, h20, g18, hf⟩ := hf
  refine (le_J8_append g18).tr ?_
  exact le_X1_writeConfiguration_b40 gx_fuel hf
theorem w_X1_writeConfiguration {l : Launch} (hlt : l.stackTraces = false) {D : gx_D} {h : HX} {a0 : Nat} {r : Int32} {hz : HX} (hf : f_X1_writeConfiguration D h a0 = some (r, hz)) : gx_Met l yX1_writeConfiguration cX1_writeConfiguration 2 (some .int) 7 159 D [(va_rf (some a0))] h (some (.int r)) hz :=
  gx_ofG gz_26 (by simp only [gx_lsr, gx_lsi, gx_lsj, gx_ls0]; decide) (le_X1_writeConfiguration hf) (fun p e R s m args below meth c C hx => by
    simp only [gx_lar, gx_lai, gx_laj, gx_la0, Nat.reduceAdd]
    exact w_X1_writeConfiguration_b hlt C hx hf)
def f_X1_outputByte (D : gx_D) (h : HX) (a0 : Nat) (p1 : Int32) : Option Int32 :=
  (hx_is h a0 [9]).bind fun _ =>
  (hx_gr h a0 [9] 14).bind fun r1 =>
  r1.bind fun a2 =>
  (f_J8_length D h a2).bind fun x4 =>
  (f_X1_isWithin D h (Int32.toInt64 p1) (0 : Int64) (Int32.toInt64 (x4 - (1 : Int32)))).bind fun b6 =>
  if b6 = true then
  (hx_gr h a0 [9] 14).bind fun r8 =>
  r8.bind fun a9 =>
  (f_J8_charAt D h a9 p1).bind fun x11 =>
  some x11
  else
  some ((-1 : Int32))
theorem is_X1_outputByte {D : gx_D} {h : HX} {a0 : Nat} {p1 : Int32} {z} (hf : f_X1_outputByte D h a0 p1 = some z) : gx_isC h a0 [9] := by
  unfold f_X1_outputByte at hf
  obtain ⟨_, g, -⟩ := gx_bs hf
  exact hx_is_of g
theorem w_X1_outputByte_b {l : Launch} (hlt : l.stackTraces = false) {p : Program} {e : Env} {R : Room} {s : State} {m : MethodId} {args : Array Value} {below : List Frame} {meth : Method} {c : Code} {D : gx_D} {h0 : HX} {r : Int32} (C : gx_Ctx p R s m args meth c "ContractMachine" cX1_outputByte 2 (some .int) 5 112 D h0 h0) (hx : meth.name = "outputByte") {a0 : Nat} {p1 : Int32} (hf : f_X1_outputByte D h0 a0 p1 = some r) : gx_G p l e R s m args below meth c D h0 h0 2 (gx_MQ below args s D h0 h0 (some (.int r))) 0 [(0, (va_rf (some a0))), (1, (.int p1))] [] h0 := by
  unfold f_X1_outputByte at hf
  replace hf := gx_bs hf
  obtain ⟨_, -, hf⟩ := hf
  refine gx_iload_n C dX1_outputByte_0 1 rfl ?_
  refine gx_i2l C dX1_outputByte_1 ?_
  refine gx_lconst (v := 0) C dX1_outputByte_2 rfl ?_
  refine gx_aload_n C dX1_outputByte_3 0 rfl ?_
  replace hf := gx_bs hf
  obtain ⟨r1, g13, hf⟩ := hf
  refine gx_gr C g13 gz_94 q909 dX1_outputByte_4 ?_
  replace hf := gx_bs hf
  obtain ⟨a2, rfl, hf⟩ := hf
  replace hf := gx_bs hf
  obtain ⟨x4, g3, hf⟩ := hf
  refine gx_callV (st := [(.long (0 : Int64)), (.long (Int32.toInt64 p1))]) C (w_J8_length hlt g3) (is_J8_length g3) gz_113 rfl (lw_V q2236 q470 q3278 q133 q471) gz_451 (by decide) rfl rfl (gx_catn (Nat.le_of_ble_eq_true rfl)) dX1_outputByte_7 ?_
  refine gx_iconst (v := 1) C dX1_outputByte_10 rfl ?_
  refine gx_isub C dX1_outputByte_11 ?_
  refine gx_i2l C dX1_outputByte_12 ?_
  replace hf := gx_bs hf
  obtain ⟨b6, g5, hf⟩ := hf
  refine gx_callS (st := []) C (w_X1_isWithin hlt g5) (lw_S q953 q954 q121 q955) gz_121 (by decide) rfl rfl (gx_catn (Nat.le_of_ble_eq_true rfl)) dX1_outputByte_13 ?_
  replace hf := gx_ite hf
  rcases hf with ⟨c7, hf⟩ | ⟨c7, hf⟩
  · refine gx_ifz_eq_f (tgt := 30) C dX1_outputByte_16 rfl c7 ?_
    refine gx_aload_n C dX1_outputByte_19 0 rfl ?_
    replace hf := gx_bs hf
    obtain ⟨r8, g12, hf⟩ := hf
    refine gx_gr C g12 gz_94 q909 dX1_outputByte_20 ?_
    refine gx_iload_n C dX1_outputByte_23 1 rfl ?_
    replace hf := gx_bs hf
    obtain ⟨a9, rfl, hf⟩ := hf
    replace hf := gx_bs hf
    obtain ⟨x11, g10, hf⟩ := hf
    refine gx_callV (st := []) C (w_J8_charAt hlt g10) (is_J8_charAt g10) gz_113 rfl (lw_V q2241 q2242 q2243 q133 q2244) gz_454 (by decide) rfl rfl (gx_catn (Nat.le_of_ble_eq_true rfl)) dX1_outputByte_24 ?_
    refine gx_goto (tgt := 31) C dX1_outputByte_27 rfl ?_
    obtain rfl := Option.some.inj hf
    exact gx_iret C dX1_outputByte_31
  · refine gx_ifz_eq_t (tgt := 30) C dX1_outputByte_16 rfl c7 ?_
    refine gx_iconst (v := -1) C dX1_outputByte_30 rfl ?_
    obtain rfl := Option.some.inj hf
    exact gx_iret C dX1_outputByte_31
theorem w_X1_outputByte {l : Launch} (hlt : l.stackTraces = false) {D : gx_D} {h : HX} {a0 : Nat} {p1 : Int32} {r : Int32} (hf : f_X1_outputByte D h a0 p1 = some r) : gx_Met l yX1_outputByte cX1_outputByte 2 (some .int) 5 112 D [(va_rf (some a0)), (.int p1)] h (some (.int r)) h :=
  gx_ofG gz_26 (by simp only [gx_lsr, gx_lsi, gx_lsj, gx_ls0]; decide) gx_le.rf (fun p e R s m args below meth c C hx => by
    simp only [gx_lar, gx_lai, gx_laj, gx_la0, Nat.reduceAdd]
    exact w_X1_outputByte_b hlt C hx hf)
def f_X1_saveState (D : gx_D) (h : HX) (a0 : Nat) : Option ((Int32) × HX) :=
  (hx_is h a0 [9]).bind fun _ =>
  (hx_gr h a0 [9] 6).bind fun r1 =>
  r1.bind fun a2 =>
  gx_b2 (f_X4_twin D h a2) fun r4 h5 =>
  (hx_pr h5 a0 [9] 7 r4).bind fun h6 =>
  (hx_gr h6 a0 [9] 7).bind fun r7 =>
  r7.bind fun a8 =>
  (f_X4_state D h6 a8).bind fun x10 =>
  some (x10, h6)
theorem is_X1_saveState {D : gx_D} {h : HX} {a0 : Nat} {z} (hf : f_X1_saveState D h a0 = some z) : gx_isC h a0 [9] := by
  unfold f_X1_saveState at hf
  obtain ⟨_, g, -⟩ := gx_bs hf
  exact hx_is_of g
theorem w_X1_saveState_b {l : Launch} (hlt : l.stackTraces = false) {p : Program} {e : Env} {R : Room} {s : State} {m : MethodId} {args : Array Value} {below : List Frame} {meth : Method} {c : Code} {D : gx_D} {h0 : HX} {r : Int32} {hz : HX} (C : gx_Ctx p R s m args meth c "ContractMachine" cX1_saveState 1 (some .int) 6 129 D h0 hz) (hx : meth.name = "saveState") {a0 : Nat} (hf : f_X1_saveState D h0 a0 = some (r, hz)) : gx_G p l e R s m args below meth c D h0 hz 1 (gx_MQ below args s D h0 hz (some (.int r))) 0 [(0, (va_rf (some a0)))] [] h0 := by
  unfold f_X1_saveState at hf
  replace hf := gx_bs hf
  obtain ⟨_, -, hf⟩ := hf
  refine gx_aload_n C dX1_saveState_0 0 rfl ?_
  refine gx_aload_n C dX1_saveState_1 0 rfl ?_
  replace hf := gx_bs hf
  obtain ⟨r1, g13, hf⟩ := hf
  refine gx_gr C g13 gz_85 q896 dX1_saveState_2 ?_
  replace hf := gx_bs hf
  obtain ⟨a2, rfl, hf⟩ := hf
  replace hf := gx_b2s hf
  obtain ⟨r4, h5, g3, hf⟩ := hf
  refine gx_callV (st := [(va_rf (some a0))]) C (w_X4_twin hlt g3) (is_X4_twin g3) gz_13 rfl (lw_V q1709 q1710 q1711 q144 q1712) gz_294 (by decide) rfl rfl (gx_catn (Nat.le_of_ble_eq_true rfl)) dX1_saveState_5 ?_
  replace hf := gx_bs hf
  obtain ⟨h6, g12, hf⟩ := hf
  refine gx_putv C g12 gz_268 gz_86 (gx_narrow_r rfl _).1 (gx_narrow_r rfl _).2 q897 dX1_saveState_8 ?_
  refine gx_aload_n C dX1_saveState_11 0 rfl ?_
  replace hf := gx_bs hf
  obtain ⟨r7, g11, hf⟩ := hf
  refine gx_gr C g11 gz_268 q897 dX1_saveState_12 ?_
  replace hf := gx_bs hf
  obtain ⟨a8, rfl, hf⟩ := hf
  replace hf := gx_bs hf
  obtain ⟨x10, g9, hf⟩ := hf
  refine gx_callV (st := []) C (w_X4_state hlt g9) (is_X4_state g9) gz_13 rfl (lw_V q1909 q878 q879 q144 q880) gz_68 (by decide) rfl rfl (gx_catn (Nat.le_of_ble_eq_true rfl)) dX1_saveState_15 ?_
  obtain ⟨rfl, rfl⟩ := Prod.mk.inj (Option.some.inj hf)
  exact gx_iret C dX1_saveState_18
theorem le_X1_saveState {D : gx_D} {r : Int32} {hz : HX} {h : HX} {a0 : Nat} (hf : f_X1_saveState D h a0 = some (r, hz)) : gx_le h hz := by
  unfold f_X1_saveState at hf
  replace hf := gx_bs hf
  obtain ⟨_, -, hf⟩ := hf
  replace hf := gx_bs hf
  obtain ⟨r1, g13, hf⟩ := hf
  replace hf := gx_bs hf
  obtain ⟨a2, rfl, hf⟩ := hf
  replace hf := gx_b2s hf
  obtain ⟨r4, h5, g3, hf⟩ := hf
  refine (le_X4_twin g3).tr ?_
  replace hf := gx_bs hf
  obtain ⟨h6, g12, hf⟩ := hf
  refine (hx_le_pv g12).tr ?_
  replace hf := gx_bs hf
  obtain ⟨r7, g11, hf⟩ := hf
  replace hf := gx_bs hf
  obtain ⟨a8, rfl, hf⟩ := hf
  replace hf := gx_bs hf
  obtain ⟨x10, g9, hf⟩ := hf
  obtain ⟨rfl, rfl⟩ := Prod.mk.inj (Option.some.inj hf)
  exact gx_le.rf
theorem w_X1_saveState {l : Launch} (hlt : l.stackTraces = false) {D : gx_D} {h : HX} {a0 : Nat} {r : Int32} {hz : HX} (hf : f_X1_saveState D h a0 = some (r, hz)) : gx_Met l yX1_saveState cX1_saveState 1 (some .int) 6 129 D [(va_rf (some a0))] h (some (.int r)) hz :=
  gx_ofG gz_26 (by simp only [gx_lsr, gx_lsi, gx_lsj, gx_ls0]; decide) (le_X1_saveState hf) (fun p e R s m args below meth c C hx => by
    simp only [gx_lar, gx_lai, gx_laj, gx_la0, Nat.reduceAdd]
    exact w_X1_saveState_b hlt C hx hf)
def f_X1_requireIndex (D : gx_D) (h : HX) (p0 : Bool) : Option ((Unit ⊕ (String × Nat)) × HX) :=
  if p0 = true then
  some (.inl (), h)
  else
  some (.inr ("java/lang/IndexOutOfBoundsException", h.1), hx_skip h 1 6)
theorem w_X1_requireIndex_b {l : Launch} (hlt : l.stackTraces = false) {p : Program} {e : Env} {R : Room} {s : State} {m : MethodId} {args : Array Value} {below : List Frame} {meth : Method} {c : Code} {D : gx_D} {h0 : HX} {r : Unit ⊕ (String × Nat)} {hz : HX} (C : gx_Ctx p R s m args meth c "ContractMachine" cX1_requireIndex 1 none 6 89 D h0 hz) (hx : ∀ x ∈ c.exceptionTable.toList, False) {p0 : Bool} (hf : f_X1_requireIndex D h0 p0 = some (r, hz)) : gx_G p l e R s m args below meth c D h0 hz 1 (gx_MQX below args s D h0 hz (gx_xv r)) 0 [(0, (.int (b2i p0)))] [] h0 := by
  unfold f_X1_requireIndex at hf
  refine gx_iload_n C dX1_requireIndex_0 0 rfl ?_
  replace hf := gx_ite hf
  rcases hf with ⟨c1, hf⟩ | ⟨c1, hf⟩
  · refine gx_ifz_ne_t (tgt := 12) C dX1_requireIndex_1 rfl c1 ?_
    obtain ⟨rfl, rfl⟩ := Prod.mk.inj (Option.some.inj hf)
    exact gx_ret (gx_vret C dX1_requireIndex_12)
  · refine gx_ifz_ne_f (tgt := 12) C dX1_requireIndex_1 rfl c1 ?_
    obtain ⟨rfl, rfl⟩ := Prod.mk.inj (Option.some.inj hf)
    exact gx_throw0 C hlt (names := ["java/lang/RuntimeException", "java/lang/Exception"]) (by decide +kernel) (by decide +kernel) q2274 q172 gz_460 gz_460g dX1_requireIndex_4 dX1_requireIndex_7 dX1_requireIndex_8 dX1_requireIndex_11 (by decide) (by decide) (gx_out C hx)
theorem le_X1_requireIndex {D : gx_D} {r : Unit ⊕ (String × Nat)} {hz : HX} {h : HX} {p0 : Bool} (hf : f_X1_requireIndex D h p0 = some (r, hz)) : gx_le h hz := by
  unfold f_X1_requireIndex at hf
  replace hf := gx_ite hf
  rcases hf with ⟨c1, hf⟩ | ⟨c1, hf⟩
  · obtain ⟨rfl, rfl⟩ := Prod.mk.inj (Option.some.inj hf)
    exact gx_le.rf
  · obtain ⟨rfl, rfl⟩ := Prod.mk.inj (Option.some.inj hf)
    exact gx_le.skip
theorem w_X1_requireIndex {l : Launch} (hlt : l.stackTraces = false) {D : gx_D} {h : HX} {p0 : Bool} {r : Unit ⊕ (String × Nat)} {hz : HX} (hf : f_X1_requireIndex D h p0 = some (r, hz)) : gx_MetX l yX1_requireIndex (ws_ yX1_requireIndex cX1_requireIndex 1 none) 6 89 D [(.int (b2i p0))] h (gx_xv r) hz :=
  gx_ofGX gz_26 (by simp only [gx_lsr, gx_lsi, gx_lsj, gx_ls0]; decide) (le_X1_requireIndex hf) (fun p e R s m args below meth c C hn hx => by
    simp only [gx_lar, gx_lai, gx_laj, gx_la0, Nat.reduceAdd]
    exact w_X1_requireIndex_b hlt C hx hf)
def f_X1_checkIndex (D : gx_D) (h : HX) (p0 : Int32) (p1 : Int32) : Option ((Unit ⊕ (String × Nat)) × HX) :=
  (f_X1_isWithin D h (Int32.toInt64 p0) (0 : Int64) (Int32.toInt64 (p1 - (1 : Int32)))).bind fun b2 =>
  gx_bx (f_X1_requireIndex D h b2) (fun u7 h4 =>
  some (.inl (), h4)) fun E5 q6 h4 =>
  some (.inr (E5, q6), h4)
theorem w_X1_checkIndex_b {l : Launch} (hlt : l.stackTraces = false) {p : Program} {e : Env} {R : Room} {s : State} {m : MethodId} {args : Array Value} {below : List Frame} {meth : Method} {c : Code} {D : gx_D} {h0 : HX} {r : Unit ⊕ (String × Nat)} {hz : HX} (C : gx_Ctx p R s m args meth c "ContractMachine" cX1_checkIndex 2 none 7 109 D h0 hz) (hx : ∀ x ∈ c.exceptionTable.toList, False) {p0 : Int32} {p1 : Int32} (hf : f_X1_checkIndex D h0 p0 p1 = some (r, hz)) : gx_G p l e R s m args below meth c D h0 hz 2 (gx_MQX below args s D h0 hz (gx_xv r)) 0 [(0, (.int p0)), (1, (.int p1))] [] h0 := by
  unfold f_X1_checkIndex at hf
  refine gx_iload_n C dX1_checkIndex_0 0 rfl ?_
  refine gx_i2l C dX1_checkIndex_1 ?_
  refine gx_lconst (v := 0) C dX1_checkIndex_2 rfl ?_
  refine gx_iload_n C dX1_checkIndex_3 1 rfl ?_
  refine gx_iconst (v := 1) C dX1_checkIndex_4 rfl ?_
  refine gx_isub C dX1_checkIndex_5 ?_
  refine gx_i2l C dX1_checkIndex_6 ?_
  replace hf := gx_bs hf
  obtain ⟨b2, g1, hf⟩ := hf
  refine gx_callS (st := []) C (w_X1_isWithin hlt g1) (lw_S q953 q954 q121 q955) gz_121 (by decide) rfl rfl (gx_catn (Nat.le_of_ble_eq_true rfl)) dX1_checkIndex_7 ?_
  replace hf := gx_bxs hf
  rcases hf with ⟨u7, h4, g3, hf⟩ | ⟨E5, q6, h4, g3, hf⟩
  · refine gx_xcallS (st := []) C (w_X1_requireIndex hlt g3) (lw_S q2271 q2272 q121 q2273) gz_461 (by decide) rfl rfl (gx_catn (Nat.le_of_ble_eq_true rfl)) dX1_checkIndex_10 (gx_k2l ?_)
    obtain ⟨rfl, rfl⟩ := Prod.mk.inj (Option.some.inj hf)
    exact gx_ret (gx_vret C dX1_checkIndex_13)
  · refine gx_xcallS (st := []) C (w_X1_requireIndex hlt g3) (lw_S q2271 q2272 q121 q2273) gz_461 (by decide) rfl rfl (gx_catn (Nat.le_of_ble_eq_true rfl)) dX1_checkIndex_10 (gx_k2r ?_)
    obtain ⟨rfl, rfl⟩ := Prod.mk.inj (Option.some.inj hf)
    exact gx_out C hx
theorem le_X1_checkIndex {D : gx_D} {r : Unit ⊕ (String × Nat)} {hz : HX} {h : HX} {p0 : Int32} {p1 : Int32} (hf : f_X1_checkIndex D h p0 p1 = some (r, hz)) : gx_le h hz := by
  unfold f_X1_checkIndex at hf
  replace hf := gx_bs hf
  obtain ⟨b2, g1, hf⟩ := hf
  replace hf := gx_bxs hf
  rcases hf with ⟨u7, h4, g3, hf⟩ | ⟨E5, q6, h4, g3, hf⟩
  · refine (le_X1_requireIndex g3).tr ?_
    obtain ⟨rfl, rfl⟩ := Prod.mk.inj (Option.some.inj hf)
    exact gx_le.rf
  · refine (le_X1_requireIndex g3).tr ?_
    obtain ⟨rfl, rfl⟩ := Prod.mk.inj (Option.some.inj hf)
    exact gx_le.rf
theorem w_X1_checkIndex {l : Launch} (hlt : l.stackTraces = false) {D : gx_D} {h : HX} {p0 : Int32} {p1 : Int32} {r : Unit ⊕ (String × Nat)} {hz : HX} (hf : f_X1_checkIndex D h p0 p1 = some (r, hz)) : gx_MetX l yX1_checkIndex (ws_ yX1_checkIndex cX1_checkIndex 2 none) 7 109 D [(.int p0), (.int p1)] h (gx_xv r) hz :=
  gx_ofGX gz_26 (by simp only [gx_lsr, gx_lsi, gx_lsj, gx_ls0]; decide) (le_X1_checkIndex hf) (fun p e R s m args below meth c C hn hx => by
    simp only [gx_lar, gx_lai, gx_laj, gx_la0, Nat.reduceAdd]
    exact w_X1_checkIndex_b hlt C hx hf)
def f_X1_letter (D : gx_D) (h : HX) (p0 : Option Nat) (p1 : Int32) (p2 : Int32) : Option ((Int32 ⊕ (String × Nat)) × HX) :=
  p0.bind fun a1 =>
  (f_J2_size D h a1).bind fun x3 =>
  gx_bx (f_X1_checkIndex D h p1 x3) (fun u8 h5 =>
  (f_J2_get D h5 a1 p1).bind fun r10 =>
  (hx_cast h5 r10 [2]).bind fun u11 =>
  r10.bind fun a12 =>
  (f_J9_length D h5 a12).bind fun x14 =>
  (f_X1_isWithin D h5 (Int32.toInt64 p2) (0 : Int64) (Int32.toInt64 (x14 - (1 : Int32)))).bind fun b16 =>
  if b16 = true then
  (f_J9_charAt D h5 a12 p2).bind fun x19 =>
  some (.inl x19, h5)
  else
  some (.inl (-1 : Int32), h5)) fun E6 q7 h5 =>
  some (.inr (E6, q7), h5)
theorem w_X1_letter_b {l : Launch} (hlt : l.stackTraces = false) {p : Program} {e : Env} {R : Room} {s : State} {m : MethodId} {args : Array Value} {below : List Frame} {meth : Method} {c : Code} {D : gx_D} {h0 : HX} {r : Int32 ⊕ (String × Nat)} {hz : HX} (C : gx_Ctx p R s m args meth c "ContractMachine" cX1_letter 4 (some .int) 8 130 D h0 hz) (hx : ∀ x ∈ c.exceptionTable.toList, False) {p0 : Option Nat} {p1 : Int32} {p2 : Int32} (hf : f_X1_letter D h0 p0 p1 p2 = some (r, hz)) : gx_G p l e R s m args below meth c D h0 hz 4 (gx_MQX below args s D h0 hz (gx_xi r)) 0 [(0, (va_rf p0)), (1, (.int p1)), (2, (.int p2))] [] h0 := by
  unfold f_X1_letter at hf
  refine gx_iload_n C dX1_letter_0 1 rfl ?_
  refine gx_aload_n C dX1_letter_1 0 rfl ?_
  replace hf := gx_bs hf
  obtain ⟨a1, rfl, hf⟩ := hf
  replace hf := gx_bs hf
  obtain ⟨x3, g2, hf⟩ := hf
  refine gx_callF (st := [(.int p1)]) C (w_J2_size hlt g2) (is_J2_size g2) q1481 (gx_cis1 gz_19 ⟨gz_51, q770⟩ gx_cis0) q772 q127 q774 gz_50 (by decide) rfl rfl (gx_catn (Nat.le_of_ble_eq_true rfl)) dX1_letter_2 ?_
  replace hf := gx_bxs hf
  rcases hf with ⟨u8, h5, g4, hf⟩ | ⟨E6, q7, h5, g4, hf⟩
  · refine gx_xcallS (st := []) C (w_X1_checkIndex hlt g4) (lw_S q2268 q2269 q121 q2270) gz_462 (by decide) rfl rfl (gx_catn (Nat.le_of_ble_eq_true rfl)) dX1_letter_7 (gx_k2l ?_)
    refine gx_aload_n C dX1_letter_10 0 rfl ?_
    refine gx_iload_n C dX1_letter_11 1 rfl ?_
    replace hf := gx_bs hf
    obtain ⟨r10, g9, hf⟩ := hf
    refine gx_callF (st := []) C (w_J2_get hlt g9) (is_J2_get g9) q1804 (gx_cis1 gz_19 ⟨gz_222, q1307⟩ gx_cis0) q1309 q127 q1311 gz_221 (by decide) rfl rfl (gx_catn (Nat.le_of_ble_eq_true rfl)) dX1_letter_12 ?_
    replace hf := gx_bs hf
    obtain ⟨u11, g20, hf⟩ := hf
    refine gx_cast C g20 gz_96 q660 dX1_letter_17 ?_
    refine gx_astn C dX1_letter_20 3 rfl (by decide) [2]  rfl (gx_okr rfl gx_catv_i gx_ok0) ?_
    refine gx_iload_n C dX1_letter_21 1 rfl ?_
    refine gx_i2l C dX1_letter_22 ?_
    refine gx_lconst (v := 0) C dX1_letter_23 rfl ?_
    refine gx_aload_n C dX1_letter_24 0 rfl ?_
    replace hf := gx_bs hf
    obtain ⟨a12, rfl, hf⟩ := hf
    replace hf := gx_bs hf
    obtain ⟨x14, g13, hf⟩ := hf
    refine gx_callV (st := [(.long (0 : Int64)), (.long (Int32.toInt64 p2))]) C (w_J9_length hlt g13) (is_J9_length g13) gz_10 rfl (lw_V q2289 q381 q382 q134 q383) gz_171 (by decide) rfl rfl (gx_catn (Nat.le_of_ble_eq_true rfl)) dX1_letter_25 ?_
    refine gx_iconst (v := 1) C dX1_letter_28 rfl ?_
    refine gx_isub C dX1_letter_29 ?_
    refine gx_i2l C dX1_letter_30 ?_
    replace hf := gx_bs hf
    obtain ⟨b16, g15, hf⟩ := hf
    refine gx_callS (st := []) C (w_X1_isWithin hlt g15) (lw_S q953 q954 q121 q955) gz_121 (by decide) rfl rfl (gx_catn (Nat.le_of_ble_eq_true rfl)) dX1_letter_31 ?_
    replace hf := gx_ite hf
    rcases hf with ⟨c17, hf⟩ | ⟨c17, hf⟩
    · refine gx_ifz_eq_f (tgt := 45) C dX1_letter_34 rfl c17 ?_
      refine gx_aload_n C dX1_letter_37 0 rfl ?_
      refine gx_iload_n C dX1_letter_38 1 rfl ?_
      replace hf := gx_bs hf
      obtain ⟨x19, g18, hf⟩ := hf
      refine gx_callV (st := []) C (w_J9_charAt hlt g18) (is_J9_charAt g18) gz_10 rfl (lw_V q2290 q1067 q1068 q134 q1069) gz_172 (by decide) rfl rfl (gx_catn (Nat.le_of_ble_eq_true rfl)) dX1_letter_39 ?_
      refine gx_goto (tgt := 46) C dX1_letter_42 rfl ?_
      obtain ⟨rfl, rfl⟩ := Prod.mk.inj (Option.some.inj hf)
      exact gx_ret (gx_iret C dX1_letter_46)
    · refine gx_ifz_eq_t (tgt := 45) C dX1_letter_34 rfl c17 ?_
      refine gx_iconst (v := -1) C dX1_letter_45 rfl ?_
      obtain ⟨rfl, rfl⟩ := Prod.mk.inj (Option.some.inj hf)
      exact gx_ret (gx_iret C dX1_letter_46)
  · refine gx_xcallS (st := []) C (w_X1_checkIndex hlt g4) (lw_S q2268 q2269 q121 q2270) gz_462 (by decide) rfl rfl (gx_catn (Nat.le_of_ble_eq_true rfl)) dX1_letter_7 (gx_k2r ?_)
    obtain ⟨rfl, rfl⟩ := Prod.mk.inj (Option.some.inj hf)
    exact gx_out C hx
theorem le_X1_letter {D : gx_D} {r : Int32 ⊕ (String × Nat)} {hz : HX} {h : HX} {p0 : Option Nat} {p1 : Int32} {p2 : Int32} (hf : f_X1_letter D h p0 p1 p2 = some (r, hz)) : gx_le h hz := by
  unfold f_X1_letter at hf
  replace hf := gx_bs hf
  obtain ⟨a1, rfl, hf⟩ := hf
  replace hf := gx_bs hf
  obtain ⟨x3, g2, hf⟩ := hf
  replace hf := gx_bxs hf
  rcases hf with ⟨u8, h5, g4, hf⟩ | ⟨E6, q7, h5, g4, hf⟩
  · refine (le_X1_checkIndex g4).tr ?_
    replace hf := gx_bs hf
    obtain ⟨r10, g9, hf⟩ := hf
    replace hf := gx_bs hf
    obtain ⟨u11, g20, hf⟩ := hf
    replace hf := gx_bs hf
    obtain ⟨a12, rfl, hf⟩ := hf
    replace hf := gx_bs hf
    obtain ⟨x14, g13, hf⟩ := hf
    replace hf := gx_bs hf
    obtain ⟨b16, g15, hf⟩ := hf
    replace hf := gx_ite hf
    rcases hf with ⟨c17, hf⟩ | ⟨c17, hf⟩
    · replace hf := gx_bs hf
      obtain ⟨x19, g18, hf⟩ := hf
      obtain ⟨rfl, rfl⟩ := Prod.mk.inj (Option.some.inj hf)
      exact gx_le.rf
    · obtain ⟨rfl, rfl⟩ := Prod.mk.inj (Option.some.inj hf)
      exact gx_le.rf
  · refine (le_X1_checkIndex g4).tr ?_
    obtain ⟨rfl, rfl⟩ := Prod.mk.inj (Option.some.inj hf)
    exact gx_le.rf
theorem w_X1_letter {l : Launch} (hlt : l.stackTraces = false) {D : gx_D} {h : HX} {p0 : Option Nat} {p1 : Int32} {p2 : Int32} {r : Int32 ⊕ (String × Nat)} {hz : HX} (hf : f_X1_letter D h p0 p1 p2 = some (r, hz)) : gx_MetX l yX1_letter (ws_ yX1_letter cX1_letter 4 (some .int)) 8 130 D [(va_rf p0), (.int p1), (.int p2)] h (gx_xi r) hz :=
  gx_ofGX gz_26 (by simp only [gx_lsr, gx_lsi, gx_lsj, gx_ls0]; decide) (le_X1_letter hf) (fun p e R s m args below meth c C hn hx => by
    simp only [gx_lar, gx_lai, gx_laj, gx_la0, Nat.reduceAdd]
    exact w_X1_letter_b hlt C hx hf)
def f_X1_stateNameByte (D : gx_D) (h : HX) (a0 : Nat) (p1 : Int32) (p2 : Int32) : Option ((Int32 ⊕ (String × Nat)) × HX) :=
  (hx_is h a0 [9]).bind fun _ =>
  (hx_gr h a0 [9] 5).bind fun r1 =>
  r1.bind fun a2 =>
  (hx_gr h a2 [10] 0).bind fun r3 =>
  gx_bx (f_X1_letter D h r3 p1 p2) (fun x5 h6 =>
  some (.inl x5, h6)) fun E7 q8 h6 =>
  some (.inr (E7, q8), h6)
theorem is_X1_stateNameByte {D : gx_D} {h : HX} {a0 : Nat} {p1 : Int32} {p2 : Int32} {z} (hf : f_X1_stateNameByte D h a0 p1 p2 = some z) : gx_isC h a0 [9] := by
  unfold f_X1_stateNameByte at hf
  obtain ⟨_, g, -⟩ := gx_bs hf
  exact hx_is_of g
theorem w_X1_stateNameByte_b {l : Launch} (hlt : l.stackTraces = false) {p : Program} {e : Env} {R : Room} {s : State} {m : MethodId} {args : Array Value} {below : List Frame} {meth : Method} {c : Code} {D : gx_D} {h0 : HX} {r : Int32 ⊕ (String × Nat)} {hz : HX} (C : gx_Ctx p R s m args meth c "ContractMachine" cX1_stateNameByte 3 (some .int) 9 153 D h0 hz) (hx : ∀ x ∈ c.exceptionTable.toList, False) {a0 : Nat} {p1 : Int32} {p2 : Int32} (hf : f_X1_stateNameByte D h0 a0 p1 p2 = some (r, hz)) : gx_G p l e R s m args below meth c D h0 hz 3 (gx_MQX below args s D h0 hz (gx_xi r)) 0 [(0, (va_rf (some a0))), (1, (.int p1)), (2, (.int p2))] [] h0 := by
  unfold f_X1_stateNameByte at hf
  replace hf := gx_bs hf
  obtain ⟨_, -, hf⟩ := hf
  refine gx_aload_n C dX1_stateNameByte_0 0 rfl ?_
  replace hf := gx_bs hf
  obtain ⟨r1, g10, hf⟩ := hf
  refine gx_gr C g10 gz_20 q892 dX1_stateNameByte_1 ?_
  replace hf := gx_bs hf
  obtain ⟨a2, rfl, hf⟩ := hf
  replace hf := gx_bs hf
  obtain ⟨r3, g9, hf⟩ := hf
  refine gx_grN C g9 gz_28 q560 dX1_stateNameByte_4 ?_
  refine gx_iload_n C dX1_stateNameByte_7 1 rfl ?_
  refine gx_iload_n C dX1_stateNameByte_8 2 rfl ?_
  replace hf := gx_bxs hf
  rcases hf with ⟨x5, h6, g4, hf⟩ | ⟨E7, q8, h6, g4, hf⟩
  · refine gx_xcallS (st := []) C (w_X1_letter hlt g4) (lw_S q2265 q2266 q121 q2267) gz_463 (by decide) rfl rfl (gx_catn (Nat.le_of_ble_eq_true rfl)) dX1_stateNameByte_9 (gx_k2l ?_)
    obtain ⟨rfl, rfl⟩ := Prod.mk.inj (Option.some.inj hf)
    exact gx_ret (gx_iret C dX1_stateNameByte_12)
  · refine gx_xcallS (st := []) C (w_X1_letter hlt g4) (lw_S q2265 q2266 q121 q2267) gz_463 (by decide) rfl rfl (gx_catn (Nat.le_of_ble_eq_true rfl)) dX1_stateNameByte_9 (gx_k2r ?_)
    obtain ⟨rfl, rfl⟩ := Prod.mk.inj (Option.some.inj hf)
    exact gx_out C hx
theorem le_X1_stateNameByte {D : gx_D} {r : Int32 ⊕ (String × Nat)} {hz : HX} {h : HX} {a0 : Nat} {p1 : Int32} {p2 : Int32} (hf : f_X1_stateNameByte D h a0 p1 p2 = some (r, hz)) : gx_le h hz := by
  unfold f_X1_stateNameByte at hf
  replace hf := gx_bs hf
  obtain ⟨_, -, hf⟩ := hf
  replace hf := gx_bs hf
  obtain ⟨r1, g10, hf⟩ := hf
  replace hf := gx_bs hf
  obtain ⟨a2, rfl, hf⟩ := hf
  replace hf := gx_bs hf
  obtain ⟨r3, g9, hf⟩ := hf
  replace hf := gx_bxs hf
  rcases hf with ⟨x5, h6, g4, hf⟩ | ⟨E7, q8, h6, g4, hf⟩
  · refine (le_X1_letter g4).tr ?_
    obtain ⟨rfl, rfl⟩ := Prod.mk.inj (Option.some.inj hf)
    exact gx_le.rf
  · refine (le_X1_letter g4).tr ?_
    obtain ⟨rfl, rfl⟩ := Prod.mk.inj (Option.some.inj hf)
    exact gx_le.rf
theorem w_X1_stateNameByte {l : Launch} (hlt : l.stackTraces = false) {D : gx_D} {h : HX} {a0 : Nat} {p1 : Int32} {p2 : Int32} {r : Int32 ⊕ (String × Nat)} {hz : HX} (hf : f_X1_stateNameByte D h a0 p1 p2 = some (r, hz)) : gx_MetX l yX1_stateNameByte (ws_ yX1_stateNameByte cX1_stateNameByte 3 (some .int)) 9 153 D [(va_rf (some a0)), (.int p1), (.int p2)] h (gx_xi r) hz :=
  gx_ofGX gz_26 (by simp only [gx_lsr, gx_lsi, gx_lsj, gx_ls0]; decide) (le_X1_stateNameByte hf) (fun p e R s m args below meth c C hn hx => by
    simp only [gx_lar, gx_lai, gx_laj, gx_la0, Nat.reduceAdd]
    exact w_X1_stateNameByte_b hlt C hx hf)
def f_X1_eventNameByte (D : gx_D) (h : HX) (a0 : Nat) (p1 : Int32) (p2 : Int32) : Option ((Int32 ⊕ (String × Nat)) × HX) :=
  (hx_is h a0 [9]).bind fun _ =>
  (hx_gr h a0 [9] 5).bind fun r1 =>
  r1.bind fun a2 =>
  (hx_gr h a2 [10] 1).bind fun r3 =>
  gx_bx (f_X1_letter D h r3 p1 p2) (fun x5 h6 =>
  some (.inl x5, h6)) fun E7 q8 h6 =>
  some (.inr (E7, q8), h6)
theorem is_X1_eventNameByte {D : gx_D} {h : HX} {a0 : Nat} {p1 : Int32} {p2 : Int32} {z} (hf : f_X1_eventNameByte D h a0 p1 p2 = some z) : gx_isC h a0 [9] := by
  unfold f_X1_eventNameByte at hf
  obtain ⟨_, g, -⟩ := gx_bs hf
  exact hx_is_of g
theorem w_X1_eventNameByte_b {l : Launch} (hlt : l.stackTraces = false) {p : Program} {e : Env} {R : Room} {s : State} {m : MethodId} {args : Array Value} {below : List Frame} {meth : Method} {c : Code} {D : gx_D} {h0 : HX} {r : Int32 ⊕ (String × Nat)} {hz : HX} (C : gx_Ctx p R s m args meth c "ContractMachine" cX1_eventNameByte 3 (some .int) 9 153 D h0 hz) (hx : ∀ x ∈ c.exceptionTable.toList, False) {a0 : Nat} {p1 : Int32} {p2 : Int32} (hf : f_X1_eventNameByte D h0 a0 p1 p2 = some (r, hz)) : gx_G p l e R s m args below meth c D h0 hz 3 (gx_MQX below args s D h0 hz (gx_xi r)) 0 [(0, (va_rf (some a0))), (1, (.int p1)), (2, (.int p2))] [] h0 := by
  unfold f_X1_eventNameByte at hf
  replace hf := gx_bs hf
  obtain ⟨_, -, hf⟩ := hf
  refine gx_aload_n C dX1_eventNameByte_0 0 rfl ?_
  replace hf := gx_bs hf
  obtain ⟨r1, g10, hf⟩ := hf
  refine gx_gr C g10 gz_20 q892 dX1_eventNameByte_1 ?_
  replace hf := gx_bs hf
  obtain ⟨a2, rfl, hf⟩ := hf
  replace hf := gx_bs hf
  obtain ⟨r3, g9, hf⟩ := hf
  refine gx_grN C g9 gz_27 q565 dX1_eventNameByte_4 ?_
  refine gx_iload_n C dX1_eventNameByte_7 1 rfl ?_
  refine gx_iload_n C dX1_eventNameByte_8 2 rfl ?_
  replace hf := gx_bxs hf
  rcases hf with ⟨x5, h6, g4, hf⟩ | ⟨E7, q8, h6, g4, hf⟩
  · refine gx_xcallS (st := []) C (w_X1_letter hlt g4) (lw_S q2265 q2266 q121 q2267) gz_463 (by decide) rfl rfl (gx_catn (Nat.le_of_ble_eq_true rfl)) dX1_eventNameByte_9 (gx_k2l ?_)
    obtain ⟨rfl, rfl⟩ := Prod.mk.inj (Option.some.inj hf)
    exact gx_ret (gx_iret C dX1_eventNameByte_12)
  · refine gx_xcallS (st := []) C (w_X1_letter hlt g4) (lw_S q2265 q2266 q121 q2267) gz_463 (by decide) rfl rfl (gx_catn (Nat.le_of_ble_eq_true rfl)) dX1_eventNameByte_9 (gx_k2r ?_)
    obtain ⟨rfl, rfl⟩ := Prod.mk.inj (Option.some.inj hf)
    exact gx_out C hx
theorem le_X1_eventNameByte {D : gx_D} {r : Int32 ⊕ (String × Nat)} {hz : HX} {h : HX} {a0 : Nat} {p1 : Int32} {p2 : Int32} (hf : f_X1_eventNameByte D h a0 p1 p2 = some (r, hz)) : gx_le h hz := by
  unfold f_X1_eventNameByte at hf
  replace hf := gx_bs hf
  obtain ⟨_, -, hf⟩ := hf
  replace hf := gx_bs hf
  obtain ⟨r1, g10, hf⟩ := hf
  replace hf := gx_bs hf
  obtain ⟨a2, rfl, hf⟩ := hf
  replace hf := gx_bs hf
  obtain ⟨r3, g9, hf⟩ := hf
  replace hf := gx_bxs hf
  rcases hf with ⟨x5, h6, g4, hf⟩ | ⟨E7, q8, h6, g4, hf⟩
  · refine (le_X1_letter g4).tr ?_
    obtain ⟨rfl, rfl⟩ := Prod.mk.inj (Option.some.inj hf)
    exact gx_le.rf
  · refine (le_X1_letter g4).tr ?_
    obtain ⟨rfl, rfl⟩ := Prod.mk.inj (Option.some.inj hf)
    exact gx_le.rf
theorem w_X1_eventNameByte {l : Launch} (hlt : l.stackTraces = false) {D : gx_D} {h : HX} {a0 : Nat} {p1 : Int32} {p2 : Int32} {r : Int32 ⊕ (String × Nat)} {hz : HX} (hf : f_X1_eventNameByte D h a0 p1 p2 = some (r, hz)) : gx_MetX l yX1_eventNameByte (ws_ yX1_eventNameByte cX1_eventNameByte 3 (some .int)) 9 153 D [(va_rf (some a0)), (.int p1), (.int p2)] h (gx_xi r) hz :=
  gx_ofGX gz_26 (by simp only [gx_lsr, gx_lsi, gx_lsj, gx_ls0]; decide) (le_X1_eventNameByte hf) (fun p e R s m args below meth c C hn hx => by
    simp only [gx_lar, gx_lai, gx_laj, gx_la0, Nat.reduceAdd]
    exact w_X1_eventNameByte_b hlt C hx hf)
def f_X1_variableNameByte (D : gx_D) (h : HX) (a0 : Nat) (p1 : Int32) (p2 : Int32) : Option ((Int32 ⊕ (String × Nat)) × HX) :=
  (hx_is h a0 [9]).bind fun _ =>
  (hx_gr h a0 [9] 5).bind fun r1 =>
  r1.bind fun a2 =>
  (hx_gr h a2 [10] 2).bind fun r3 =>
  gx_bx (f_X1_letter D h r3 p1 p2) (fun x5 h6 =>
  some (.inl x5, h6)) fun E7 q8 h6 =>
  some (.inr (E7, q8), h6)
theorem is_X1_variableNameByte {D : gx_D} {h : HX} {a0 : Nat} {p1 : Int32} {p2 : Int32} {z} (hf : f_X1_variableNameByte D h a0 p1 p2 = some z) : gx_isC h a0 [9] := by
  unfold f_X1_variableNameByte at hf
  obtain ⟨_, g, -⟩ := gx_bs hf
  exact hx_is_of g
theorem w_X1_variableNameByte_b {l : Launch} (hlt : l.stackTraces = false) {p : Program} {e : Env} {R : Room} {s : State} {m : MethodId} {args : Array Value} {below : List Frame} {meth : Method} {c : Code} {D : gx_D} {h0 : HX} {r : Int32 ⊕ (String × Nat)} {hz : HX} (C : gx_Ctx p R s m args meth c "ContractMachine" cX1_variableNameByte 3 (some .int) 9 153 D h0 hz) (hx : ∀ x ∈ c.exceptionTable.toList, False) {a0 : Nat} {p1 : Int32} {p2 : Int32} (hf : f_X1_variableNameByte D h0 a0 p1 p2 = some (r, hz)) : gx_G p l e R s m args below meth c D h0 hz 3 (gx_MQX below args s D h0 hz (gx_xi r)) 0 [(0, (va_rf (some a0))), (1, (.int p1)), (2, (.int p2))] [] h0 := by
  unfold f_X1_variableNameByte at hf
  replace hf := gx_bs hf
  obtain ⟨_, -, hf⟩ := hf
  refine gx_aload_n C dX1_variableNameByte_0 0 rfl ?_
  replace hf := gx_bs hf
  obtain ⟨r1, g10, hf⟩ := hf
  refine gx_gr C g10 gz_20 q892 dX1_variableNameByte_1 ?_
  replace hf := gx_bs hf
  obtain ⟨a2, rfl, hf⟩ := hf
  replace hf := gx_bs hf
  obtain ⟨r3, g9, hf⟩ := hf
  refine gx_grN C g9 gz_46 q569 dX1_variableNameByte_4 ?_
  refine gx_iload_n C dX1_variableNameByte_7 1 rfl ?_
  refine gx_iload_n C dX1_variableNameByte_8 2 rfl ?_
  replace hf := gx_bxs hf
  rcases hf with ⟨x5, h6, g4, hf⟩ | ⟨E7, q8, h6, g4, hf⟩
  · refine gx_xcallS (st := []) C (w_X1_letter hlt g4) (lw_S q2265 q2266 q121 q2267) gz_463 (by decide) rfl rfl (gx_catn (Nat.le_of_ble_eq_true rfl)) dX1_variableNameByte_9 (gx_k2l ?_)
    obtain ⟨rfl, rfl⟩ := Prod.mk.inj (Option.some.inj hf)
    exact gx_ret (gx_iret C dX1_variableNameByte_12)
  · refine gx_xcallS (st := []) C (w_X1_letter hlt g4) (lw_S q2265 q2266 q121 q2267) gz_463 (by decide) rfl rfl (gx_catn (Nat.le_of_ble_eq_true rfl)) dX1_variableNameByte_9 (gx_k2r ?_)
    obtain ⟨rfl, rfl⟩ := Prod.mk.inj (Option.some.inj hf)
    exact gx_out C hx
theorem le_X1_variableNameByte {D : gx_D} {r : Int32 ⊕ (String × Nat)} {hz : HX} {h : HX} {a0 : Nat} {p1 : Int32} {p2 : Int32} (hf : f_X1_variableNameByte D h a0 p1 p2 = some (r, hz)) : gx_le h hz := by
  unfold f_X1_variableNameByte at hf
  replace hf := gx_bs hf
  obtain ⟨_, -, hf⟩ := hf
  replace hf := gx_bs hf
  obtain ⟨r1, g10, hf⟩ := hf
  replace hf := gx_bs hf
  obtain ⟨a2, rfl, hf⟩ := hf
  replace hf := gx_bs hf
  obtain ⟨r3, g9, hf⟩ := hf
  replace hf := gx_bxs hf
  rcases hf with ⟨x5, h6, g4, hf⟩ | ⟨E7, q8, h6, g4, hf⟩
  · refine (le_X1_letter g4).tr ?_
    obtain ⟨rfl, rfl⟩ := Prod.mk.inj (Option.some.inj hf)
    exact gx_le.rf
  · refine (le_X1_letter g4).tr ?_
    obtain ⟨rfl, rfl⟩ := Prod.mk.inj (Option.some.inj hf)
    exact gx_le.rf
theorem w_X1_variableNameByte {l : Launch} (hlt : l.stackTraces = false) {D : gx_D} {h : HX} {a0 : Nat} {p1 : Int32} {p2 : Int32} {r : Int32 ⊕ (String × Nat)} {hz : HX} (hf : f_X1_variableNameByte D h a0 p1 p2 = some (r, hz)) : gx_MetX l yX1_variableNameByte (ws_ yX1_variableNameByte cX1_variableNameByte 3 (some .int)) 9 153 D [(va_rf (some a0)), (.int p1), (.int p2)] h (gx_xi r) hz :=
  gx_ofGX gz_26 (by simp only [gx_lsr, gx_lsi, gx_lsj, gx_ls0]; decide) (le_X1_variableNameByte hf) (fun p e R s m args below meth c C hn hx => by
    simp only [gx_lar, gx_lai, gx_laj, gx_la0, Nat.reduceAdd]
    exact w_X1_variableNameByte_b hlt C hx hf)
def f_X1_checkVariable (D : gx_D) (h : HX) (a0 : Nat) (p1 : Int32) : Option ((Unit ⊕ (String × Nat)) × HX) :=
  (hx_is h a0 [9]).bind fun _ =>
  (hx_gr h a0 [9] 5).bind fun r1 =>
  r1.bind fun a2 =>
  (hx_gr h a2 [10] 2).bind fun r3 =>
  r3.bind fun a4 =>
  (f_J2_size D h a4).bind fun x6 =>
  gx_bx (f_X1_checkIndex D h p1 x6) (fun u11 h8 =>
  some (.inl (), h8)) fun E9 q10 h8 =>
  some (.inr (E9, q10), h8)
theorem is_X1_checkVariable {D : gx_D} {h : HX} {a0 : Nat} {p1 : Int32} {z} (hf : f_X1_checkVariable D h a0 p1 = some z) : gx_isC h a0 [9] := by
  unfold f_X1_checkVariable at hf
  obtain ⟨_, g, -⟩ := gx_bs hf
  exact hx_is_of g
theorem w_X1_checkVariable_b {l : Launch} (hlt : l.stackTraces = false) {p : Program} {e : Env} {R : Room} {s : State} {m : MethodId} {args : Array Value} {below : List Frame} {meth : Method} {c : Code} {D : gx_D} {h0 : HX} {r : Unit ⊕ (String × Nat)} {hz : HX} (C : gx_Ctx p R s m args meth c "ContractMachine" cX1_checkVariable 2 none 8 130 D h0 hz) (hx : ∀ x ∈ c.exceptionTable.toList, False) {a0 : Nat} {p1 : Int32} (hf : f_X1_checkVariable D h0 a0 p1 = some (r, hz)) : gx_G p l e R s m args below meth c D h0 hz 2 (gx_MQX below args s D h0 hz (gx_xv r)) 0 [(0, (va_rf (some a0))), (1, (.int p1))] [] h0 := by
  unfold f_X1_checkVariable at hf
  replace hf := gx_bs hf
  obtain ⟨_, -, hf⟩ := hf
  refine gx_iload_n C dX1_checkVariable_0 1 rfl ?_
  refine gx_aload_n C dX1_checkVariable_1 0 rfl ?_
  replace hf := gx_bs hf
  obtain ⟨r1, g13, hf⟩ := hf
  refine gx_gr C g13 gz_20 q892 dX1_checkVariable_2 ?_
  replace hf := gx_bs hf
  obtain ⟨a2, rfl, hf⟩ := hf
  replace hf := gx_bs hf
  obtain ⟨r3, g12, hf⟩ := hf
  refine gx_grN C g12 gz_46 q569 dX1_checkVariable_5 ?_
  replace hf := gx_bs hf
  obtain ⟨a4, rfl, hf⟩ := hf
  replace hf := gx_bs hf
  obtain ⟨x6, g5, hf⟩ := hf
  refine gx_callF (st := [(.int p1)]) C (w_J2_size hlt g5) (is_J2_size g5) q1481 (gx_cis1 gz_19 ⟨gz_51, q770⟩ gx_cis0) q772 q127 q774 gz_50 (by decide) rfl rfl (gx_catn (Nat.le_of_ble_eq_true rfl)) dX1_checkVariable_8 ?_
  replace hf := gx_bxs hf
  rcases hf with ⟨u11, h8, g7, hf⟩ | ⟨E9, q10, h8, g7, hf⟩
  · refine gx_xcallS (st := []) C (w_X1_checkIndex hlt g7) (lw_S q2268 q2269 q121 q2270) gz_462 (by decide) rfl rfl (gx_catn (Nat.le_of_ble_eq_true rfl)) dX1_checkVariable_13 (gx_k2l ?_)
    obtain ⟨rfl, rfl⟩ := Prod.mk.inj (Option.some.inj hf)
    exact gx_ret (gx_vret C dX1_checkVariable_16)
  · refine gx_xcallS (st := []) C (w_X1_checkIndex hlt g7) (lw_S q2268 q2269 q121 q2270) gz_462 (by decide) rfl rfl (gx_catn (Nat.le_of_ble_eq_true rfl)) dX1_checkVariable_13 (gx_k2r ?_)
    obtain ⟨rfl, rfl⟩ := Prod.mk.inj (Option.some.inj hf)
    exact gx_out C hx
theorem le_X1_checkVariable {D : gx_D} {r : Unit ⊕ (String × Nat)} {hz : HX} {h : HX} {a0 : Nat} {p1 : Int32} (hf : f_X1_checkVariable D h a0 p1 = some (r, hz)) : gx_le h hz := by
  unfold f_X1_checkVariable at hf
  replace hf := gx_bs hf
  obtain ⟨_, -, hf⟩ := hf
  replace hf := gx_bs hf
  obtain ⟨r1, g13, hf⟩ := hf
  replace hf := gx_bs hf
  obtain ⟨a2, rfl, hf⟩ := hf
  replace hf := gx_bs hf
  obtain ⟨r3, g12, hf⟩ := hf
  replace hf := gx_bs hf
  obtain ⟨a4, rfl, hf⟩ := hf
  replace hf := gx_bs hf
  obtain ⟨x6, g5, hf⟩ := hf
  replace hf := gx_bxs hf
  rcases hf with ⟨u11, h8, g7, hf⟩ | ⟨E9, q10, h8, g7, hf⟩
  · refine (le_X1_checkIndex g7).tr ?_
    obtain ⟨rfl, rfl⟩ := Prod.mk.inj (Option.some.inj hf)
    exact gx_le.rf
  · refine (le_X1_checkIndex g7).tr ?_
    obtain ⟨rfl, rfl⟩ := Prod.mk.inj (Option.some.inj hf)
    exact gx_le.rf
theorem w_X1_checkVariable {l : Launch} (hlt : l.stackTraces = false) {D : gx_D} {h : HX} {a0 : Nat} {p1 : Int32} {r : Unit ⊕ (String × Nat)} {hz : HX} (hf : f_X1_checkVariable D h a0 p1 = some (r, hz)) : gx_MetX l yX1_checkVariable (ws_ yX1_checkVariable cX1_checkVariable 2 none) 8 130 D [(va_rf (some a0)), (.int p1)] h (gx_xv r) hz :=
  gx_ofGX gz_26 (by simp only [gx_lsr, gx_lsi, gx_lsj, gx_ls0]; decide) (le_X1_checkVariable hf) (fun p e R s m args below meth c C hn hx => by
    simp only [gx_lar, gx_lai, gx_laj, gx_la0, Nat.reduceAdd]
    exact w_X1_checkVariable_b hlt C hx hf)
def f_X1_valueOf (D : gx_D) (h : HX) (a0 : Nat) (p1 : Int32) : Option ((Int32 ⊕ (String × Nat)) × HX) :=
  (hx_is h a0 [9]).bind fun _ =>
  gx_bx (f_X1_checkVariable D h a0 p1) (fun u5 h2 =>
  (hx_gr h2 a0 [9] 6).bind fun r6 =>
  r6.bind fun a7 =>
  (f_X4_valuation D h2 a7).bind fun x9 =>
  (f_X1_valueIn D h2 x9 p1).bind fun x11 =>
  some (.inl x11, h2)) fun E3 q4 h2 =>
  some (.inr (E3, q4), h2)
theorem is_X1_valueOf {D : gx_D} {h : HX} {a0 : Nat} {p1 : Int32} {z} (hf : f_X1_valueOf D h a0 p1 = some z) : gx_isC h a0 [9] := by
  unfold f_X1_valueOf at hf
  obtain ⟨_, g, -⟩ := gx_bs hf
  exact hx_is_of g
theorem w_X1_valueOf_b {l : Launch} (hlt : l.stackTraces = false) {p : Program} {e : Env} {R : Room} {s : State} {m : MethodId} {args : Array Value} {below : List Frame} {meth : Method} {c : Code} {D : gx_D} {h0 : HX} {r : Int32 ⊕ (String × Nat)} {hz : HX} (C : gx_Ctx p R s m args meth c "ContractMachine" cX1_valueOf 2 (some .int) 9 151 D h0 hz) (hx : ∀ x ∈ c.exceptionTable.toList, False) {a0 : Nat} {p1 : Int32} (hf : f_X1_valueOf D h0 a0 p1 = some (r, hz)) : gx_G p l e R s m args below meth c D h0 hz 2 (gx_MQX below args s D h0 hz (gx_xi r)) 0 [(0, (va_rf (some a0))), (1, (.int p1))] [] h0 := by
  unfold f_X1_valueOf at hf
  replace hf := gx_bs hf
  obtain ⟨_, -, hf⟩ := hf
  refine gx_aload_n C dX1_valueOf_0 0 rfl ?_
  refine gx_iload_n C dX1_valueOf_1 1 rfl ?_
  replace hf := gx_bxs hf
  rcases hf with ⟨u5, h2, g1, hf⟩ | ⟨E3, q4, h2, g1, hf⟩
  · refine gx_xcallV (st := []) C (w_X1_checkVariable hlt g1) (is_X1_checkVariable g1) gz_108 rfl (lw_V q2312 q2314 qs44 q121 q2315) gz_464 (by decide) rfl rfl (gx_catn (Nat.le_of_ble_eq_true rfl)) dX1_valueOf_2 (gx_k2l ?_)
    refine gx_aload_n C dX1_valueOf_5 0 rfl ?_
    replace hf := gx_bs hf
    obtain ⟨r6, g12, hf⟩ := hf
    refine gx_gr C g12 gz_85 q896 dX1_valueOf_6 ?_
    replace hf := gx_bs hf
    obtain ⟨a7, rfl, hf⟩ := hf
    replace hf := gx_bs hf
    obtain ⟨x9, g8, hf⟩ := hf
    refine gx_callV (st := []) C (w_X4_valuation hlt g8) (is_X4_valuation g8) gz_13 rfl (lw_V q1893 q1894 q1895 q144 q1896) gz_329 (by decide) rfl rfl (gx_catn (Nat.le_of_ble_eq_true rfl)) dX1_valueOf_9 ?_
    refine gx_iload_n C dX1_valueOf_12 1 rfl ?_
    replace hf := gx_bs hf
    obtain ⟨x11, g10, hf⟩ := hf
    refine gx_callS (st := []) C (w_X1_valueIn hlt g10) (lw_S q1897 q1448 q121 q1449) gz_216 (by decide) rfl rfl (gx_catn (Nat.le_of_ble_eq_true rfl)) dX1_valueOf_13 ?_
    obtain ⟨rfl, rfl⟩ := Prod.mk.inj (Option.some.inj hf)
    exact gx_ret (gx_iret C dX1_valueOf_16)
  · refine gx_xcallV (st := []) C (w_X1_checkVariable hlt g1) (is_X1_checkVariable g1) gz_108 rfl (lw_V q2312 q2314 qs44 q121 q2315) gz_464 (by decide) rfl rfl (gx_catn (Nat.le_of_ble_eq_true rfl)) dX1_valueOf_2 (gx_k2r ?_)
    obtain ⟨rfl, rfl⟩ := Prod.mk.inj (Option.some.inj hf)
    exact gx_out C hx
theorem le_X1_valueOf {D : gx_D} {r : Int32 ⊕ (String × Nat)} {hz : HX} {h : HX} {a0 : Nat} {p1 : Int32} (hf : f_X1_valueOf D h a0 p1 = some (r, hz)) : gx_le h hz := by
  unfold f_X1_valueOf at hf
  replace hf := gx_bs hf
  obtain ⟨_, -, hf⟩ := hf
  replace hf := gx_bxs hf
  rcases hf with ⟨u5, h2, g1, hf⟩ | ⟨E3, q4, h2, g1, hf⟩
  · refine (le_X1_checkVariable g1).tr ?_
    replace hf := gx_bs hf
    obtain ⟨r6, g12, hf⟩ := hf
    replace hf := gx_bs hf
    obtain ⟨a7, rfl, hf⟩ := hf
    replace hf := gx_bs hf
    obtain ⟨x9, g8, hf⟩ := hf
    replace hf := gx_bs hf
    obtain ⟨x11, g10, hf⟩ := hf
    obtain ⟨rfl, rfl⟩ := Prod.mk.inj (Option.some.inj hf)
    exact gx_le.rf
  · refine (le_X1_checkVariable g1).tr ?_
    obtain ⟨rfl, rfl⟩ := Prod.mk.inj (Option.some.inj hf)
    exact gx_le.rf
theorem w_X1_valueOf {l : Launch} (hlt : l.stackTraces = false) {D : gx_D} {h : HX} {a0 : Nat} {p1 : Int32} {r : Int32 ⊕ (String × Nat)} {hz : HX} (hf : f_X1_valueOf D h a0 p1 = some (r, hz)) : gx_MetX l yX1_valueOf (ws_ yX1_valueOf cX1_valueOf 2 (some .int)) 9 151 D [(va_rf (some a0)), (.int p1)] h (gx_xi r) hz :=
  gx_ofGX gz_26 (by simp only [gx_lsr, gx_lsi, gx_lsj, gx_ls0]; decide) (le_X1_valueOf hf) (fun p e R s m args below meth c C hn hx => by
    simp only [gx_lar, gx_lai, gx_laj, gx_la0, Nat.reduceAdd]
    exact w_X1_valueOf_b hlt C hx hf)
def f_X1_initialValueOf (D : gx_D) (h : HX) (a0 : Nat) (p1 : Int32) : Option ((Int32 ⊕ (String × Nat)) × HX) :=
  (hx_is h a0 [9]).bind fun _ =>
  gx_bx (f_X1_checkVariable D h a0 p1) (fun u5 h2 =>
  (hx_gr h2 a0 [9] 5).bind fun r6 =>
  r6.bind fun a7 =>
  (hx_gi h2 a7 [10] 4).bind fun x8 =>
  (f_X1_valueIn D h2 x8 p1).bind fun x10 =>
  some (.inl x10, h2)) fun E3 q4 h2 =>
  some (.inr (E3, q4), h2)
theorem is_X1_initialValueOf {D : gx_D} {h : HX} {a0 : Nat} {p1 : Int32} {z} (hf : f_X1_initialValueOf D h a0 p1 = some z) : gx_isC h a0 [9] := by
  unfold f_X1_initialValueOf at hf
  obtain ⟨_, g, -⟩ := gx_bs hf
  exact hx_is_of g
theorem w_X1_initialValueOf_b {l : Launch} (hlt : l.stackTraces = false) {p : Program} {e : Env} {R : Room} {s : State} {m : MethodId} {args : Array Value} {below : List Frame} {meth : Method} {c : Code} {D : gx_D} {h0 : HX} {r : Int32 ⊕ (String × Nat)} {hz : HX} (C : gx_Ctx p R s m args meth c "ContractMachine" cX1_initialValueOf 2 (some .int) 9 151 D h0 hz) (hx : ∀ x ∈ c.exceptionTable.toList, False) {a0 : Nat} {p1 : Int32} (hf : f_X1_initialValueOf D h0 a0 p1 = some (r, hz)) : gx_G p l e R s m args below meth c D h0 hz 2 (gx_MQX below args s D h0 hz (gx_xi r)) 0 [(0, (va_rf (some a0))), (1, (.int p1))] [] h0 := by
  unfold f_X1_initialValueOf at hf
  replace hf := gx_bs hf
  obtain ⟨_, -, hf⟩ := hf
  refine gx_aload_n C dX1_initialValueOf_0 0 rfl ?_
  refine gx_iload_n C dX1_initialValueOf_1 1 rfl ?_
  replace hf := gx_bxs hf
  rcases hf with ⟨u5, h2, g1, hf⟩ | ⟨E3, q4, h2, g1, hf⟩
  · refine gx_xcallV (st := []) C (w_X1_checkVariable hlt g1) (is_X1_checkVariable g1) gz_108 rfl (lw_V q2312 q2314 qs44 q121 q2315) gz_464 (by decide) rfl rfl (gx_catn (Nat.le_of_ble_eq_true rfl)) dX1_initialValueOf_2 (gx_k2l ?_)
    refine gx_aload_n C dX1_initialValueOf_5 0 rfl ?_
    replace hf := gx_bs hf
    obtain ⟨r6, g12, hf⟩ := hf
    refine gx_gr C g12 gz_20 q892 dX1_initialValueOf_6 ?_
    replace hf := gx_bs hf
    obtain ⟨a7, rfl, hf⟩ := hf
    replace hf := gx_bs hf
    obtain ⟨x8, g11, hf⟩ := hf
    refine gx_giN C g11 gz_49 q574 dX1_initialValueOf_9 ?_
    refine gx_iload_n C dX1_initialValueOf_12 1 rfl ?_
    replace hf := gx_bs hf
    obtain ⟨x10, g9, hf⟩ := hf
    refine gx_callS (st := []) C (w_X1_valueIn hlt g9) (lw_S q1897 q1448 q121 q1449) gz_216 (by decide) rfl rfl (gx_catn (Nat.le_of_ble_eq_true rfl)) dX1_initialValueOf_13 ?_
    obtain ⟨rfl, rfl⟩ := Prod.mk.inj (Option.some.inj hf)
    exact gx_ret (gx_iret C dX1_initialValueOf_16)
  · refine gx_xcallV (st := []) C (w_X1_checkVariable hlt g1) (is_X1_checkVariable g1) gz_108 rfl (lw_V q2312 q2314 qs44 q121 q2315) gz_464 (by decide) rfl rfl (gx_catn (Nat.le_of_ble_eq_true rfl)) dX1_initialValueOf_2 (gx_k2r ?_)
    obtain ⟨rfl, rfl⟩ := Prod.mk.inj (Option.some.inj hf)
    exact gx_out C hx
theorem le_X1_initialValueOf {D : gx_D} {r : Int32 ⊕ (String × Nat)} {hz : HX} {h : HX} {a0 : Nat} {p1 : Int32} (hf : f_X1_initialValueOf D h a0 p1 = some (r, hz)) : gx_le h hz := by
  unfold f_X1_initialValueOf at hf
  replace hf := gx_bs hf
  obtain ⟨_, -, hf⟩ := hf
  replace hf := gx_bxs hf
  rcases hf with ⟨u5, h2, g1, hf⟩ | ⟨E3, q4, h2, g1, hf⟩
  · refine (le_X1_checkVariable g1).tr ?_
    replace hf := gx_bs hf
    obtain ⟨r6, g12, hf⟩ := hf
    replace hf := gx_bs hf
    obtain ⟨a7, rfl, hf⟩ := hf
    replace hf := gx_bs hf
    obtain ⟨x8, g11, hf⟩ := hf
    replace hf := gx_bs hf
    obtain ⟨x10, g9, hf⟩ := hf
    obtain ⟨rfl, rfl⟩ := Prod.mk.inj (Option.some.inj hf)
    exact gx_le.rf
  · refine (le_X1_checkVariable g1).tr ?_
    obtain ⟨rfl, rfl⟩ := Prod.mk.inj (Option.some.inj hf)
    exact gx_le.rf
theorem w_X1_initialValueOf {l : Launch} (hlt : l.stackTraces = false) {D : gx_D} {h : HX} {a0 : Nat} {p1 : Int32} {r : Int32 ⊕ (String × Nat)} {hz : HX} (hf : f_X1_initialValueOf D h a0 p1 = some (r, hz)) : gx_MetX l yX1_initialValueOf (ws_ yX1_initialValueOf cX1_initialValueOf 2 (some .int)) 9 151 D [(va_rf (some a0)), (.int p1)] h (gx_xi r) hz :=
  gx_ofGX gz_26 (by simp only [gx_lsr, gx_lsi, gx_lsj, gx_ls0]; decide) (le_X1_initialValueOf hf) (fun p e R s m args below meth c C hn hx => by
    simp only [gx_lar, gx_lai, gx_laj, gx_la0, Nat.reduceAdd]
    exact w_X1_initialValueOf_b hlt C hx hf)
def f_X1_transition (D : gx_D) (h : HX) (a0 : Nat) (p1 : Int32) : Option ((Option Nat ⊕ (String × Nat)) × HX) :=
  (hx_is h a0 [9]).bind fun _ =>
  (hx_gr h a0 [9] 5).bind fun r1 =>
  r1.bind fun a2 =>
  (hx_gr h a2 [10] 3).bind fun r3 =>
  r3.bind fun a4 =>
  (f_J2_size D h a4).bind fun x6 =>
  gx_bx (f_X1_checkIndex D h p1 x6) (fun u11 h8 =>
  (hx_gr h8 a0 [9] 5).bind fun r12 =>
  r12.bind fun a13 =>
  (hx_gr h8 a13 [10] 3).bind fun r14 =>
  r14.bind fun a15 =>
  (f_J2_get D h8 a15 p1).bind fun r17 =>
  (hx_cast h8 r17 [13]).bind fun u18 =>
  some (.inl r17, h8)) fun E9 q10 h8 =>
  some (.inr (E9, q10), h8)
theorem is_X1_transition {D : gx_D} {h : HX} {a0 : Nat} {p1 : Int32} {z} (hf : f_X1_transition D h a0 p1 = some z) : gx_isC h a0 [9] := by
  unfold f_X1_transition at hf
  obtain ⟨_, g, -⟩ := gx_bs hf
  exact hx_is_of g
theorem w_X1_transition_b {l : Launch} (hlt : l.stackTraces = false) {p : Program} {e : Env} {R : Room} {s : State} {m : MethodId} {args : Array Value} {below : List Frame} {meth : Method} {c : Code} {D : gx_D} {h0 : HX} {r : Option Nat ⊕ (String × Nat)} {hz : HX} (C : gx_Ctx p R s m args meth c "ContractMachine" cX1_transition 2 (some (.object "ContractMachine$Transition")) 8 130 D h0 hz) (hx : ∀ x ∈ c.exceptionTable.toList, False) {a0 : Nat} {p1 : Int32} (hf : f_X1_transition D h0 a0 p1 = some (r, hz)) : gx_G p l e R s m args below meth c D h0 hz 2 (gx_MQX below args s D h0 hz (gx_xa r)) 0 [(0, (va_rf (some a0))), (1, (.int p1))] [] h0 := by
  unfold f_X1_transition at hf
  replace hf := gx_bs hf
  obtain ⟨_, -, hf⟩ := hf
  refine gx_iload_n C dX1_transition_0 1 rfl ?_
  refine gx_aload_n C dX1_transition_1 0 rfl ?_
  replace hf := gx_bs hf
  obtain ⟨r1, g23, hf⟩ := hf
  refine gx_gr C g23 gz_20 q892 dX1_transition_2 ?_
  replace hf := gx_bs hf
  obtain ⟨a2, rfl, hf⟩ := hf
  replace hf := gx_bs hf
  obtain ⟨r3, g22, hf⟩ := hf
  refine gx_grN C g22 gz_21 q572 dX1_transition_5 ?_
  replace hf := gx_bs hf
  obtain ⟨a4, rfl, hf⟩ := hf
  replace hf := gx_bs hf
  obtain ⟨x6, g5, hf⟩ := hf
  refine gx_callF (st := [(.int p1)]) C (w_J2_size hlt g5) (is_J2_size g5) q1481 (gx_cis1 gz_19 ⟨gz_51, q770⟩ gx_cis0) q772 q127 q774 gz_50 (by decide) rfl rfl (gx_catn (Nat.le_of_ble_eq_true rfl)) dX1_transition_8 ?_
  replace hf := gx_bxs hf
  rcases hf with ⟨u11, h8, g7, hf⟩ | ⟨E9, q10, h8, g7, hf⟩
  · refine gx_xcallS (st := []) C (w_X1_checkIndex hlt g7) (lw_S q2268 q2269 q121 q2270) gz_462 (by decide) rfl rfl (gx_catn (Nat.le_of_ble_eq_true rfl)) dX1_transition_13 (gx_k2l ?_)
    refine gx_aload_n C dX1_transition_16 0 rfl ?_
    replace hf := gx_bs hf
    obtain ⟨r12, g21, hf⟩ := hf
    refine gx_gr C g21 gz_20 q892 dX1_transition_17 ?_
    replace hf := gx_bs hf
    obtain ⟨a13, rfl, hf⟩ := hf
    replace hf := gx_bs hf
    obtain ⟨r14, g20, hf⟩ := hf
    refine gx_grN C g20 gz_21 q572 dX1_transition_20 ?_
    refine gx_iload_n C dX1_transition_23 1 rfl ?_
    replace hf := gx_bs hf
    obtain ⟨a15, rfl, hf⟩ := hf
    replace hf := gx_bs hf
    obtain ⟨r17, g16, hf⟩ := hf
    refine gx_callF (st := []) C (w_J2_get hlt g16) (is_J2_get g16) q1804 (gx_cis1 gz_19 ⟨gz_222, q1307⟩ gx_cis0) q1309 q127 q1311 gz_221 (by decide) rfl rfl (gx_catn (Nat.le_of_ble_eq_true rfl)) dX1_transition_24 ?_
    replace hf := gx_bs hf
    obtain ⟨u18, g19, hf⟩ := hf
    refine gx_cast C g19 gz_295 q803 dX1_transition_29 ?_
    obtain ⟨rfl, rfl⟩ := Prod.mk.inj (Option.some.inj hf)
    exact gx_ret (gx_aret C rfl rfl dX1_transition_32)
  · refine gx_xcallS (st := []) C (w_X1_checkIndex hlt g7) (lw_S q2268 q2269 q121 q2270) gz_462 (by decide) rfl rfl (gx_catn (Nat.le_of_ble_eq_true rfl)) dX1_transition_13 (gx_k2r ?_)
    obtain ⟨rfl, rfl⟩ := Prod.mk.inj (Option.some.inj hf)
    exact gx_out C hx
theorem le_X1_transition {D : gx_D} {r : Option Nat ⊕ (String × Nat)} {hz : HX} {h : HX} {a0 : Nat} {p1 : Int32} (hf : f_X1_transition D h a0 p1 = some (r, hz)) : gx_le h hz := by
  unfold f_X1_transition at hf
  replace hf := gx_bs hf
  obtain ⟨_, -, hf⟩ := hf
  replace hf := gx_bs hf
  obtain ⟨r1, g23, hf⟩ := hf
  replace hf := gx_bs hf
  obtain ⟨a2, rfl, hf⟩ := hf
  replace hf := gx_bs hf
  obtain ⟨r3, g22, hf⟩ := hf
  replace hf := gx_bs hf
  obtain ⟨a4, rfl, hf⟩ := hf
  replace hf := gx_bs hf
  obtain ⟨x6, g5, hf⟩ := hf
  replace hf := gx_bxs hf
  rcases hf with ⟨u11, h8, g7, hf⟩ | ⟨E9, q10, h8, g7, hf⟩
  · refine (le_X1_checkIndex g7).tr ?_
    replace hf := gx_bs hf
    obtain ⟨r12, g21, hf⟩ := hf
    replace hf := gx_bs hf
    obtain ⟨a13, rfl, hf⟩ := hf
    replace hf := gx_bs hf
    obtain ⟨r14, g20, hf⟩ := hf
    replace hf := gx_bs hf
    obtain ⟨a15, rfl, hf⟩ := hf
    replace hf := gx_bs hf
    obtain ⟨r17, g16, hf⟩ := hf
    replace hf := gx_bs hf
    obtain ⟨u18, g19, hf⟩ := hf
    obtain ⟨rfl, rfl⟩ := Prod.mk.inj (Option.some.inj hf)
    exact gx_le.rf
  · refine (le_X1_checkIndex g7).tr ?_
    obtain ⟨rfl, rfl⟩ := Prod.mk.inj (Option.some.inj hf)
    exact gx_le.rf
theorem w_X1_transition {l : Launch} (hlt : l.stackTraces = false) {D : gx_D} {h : HX} {a0 : Nat} {p1 : Int32} {r : Option Nat ⊕ (String × Nat)} {hz : HX} (hf : f_X1_transition D h a0 p1 = some (r, hz)) : gx_MetX l yX1_transition (ws_ yX1_transition cX1_transition 2 (some (.object "ContractMachine$Transition"))) 8 130 D [(va_rf (some a0)), (.int p1)] h (gx_xa r) hz :=
  gx_ofGX gz_26 (by simp only [gx_lsr, gx_lsi, gx_lsj, gx_ls0]; decide) (le_X1_transition hf) (fun p e R s m args below meth c C hn hx => by
    simp only [gx_lar, gx_lai, gx_laj, gx_la0, Nat.reduceAdd]
    exact w_X1_transition_b hlt C hx hf)
def f_X1_sourceOf (D : gx_D) (h : HX) (a0 : Nat) (p1 : Int32) : Option ((Int32 ⊕ (String × Nat)) × HX) :=
  (hx_is h a0 [9]).bind fun _ =>
  gx_bx (f_X1_transition D h a0 p1) (fun r2 h3 =>
  r2.bind fun a6 =>
  (hx_gi h3 a6 [13] 0).bind fun x7 =>
  some (.inl x7, h3)) fun E4 q5 h3 =>
  some (.inr (E4, q5), h3)
theorem is_X1_sourceOf {D : gx_D} {h : HX} {a0 : Nat} {p1 : Int32} {z} (hf : f_X1_sourceOf D h a0 p1 = some z) : gx_isC h a0 [9] := by
  unfold f_X1_sourceOf at hf
  obtain ⟨_, g, -⟩ := gx_bs hf
  exact hx_is_of g
theorem w_X1_sourceOf_b {l : Launch} (hlt : l.stackTraces = false) {p : Program} {e : Env} {R : Room} {s : State} {m : MethodId} {args : Array Value} {below : List Frame} {meth : Method} {c : Code} {D : gx_D} {h0 : HX} {r : Int32 ⊕ (String × Nat)} {hz : HX} (C : gx_Ctx p R s m args meth c "ContractMachine" cX1_sourceOf 2 (some .int) 9 151 D h0 hz) (hx : ∀ x ∈ c.exceptionTable.toList, False) {a0 : Nat} {p1 : Int32} (hf : f_X1_sourceOf D h0 a0 p1 = some (r, hz)) : gx_G p l e R s m args below meth c D h0 hz 2 (gx_MQX below args s D h0 hz (gx_xi r)) 0 [(0, (va_rf (some a0))), (1, (.int p1))] [] h0 := by
  unfold f_X1_sourceOf at hf
  replace hf := gx_bs hf
  obtain ⟨_, -, hf⟩ := hf
  refine gx_aload_n C dX1_sourceOf_0 0 rfl ?_
  refine gx_iload_n C dX1_sourceOf_1 1 rfl ?_
  replace hf := gx_bxs hf
  rcases hf with ⟨r2, h3, g1, hf⟩ | ⟨E4, q5, h3, g1, hf⟩
  · refine gx_xcallV (st := []) C (w_X1_transition hlt g1) (is_X1_transition g1) gz_108 rfl (lw_V q2330 q2332 qs45 q121 q2333) gz_465 (by decide) rfl rfl (gx_catn (Nat.le_of_ble_eq_true rfl)) dX1_sourceOf_2 (gx_k2l ?_)
    replace hf := gx_bs hf
    obtain ⟨a6, rfl, hf⟩ := hf
    replace hf := gx_bs hf
    obtain ⟨x7, g8, hf⟩ := hf
    refine gx_giN C g8 gz_0 q811 dX1_sourceOf_5 ?_
    obtain ⟨rfl, rfl⟩ := Prod.mk.inj (Option.some.inj hf)
    exact gx_ret (gx_iret C dX1_sourceOf_8)
  · refine gx_xcallV (st := []) C (w_X1_transition hlt g1) (is_X1_transition g1) gz_108 rfl (lw_V q2330 q2332 qs45 q121 q2333) gz_465 (by decide) rfl rfl (gx_catn (Nat.le_of_ble_eq_true rfl)) dX1_sourceOf_2 (gx_k2r ?_)
    obtain ⟨rfl, rfl⟩ := Prod.mk.inj (Option.some.inj hf)
    exact gx_out C hx
theorem le_X1_sourceOf {D : gx_D} {r : Int32 ⊕ (String × Nat)} {hz : HX} {h : HX} {a0 : Nat} {p1 : Int32} (hf : f_X1_sourceOf D h a0 p1 = some (r, hz)) : gx_le h hz := by
  unfold f_X1_sourceOf at hf
  replace hf := gx_bs hf
  obtain ⟨_, -, hf⟩ := hf
  replace hf := gx_bxs hf
  rcases hf with ⟨r2, h3, g1, hf⟩ | ⟨E4, q5, h3, g1, hf⟩
  · refine (le_X1_transition g1).tr ?_
    replace hf := gx_bs hf
    obtain ⟨a6, rfl, hf⟩ := hf
    replace hf := gx_bs hf
    obtain ⟨x7, g8, hf⟩ := hf
    obtain ⟨rfl, rfl⟩ := Prod.mk.inj (Option.some.inj hf)
    exact gx_le.rf
  · refine (le_X1_transition g1).tr ?_
    obtain ⟨rfl, rfl⟩ := Prod.mk.inj (Option.some.inj hf)
    exact gx_le.rf
theorem w_X1_sourceOf {l : Launch} (hlt : l.stackTraces = false) {D : gx_D} {h : HX} {a0 : Nat} {p1 : Int32} {r : Int32 ⊕ (String × Nat)} {hz : HX} (hf : f_X1_sourceOf D h a0 p1 = some (r, hz)) : gx_MetX l yX1_sourceOf (ws_ yX1_sourceOf cX1_sourceOf 2 (some .int)) 9 151 D [(va_rf (some a0)), (.int p1)] h (gx_xi r) hz :=
  gx_ofGX gz_26 (by simp only [gx_lsr, gx_lsi, gx_lsj, gx_ls0]; decide) (le_X1_sourceOf hf) (fun p e R s m args below meth c C hn hx => by
    simp only [gx_lar, gx_lai, gx_laj, gx_la0, Nat.reduceAdd]
    exact w_X1_sourceOf_b hlt C hx hf)
def f_X1_eventOf (D : gx_D) (h : HX) (a0 : Nat) (p1 : Int32) : Option ((Int32 ⊕ (String × Nat)) × HX) :=
  (hx_is h a0 [9]).bind fun _ =>
  gx_bx (f_X1_transition D h a0 p1) (fun r2 h3 =>
  r2.bind fun a6 =>
  (hx_gi h3 a6 [13] 1).bind fun x7 =>
  some (.inl x7, h3)) fun E4 q5 h3 =>
  some (.inr (E4, q5), h3)
theorem is_X1_eventOf {D : gx_D} {h : HX} {a0 : Nat} {p1 : Int32} {z} (hf : f_X1_eventOf D h a0 p1 = some z) : gx_isC h a0 [9] := by
  unfold f_X1_eventOf at hf
  obtain ⟨_, g, -⟩ := gx_bs hf
  exact hx_is_of g
theorem w_X1_eventOf_b {l : Launch} (hlt : l.stackTraces = false) {p : Program} {e : Env} {R : Room} {s : State} {m : MethodId} {args : Array Value} {below : List Frame} {meth : Method} {c : Code} {D : gx_D} {h0 : HX} {r : Int32 ⊕ (String × Nat)} {hz : HX} (C : gx_Ctx p R s m args meth c "ContractMachine" cX1_eventOf 2 (some .int) 9 151 D h0 hz) (hx : ∀ x ∈ c.exceptionTable.toList, False) {a0 : Nat} {p1 : Int32} (hf : f_X1_eventOf D h0 a0 p1 = some (r, hz)) : gx_G p l e R s m args below meth c D h0 hz 2 (gx_MQX below args s D h0 hz (gx_xi r)) 0 [(0, (va_rf (some a0))), (1, (.int p1))] [] h0 := by
  unfold f_X1_eventOf at hf
  replace hf := gx_bs hf
  obtain ⟨_, -, hf⟩ := hf
  refine gx_aload_n C dX1_eventOf_0 0 rfl ?_
  refine gx_iload_n C dX1_eventOf_1 1 rfl ?_
  replace hf := gx_bxs hf
  rcases hf with ⟨r2, h3, g1, hf⟩ | ⟨E4, q5, h3, g1, hf⟩
  · refine gx_xcallV (st := []) C (w_X1_transition hlt g1) (is_X1_transition g1) gz_108 rfl (lw_V q2330 q2332 qs45 q121 q2333) gz_465 (by decide) rfl rfl (gx_catn (Nat.le_of_ble_eq_true rfl)) dX1_eventOf_2 (gx_k2l ?_)
    replace hf := gx_bs hf
    obtain ⟨a6, rfl, hf⟩ := hf
    replace hf := gx_bs hf
    obtain ⟨x7, g8, hf⟩ := hf
    refine gx_giN C g8 gz_2 q815 dX1_eventOf_5 ?_
    obtain ⟨rfl, rfl⟩ := Prod.mk.inj (Option.some.inj hf)
    exact gx_ret (gx_iret C dX1_eventOf_8)
  · refine gx_xcallV (st := []) C (w_X1_transition hlt g1) (is_X1_transition g1) gz_108 rfl (lw_V q2330 q2332 qs45 q121 q2333) gz_465 (by decide) rfl rfl (gx_catn (Nat.le_of_ble_eq_true rfl)) dX1_eventOf_2 (gx_k2r ?_)
    obtain ⟨rfl, rfl⟩ := Prod.mk.inj (Option.some.inj hf)
    exact gx_out C hx
theorem le_X1_eventOf {D : gx_D} {r : Int32 ⊕ (String × Nat)} {hz : HX} {h : HX} {a0 : Nat} {p1 : Int32} (hf : f_X1_eventOf D h a0 p1 = some (r, hz)) : gx_le h hz := by
  unfold f_X1_eventOf at hf
  replace hf := gx_bs hf
  obtain ⟨_, -, hf⟩ := hf
  replace hf := gx_bxs hf
  rcases hf with ⟨r2, h3, g1, hf⟩ | ⟨E4, q5, h3, g1, hf⟩
  · refine (le_X1_transition g1).tr ?_
    replace hf := gx_bs hf
    obtain ⟨a6, rfl, hf⟩ := hf
    replace hf := gx_bs hf
    obtain ⟨x7, g8, hf⟩ := hf
    obtain ⟨rfl, rfl⟩ := Prod.mk.inj (Option.some.inj hf)
    exact gx_le.rf
  · refine (le_X1_transition g1).tr ?_
    obtain ⟨rfl, rfl⟩ := Prod.mk.inj (Option.some.inj hf)
    exact gx_le.rf
theorem w_X1_eventOf {l : Launch} (hlt : l.stackTraces = false) {D : gx_D} {h : HX} {a0 : Nat} {p1 : Int32} {r : Int32 ⊕ (String × Nat)} {hz : HX} (hf : f_X1_eventOf D h a0 p1 = some (r, hz)) : gx_MetX l yX1_eventOf (ws_ yX1_eventOf cX1_eventOf 2 (some .int)) 9 151 D [(va_rf (some a0)), (.int p1)] h (gx_xi r) hz :=
  gx_ofGX gz_26 (by simp only [gx_lsr, gx_lsi, gx_lsj, gx_ls0]; decide) (le_X1_eventOf hf) (fun p e R s m args below meth c C hn hx => by
    simp only [gx_lar, gx_lai, gx_laj, gx_la0, Nat.reduceAdd]
    exact w_X1_eventOf_b hlt C hx hf)
def f_X1_targetOf (D : gx_D) (h : HX) (a0 : Nat) (p1 : Int32) : Option ((Int32 ⊕ (String × Nat)) × HX) :=
  (hx_is h a0 [9]).bind fun _ =>
  gx_bx (f_X1_transition D h a0 p1) (fun r2 h3 =>
  r2.bind fun a6 =>
  (hx_gi h3 a6 [13] 2).bind fun x7 =>
  some (.inl x7, h3)) fun E4 q5 h3 =>
  some (.inr (E4, q5), h3)
theorem is_X1_targetOf {D : gx_D} {h : HX} {a0 : Nat} {p1 : Int32} {z} (hf : f_X1_targetOf D h a0 p1 = some z) : gx_isC h a0 [9] := by
  unfold f_X1_targetOf at hf
  obtain ⟨_, g, -⟩ := gx_bs hf
  exact hx_is_of g
theorem w_X1_targetOf_b {l : Launch} (hlt : l.stackTraces = false) {p : Program} {e : Env} {R : Room} {s : State} {m : MethodId} {args : Array Value} {below : List Frame} {meth : Method} {c : Code} {D : gx_D} {h0 : HX} {r : Int32 ⊕ (String × Nat)} {hz : HX} (C : gx_Ctx p R s m args meth c "ContractMachine" cX1_targetOf 2 (some .int) 9 151 D h0 hz) (hx : ∀ x ∈ c.exceptionTable.toList, False) {a0 : Nat} {p1 : Int32} (hf : f_X1_targetOf D h0 a0 p1 = some (r, hz)) : gx_G p l e R s m args below meth c D h0 hz 2 (gx_MQX below args s D h0 hz (gx_xi r)) 0 [(0, (va_rf (some a0))), (1, (.int p1))] [] h0 := by
  unfold f_X1_targetOf at hf
  replace hf := gx_bs hf
  obtain ⟨_, -, hf⟩ := hf
  refine gx_aload_n C dX1_targetOf_0 0 rfl ?_
  refine gx_iload_n C dX1_targetOf_1 1 rfl ?_
  replace hf := gx_bxs hf
  rcases hf with ⟨r2, h3, g1, hf⟩ | ⟨E4, q5, h3, g1, hf⟩
  · refine gx_xcallV (st := []) C (w_X1_transition hlt g1) (is_X1_transition g1) gz_108 rfl (lw_V q2330 q2332 qs45 q121 q2333) gz_465 (by decide) rfl rfl (gx_catn (Nat.le_of_ble_eq_true rfl)) dX1_targetOf_2 (gx_k2l ?_)
    replace hf := gx_bs hf
    obtain ⟨a6, rfl, hf⟩ := hf
    replace hf := gx_bs hf
    obtain ⟨x7, g8, hf⟩ := hf
    refine gx_giN C g8 gz_3 q817 dX1_targetOf_5 ?_
    obtain ⟨rfl, rfl⟩ := Prod.mk.inj (Option.some.inj hf)
    exact gx_ret (gx_iret C dX1_targetOf_8)
  · refine gx_xcallV (st := []) C (w_X1_transition hlt g1) (is_X1_transition g1) gz_108 rfl (lw_V q2330 q2332 qs45 q121 q2333) gz_465 (by decide) rfl rfl (gx_catn (Nat.le_of_ble_eq_true rfl)) dX1_targetOf_2 (gx_k2r ?_)
    obtain ⟨rfl, rfl⟩ := Prod.mk.inj (Option.some.inj hf)
    exact gx_out C hx
theorem le_X1_targetOf {D : gx_D} {r : Int32 ⊕ (String × Nat)} {hz : HX} {h : HX} {a0 : Nat} {p1 : Int32} (hf : f_X1_targetOf D h a0 p1 = some (r, hz)) : gx_le h hz := by
  unfold f_X1_targetOf at hf
  replace hf := gx_bs hf
  obtain ⟨_, -, hf⟩ := hf
  replace hf := gx_bxs hf
  rcases hf with ⟨r2, h3, g1, hf⟩ | ⟨E4, q5, h3, g1, hf⟩
  · refine (le_X1_transition g1).tr ?_
    replace hf := gx_bs hf
    obtain ⟨a6, rfl, hf⟩ := hf
    replace hf := gx_bs hf
    obtain ⟨x7, g8, hf⟩ := hf
    obtain ⟨rfl, rfl⟩ := Prod.mk.inj (Option.some.inj hf)
    exact gx_le.rf
  · refine (le_X1_transition g1).tr ?_
    obtain ⟨rfl, rfl⟩ := Prod.mk.inj (Option.some.inj hf)
    exact gx_le.rf
theorem w_X1_targetOf {l : Launch} (hlt : l.stackTraces = false) {D : gx_D} {h : HX} {a0 : Nat} {p1 : Int32} {r : Int32 ⊕ (String × Nat)} {hz : HX} (hf : f_X1_targetOf D h a0 p1 = some (r, hz)) : gx_MetX l yX1_targetOf (ws_ yX1_targetOf cX1_targetOf 2 (some .int)) 9 151 D [(va_rf (some a0)), (.int p1)] h (gx_xi r) hz :=
  gx_ofGX gz_26 (by simp only [gx_lsr, gx_lsi, gx_lsj, gx_ls0]; decide) (le_X1_targetOf hf) (fun p e R s m args below meth c C hn hx => by
    simp only [gx_lar, gx_lai, gx_laj, gx_la0, Nat.reduceAdd]
    exact w_X1_targetOf_b hlt C hx hf)
def f_X1_hasGuard (D : gx_D) (h : HX) (a0 : Nat) (p1 : Int32) : Option ((Bool ⊕ (String × Nat)) × HX) :=
  (hx_is h a0 [9]).bind fun _ =>
  gx_bx (f_X1_transition D h a0 p1) (fun r2 h3 =>
  r2.bind fun a6 =>
  (hx_gr h3 a6 [13] 3).bind fun r7 =>
  gx_on r7 (
  some (.inl false, h3)) fun a8 =>
  some (.inl true, h3)) fun E4 q5 h3 =>
  some (.inr (E4, q5), h3)
theorem is_X1_hasGuard {D : gx_D} {h : HX} {a0 : Nat} {p1 : Int32} {z} (hf : f_X1_hasGuard D h a0 p1 = some z) : gx_isC h a0 [9] := by
  unfold f_X1_hasGuard at hf
  obtain ⟨_, g, -⟩ := gx_bs hf
  exact hx_is_of g
theorem w_X1_hasGuard_b {l : Launch} (hlt : l.stackTraces = false) {p : Program} {e : Env} {R : Room} {s : State} {m : MethodId} {args : Array Value} {below : List Frame} {meth : Method} {c : Code} {D : gx_D} {h0 : HX} {r : Bool ⊕ (String × Nat)} {hz : HX} (C : gx_Ctx p R s m args meth c "ContractMachine" cX1_hasGuard 2 (some .boolean) 9 151 D h0 hz) (hx : ∀ x ∈ c.exceptionTable.toList, False) {a0 : Nat} {p1 : Int32} (hf : f_X1_hasGuard D h0 a0 p1 = some (r, hz)) : gx_G p l e R s m args below meth c D h0 hz 2 (gx_MQX below args s D h0 hz (gx_xz r)) 0 [(0, (va_rf (some a0))), (1, (.int p1))] [] h0 := by
  unfold f_X1_hasGuard at hf
  replace hf := gx_bs hf
  obtain ⟨_, -, hf⟩ := hf
  refine gx_aload_n C dX1_hasGuard_0 0 rfl ?_
  refine gx_iload_n C dX1_hasGuard_1 1 rfl ?_
  replace hf := gx_bxs hf
  rcases hf with ⟨r2, h3, g1, hf⟩ | ⟨E4, q5, h3, g1, hf⟩
  · refine gx_xcallV (st := []) C (w_X1_transition hlt g1) (is_X1_transition g1) gz_108 rfl (lw_V q2330 q2332 qs45 q121 q2333) gz_465 (by decide) rfl rfl (gx_catn (Nat.le_of_ble_eq_true rfl)) dX1_hasGuard_2 (gx_k2l ?_)
    replace hf := gx_bs hf
    obtain ⟨a6, rfl, hf⟩ := hf
    replace hf := gx_bs hf
    obtain ⟨r7, g9, hf⟩ := hf
    refine gx_grN C g9 gz_4 q819 dX1_hasGuard_5 ?_
    rcases r7 with _ | a8
    · replace hf := gx_on_n hf
      refine gx_ifnull_t (tgt := 15) C dX1_hasGuard_8 rfl ?_
      refine gx_iconst (v := 0) C dX1_hasGuard_15 rfl ?_
      obtain ⟨rfl, rfl⟩ := Prod.mk.inj (Option.some.inj hf)
      exact gx_ret (gx_zret (b := false) C dX1_hasGuard_16)
    · replace hf := gx_on_s hf
      refine gx_ifnull_f C dX1_hasGuard_8 ?_
      refine gx_iconst (v := 1) C dX1_hasGuard_11 rfl ?_
      refine gx_goto (tgt := 16) C dX1_hasGuard_12 rfl ?_
      obtain ⟨rfl, rfl⟩ := Prod.mk.inj (Option.some.inj hf)
      exact gx_ret (gx_zret (b := true) C dX1_hasGuard_16)
  · refine gx_xcallV (st := []) C (w_X1_transition hlt g1) (is_X1_transition g1) gz_108 rfl (lw_V q2330 q2332 qs45 q121 q2333) gz_465 (by decide) rfl rfl (gx_catn (Nat.le_of_ble_eq_true rfl)) dX1_hasGuard_2 (gx_k2r ?_)
    obtain ⟨rfl, rfl⟩ := Prod.mk.inj (Option.some.inj hf)
    exact gx_out C hx
theorem le_X1_hasGuard {D : gx_D} {r : Bool ⊕ (String × Nat)} {hz : HX} {h : HX} {a0 : Nat} {p1 : Int32} (hf : f_X1_hasGuard D h a0 p1 = some (r, hz)) : gx_le h hz := by
  unfold f_X1_hasGuard at hf
  replace hf := gx_bs hf
  obtain ⟨_, -, hf⟩ := hf
  replace hf := gx_bxs hf
  rcases hf with ⟨r2, h3, g1, hf⟩ | ⟨E4, q5, h3, g1, hf⟩
  · refine (le_X1_transition g1).tr ?_
    replace hf := gx_bs hf
    obtain ⟨a6, rfl, hf⟩ := hf
    replace hf := gx_bs hf
    obtain ⟨r7, g9, hf⟩ := hf
    rcases r7 with _ | a8
    · replace hf := gx_on_n hf
      obtain ⟨rfl, rfl⟩ := Prod.mk.inj (Option.some.inj hf)
      exact gx_le.rf
    · replace hf := gx_on_s hf
      obtain ⟨rfl, rfl⟩ := Prod.mk.inj (Option.some.inj hf)
      exact gx_le.rf
  · refine (le_X1_transition g1).tr ?_
    obtain ⟨rfl, rfl⟩ := Prod.mk.inj (Option.some.inj hf)
    exact gx_le.rf
theorem w_X1_hasGuard {l : Launch} (hlt : l.stackTraces = false) {D : gx_D} {h : HX} {a0 : Nat} {p1 : Int32} {r : Bool ⊕ (String × Nat)} {hz : HX} (hf : f_X1_hasGuard D h a0 p1 = some (r, hz)) : gx_MetX l yX1_hasGuard (ws_ yX1_hasGuard cX1_hasGuard 2 (some .boolean)) 9 151 D [(va_rf (some a0)), (.int p1)] h (gx_xz r) hz :=
  gx_ofGX gz_26 (by simp only [gx_lsr, gx_lsi, gx_lsj, gx_ls0]; decide) (le_X1_hasGuard hf) (fun p e R s m args below meth c C hn hx => by
    simp only [gx_lar, gx_lai, gx_laj, gx_la0, Nat.reduceAdd]
    exact w_X1_hasGuard_b hlt C hx hf)
def f_X1_guardHolds (D : gx_D) (h : HX) (a0 : Nat) (p1 : Int32) : Option ((Bool ⊕ (String × Nat)) × HX) :=
  (hx_is h a0 [9]).bind fun _ =>
  gx_bx (f_X1_transition D h a0 p1) (fun r2 h3 =>
  (hx_gr h3 a0 [9] 6).bind fun r6 =>
  r6.bind fun a7 =>
  (f_X4_valuation D h3 a7).bind fun x9 =>
  r2.bind fun a10 =>
  (f_X6_isOpen D h3 a10 x9).bind fun b12 =>
  some (.inl b12, h3)) fun E4 q5 h3 =>
  some (.inr (E4, q5), h3)
theorem is_X1_guardHolds {D : gx_D} {h : HX} {a0 : Nat} {p1 : Int32} {z} (hf : f_X1_guardHolds D h a0 p1 = some z) : gx_isC h a0 [9] := by
  unfold f_X1_guardHolds at hf
  obtain ⟨_, g, -⟩ := gx_bs hf
  exact hx_is_of g
theorem w_X1_guardHolds_b {l : Launch} (hlt : l.stackTraces = false) {p : Program} {e : Env} {R : Room} {s : State} {m : MethodId} {args : Array Value} {below : List Frame} {meth : Method} {c : Code} {D : gx_D} {h0 : HX} {r : Bool ⊕ (String × Nat)} {hz : HX} (C : gx_Ctx p R s m args meth c "ContractMachine" cX1_guardHolds 2 (some .boolean) 9 151 D h0 hz) (hx : ∀ x ∈ c.exceptionTable.toList, False) {a0 : Nat} {p1 : Int32} (hf : f_X1_guardHolds D h0 a0 p1 = some (r, hz)) : gx_G p l e R s m args below meth c D h0 hz 2 (gx_MQX below args s D h0 hz (gx_xz r)) 0 [(0, (va_rf (some a0))), (1, (.int p1))] [] h0 := by
  unfold f_X1_guardHolds at hf
  replace hf := gx_bs hf
  obtain ⟨_, -, hf⟩ := hf
  refine gx_aload_n C dX1_guardHolds_0 0 rfl ?_
  refine gx_iload_n C dX1_guardHolds_1 1 rfl ?_
  replace hf := gx_bxs hf
  rcases hf with ⟨r2, h3, g1, hf⟩ | ⟨E4, q5, h3, g1, hf⟩
  · refine gx_xcallV (st := []) C (w_X1_transition hlt g1) (is_X1_transition g1) gz_108 rfl (lw_V q2330 q2332 qs45 q121 q2333) gz_465 (by decide) rfl rfl (gx_catn (Nat.le_of_ble_eq_true rfl)) dX1_guardHolds_2 (gx_k2l ?_)
    refine gx_aload_n C dX1_guardHolds_5 0 rfl ?_
    replace hf := gx_bs hf
    obtain ⟨r6, g13, hf⟩ := hf
    refine gx_gr C g13 gz_85 q896 dX1_guardHolds_6 ?_
    replace hf := gx_bs hf
    obtain ⟨a7, rfl, hf⟩ := hf
    replace hf := gx_bs hf
    obtain ⟨x9, g8, hf⟩ := hf
    refine gx_callV (st := [(va_rf r2)]) C (w_X4_valuation hlt g8) (is_X4_valuation g8) gz_13 rfl (lw_V q1893 q1894 q1895 q144 q1896) gz_329 (by decide) rfl rfl (gx_catn (Nat.le_of_ble_eq_true rfl)) dX1_guardHolds_9 ?_
    replace hf := gx_bs hf
    obtain ⟨a10, rfl, hf⟩ := hf
    replace hf := gx_bs hf
    obtain ⟨b12, g11, hf⟩ := hf
    refine gx_callV (st := []) C (w_X6_isOpen hlt g11) (is_X6_isOpen g11) gz_12 rfl (lw_V q2362 q1795 q1796 q148 q1797) gz_297 (by decide) rfl rfl (gx_catn (Nat.le_of_ble_eq_true rfl)) dX1_guardHolds_12 ?_
    obtain ⟨rfl, rfl⟩ := Prod.mk.inj (Option.some.inj hf)
    exact gx_ret (gx_zret (b := _) C dX1_guardHolds_15)
  · refine gx_xcallV (st := []) C (w_X1_transition hlt g1) (is_X1_transition g1) gz_108 rfl (lw_V q2330 q2332 qs45 q121 q2333) gz_465 (by decide) rfl rfl (gx_catn (Nat.le_of_ble_eq_true rfl)) dX1_guardHolds_2 (gx_k2r ?_)
    obtain ⟨rfl, rfl⟩ := Prod.mk.inj (Option.some.inj hf)
    exact gx_out C hx
theorem le_X1_guardHolds {D : gx_D} {r : Bool ⊕ (String × Nat)} {hz : HX} {h : HX} {a0 : Nat} {p1 : Int32} (hf : f_X1_guardHolds D h a0 p1 = some (r, hz)) : gx_le h hz := by
  unfold f_X1_guardHolds at hf
  replace hf := gx_bs hf
  obtain ⟨_, -, hf⟩ := hf
  replace hf := gx_bxs hf
  rcases hf with ⟨r2, h3, g1, hf⟩ | ⟨E4, q5, h3, g1, hf⟩
  · refine (le_X1_transition g1).tr ?_
    replace hf := gx_bs hf
    obtain ⟨r6, g13, hf⟩ := hf
    replace hf := gx_bs hf
    obtain ⟨a7, rfl, hf⟩ := hf
    replace hf := gx_bs hf
    obtain ⟨x9, g8, hf⟩ := hf
    replace hf := gx_bs hf
    obtain ⟨a10, rfl, hf⟩ := hf
    replace hf := gx_bs hf
    obtain ⟨b12, g11, hf⟩ := hf
    obtain ⟨rfl, rfl⟩ := Prod.mk.inj (Option.some.inj hf)
    exact gx_le.rf
  · refine (le_X1_transition g1).tr ?_
    obtain ⟨rfl, rfl⟩ := Prod.mk.inj (Option.some.inj hf)
    exact gx_le.rf
theorem w_X1_guardHolds {l : Launch} (hlt : l.stackTraces = false) {D : gx_D} {h : HX} {a0 : Nat} {p1 : Int32} {r : Bool ⊕ (String × Nat)} {hz : HX} (hf : f_X1_guardHolds D h a0 p1 = some (r, hz)) : gx_MetX l yX1_guardHolds (ws_ yX1_guardHolds cX1_guardHolds 2 (some .boolean)) 9 151 D [(va_rf (some a0)), (.int p1)] h (gx_xz r) hz :=
  gx_ofGX gz_26 (by simp only [gx_lsr, gx_lsi, gx_lsj, gx_ls0]; decide) (le_X1_guardHolds hf) (fun p e R s m args below meth c C hn hx => by
    simp only [gx_lar, gx_lai, gx_laj, gx_la0, Nat.reduceAdd]
    exact w_X1_guardHolds_b hlt C hx hf)
def f_X1_invariant (D : gx_D) (h : HX) (a0 : Nat) (p1 : Int32) : Option ((Option Nat ⊕ (String × Nat)) × HX) :=
  (hx_is h a0 [9]).bind fun _ =>
  (hx_gr h a0 [9] 6).bind fun r1 =>
  r1.bind fun a2 =>
  (hx_gr h a2 [11] 0).bind fun r3 =>
  r3.bind fun a4 =>
  (f_J2_size D h a4).bind fun x6 =>
  gx_bx (f_X1_checkIndex D h p1 x6) (fun u11 h8 =>
  (hx_gr h8 a0 [9] 6).bind fun r12 =>
  r12.bind fun a13 =>
  (hx_gr h8 a13 [11] 0).bind fun r14 =>
  r14.bind fun a15 =>
  (f_J2_get D h8 a15 p1).bind fun r17 =>
  (hx_cast h8 r17 [15]).bind fun u18 =>
  some (.inl r17, h8)) fun E9 q10 h8 =>
  some (.inr (E9, q10), h8)
theorem is_X1_invariant {D : gx_D} {h : HX} {a0 : Nat} {p1 : Int32} {z} (hf : f_X1_invariant D h a0 p1 = some z) : gx_isC h a0 [9] := by
  unfold f_X1_invariant at hf
  obtain ⟨_, g, -⟩ := gx_bs hf
  exact hx_is_of g
theorem w_X1_invariant_b {l : Launch} (hlt : l.stackTraces = false) {p : Program} {e : Env} {R : Room} {s : State} {m : MethodId} {args : Array Value} {below : List Frame} {meth : Method} {c : Code} {D : gx_D} {h0 : HX} {r : Option Nat ⊕ (String × Nat)} {hz : HX} (C : gx_Ctx p R s m args meth c "ContractMachine" cX1_invariant 2 (some (.object "ContractMachine$Invariant")) 8 130 D h0 hz) (hx : ∀ x ∈ c.exceptionTable.toList, False) {a0 : Nat} {p1 : Int32} (hf : f_X1_invariant D h0 a0 p1 = some (r, hz)) : gx_G p l e R s m args below meth c D h0 hz 2 (gx_MQX below args s D h0 hz (gx_xa r)) 0 [(0, (va_rf (some a0))), (1, (.int p1))] [] h0 := by
  unfold f_X1_invariant at hf
  replace hf := gx_bs hf
  obtain ⟨_, -, hf⟩ := hf
  refine gx_iload_n C dX1_invariant_0 1 rfl ?_
  refine gx_aload_n C dX1_invariant_1 0 rfl ?_
  replace hf := gx_bs hf
  obtain ⟨r1, g23, hf⟩ := hf
  refine gx_gr C g23 gz_85 q896 dX1_invariant_2 ?_
  replace hf := gx_bs hf
  obtain ⟨a2, rfl, hf⟩ := hf
  replace hf := gx_bs hf
  obtain ⟨r3, g22, hf⟩ := hf
  refine gx_grN C g22 gz_57 q596 dX1_invariant_5 ?_
  replace hf := gx_bs hf
  obtain ⟨a4, rfl, hf⟩ := hf
  replace hf := gx_bs hf
  obtain ⟨x6, g5, hf⟩ := hf
  refine gx_callF (st := [(.int p1)]) C (w_J2_size hlt g5) (is_J2_size g5) q1481 (gx_cis1 gz_19 ⟨gz_51, q770⟩ gx_cis0) q772 q127 q774 gz_50 (by decide) rfl rfl (gx_catn (Nat.le_of_ble_eq_true rfl)) dX1_invariant_8 ?_
  replace hf := gx_bxs hf
  rcases hf with ⟨u11, h8, g7, hf⟩ | ⟨E9, q10, h8, g7, hf⟩
  · refine gx_xcallS (st := []) C (w_X1_checkIndex hlt g7) (lw_S q2268 q2269 q121 q2270) gz_462 (by decide) rfl rfl (gx_catn (Nat.le_of_ble_eq_true rfl)) dX1_invariant_13 (gx_k2l ?_)
    refine gx_aload_n C dX1_invariant_16 0 rfl ?_
    replace hf := gx_bs hf
    obtain ⟨r12, g21, hf⟩ := hf
    refine gx_gr C g21 gz_85 q896 dX1_invariant_17 ?_
    replace hf := gx_bs hf
    obtain ⟨a13, rfl, hf⟩ := hf
    replace hf := gx_bs hf
    obtain ⟨r14, g20, hf⟩ := hf
    refine gx_grN C g20 gz_57 q596 dX1_invariant_20 ?_
    refine gx_iload_n C dX1_invariant_23 1 rfl ?_
    replace hf := gx_bs hf
    obtain ⟨a15, rfl, hf⟩ := hf
    replace hf := gx_bs hf
    obtain ⟨r17, g16, hf⟩ := hf
    refine gx_callF (st := []) C (w_J2_get hlt g16) (is_J2_get g16) q1804 (gx_cis1 gz_19 ⟨gz_222, q1307⟩ gx_cis0) q1309 q127 q1311 gz_221 (by decide) rfl rfl (gx_catn (Nat.le_of_ble_eq_true rfl)) dX1_invariant_24 ?_
    replace hf := gx_bs hf
    obtain ⟨u18, g19, hf⟩ := hf
    refine gx_cast C g19 gz_223 q856 dX1_invariant_29 ?_
    obtain ⟨rfl, rfl⟩ := Prod.mk.inj (Option.some.inj hf)
    exact gx_ret (gx_aret C rfl rfl dX1_invariant_32)
  · refine gx_xcallS (st := []) C (w_X1_checkIndex hlt g7) (lw_S q2268 q2269 q121 q2270) gz_462 (by decide) rfl rfl (gx_catn (Nat.le_of_ble_eq_true rfl)) dX1_invariant_13 (gx_k2r ?_)
    obtain ⟨rfl, rfl⟩ := Prod.mk.inj (Option.some.inj hf)
    exact gx_out C hx
theorem le_X1_invariant {D : gx_D} {r : Option Nat ⊕ (String × Nat)} {hz : HX} {h : HX} {a0 : Nat} {p1 : Int32} (hf : f_X1_invariant D h a0 p1 = some (r, hz)) : gx_le h hz := by
  unfold f_X1_invariant at hf
  replace hf := gx_bs hf
  obtain ⟨_, -, hf⟩ := hf
  replace hf := gx_bs hf
  obtain ⟨r1, g23, hf⟩ := hf
  replace hf := gx_bs hf
  obtain ⟨a2, rfl, hf⟩ := hf
  replace hf := gx_bs hf
  obtain ⟨r3, g22, hf⟩ := hf
  replace hf := gx_bs hf
  obtain ⟨a4, rfl, hf⟩ := hf
  replace hf := gx_bs hf
  obtain ⟨x6, g5, hf⟩ := hf
  replace hf := gx_bxs hf
  rcases hf with ⟨u11, h8, g7, hf⟩ | ⟨E9, q10, h8, g7, hf⟩
  · refine (le_X1_checkIndex g7).tr ?_
    replace hf := gx_bs hf
    obtain ⟨r12, g21, hf⟩ := hf
    replace hf := gx_bs hf
    obtain ⟨a13, rfl, hf⟩ := hf
    replace hf := gx_bs hf
    obtain ⟨r14, g20, hf⟩ := hf
    replace hf := gx_bs hf
    obtain ⟨a15, rfl, hf⟩ := hf
    replace hf := gx_bs hf
    obtain ⟨r17, g16, hf⟩ := hf
    replace hf := gx_bs hf
    obtain ⟨u18, g19, hf⟩ := hf
    obtain ⟨rfl, rfl⟩ := Prod.mk.inj (Option.some.inj hf)
    exact gx_le.rf
  · refine (le_X1_checkIndex g7).tr ?_
    obtain ⟨rfl, rfl⟩ := Prod.mk.inj (Option.some.inj hf)
    exact gx_le.rf
theorem w_X1_invariant {l : Launch} (hlt : l.stackTraces = false) {D : gx_D} {h : HX} {a0 : Nat} {p1 : Int32} {r : Option Nat ⊕ (String × Nat)} {hz : HX} (hf : f_X1_invariant D h a0 p1 = some (r, hz)) : gx_MetX l yX1_invariant (ws_ yX1_invariant cX1_invariant 2 (some (.object "ContractMachine$Invariant"))) 8 130 D [(va_rf (some a0)), (.int p1)] h (gx_xa r) hz :=
  gx_ofGX gz_26 (by simp only [gx_lsr, gx_lsi, gx_lsj, gx_ls0]; decide) (le_X1_invariant hf) (fun p e R s m args below meth c C hn hx => by
    simp only [gx_lar, gx_lai, gx_laj, gx_la0, Nat.reduceAdd]
    exact w_X1_invariant_b hlt C hx hf)
def f_X1_stateOfInvariant (D : gx_D) (h : HX) (a0 : Nat) (p1 : Int32) : Option ((Int32 ⊕ (String × Nat)) × HX) :=
  (hx_is h a0 [9]).bind fun _ =>
  gx_bx (f_X1_invariant D h a0 p1) (fun r2 h3 =>
  r2.bind fun a6 =>
  (hx_gi h3 a6 [15] 0).bind fun x7 =>
  some (.inl x7, h3)) fun E4 q5 h3 =>
  some (.inr (E4, q5), h3)
theorem is_X1_stateOfInvariant {D : gx_D} {h : HX} {a0 : Nat} {p1 : Int32} {z} (hf : f_X1_stateOfInvariant D h a0 p1 = some z) : gx_isC h a0 [9] := by
  unfold f_X1_stateOfInvariant at hf
  obtain ⟨_, g, -⟩ := gx_bs hf
  exact hx_is_of g
theorem w_X1_stateOfInvariant_b {l : Launch} (hlt : l.stackTraces = false) {p : Program} {e : Env} {R : Room} {s : State} {m : MethodId} {args : Array Value} {below : List Frame} {meth : Method} {c : Code} {D : gx_D} {h0 : HX} {r : Int32 ⊕ (String × Nat)} {hz : HX} (C : gx_Ctx p R s m args meth c "ContractMachine" cX1_stateOfInvariant 2 (some .int) 9 151 D h0 hz) (hx : ∀ x ∈ c.exceptionTable.toList, False) {a0 : Nat} {p1 : Int32} (hf : f_X1_stateOfInvariant D h0 a0 p1 = some (r, hz)) : gx_G p l e R s m args below meth c D h0 hz 2 (gx_MQX below args s D h0 hz (gx_xi r)) 0 [(0, (va_rf (some a0))), (1, (.int p1))] [] h0 := by
  unfold f_X1_stateOfInvariant at hf
  replace hf := gx_bs hf
  obtain ⟨_, -, hf⟩ := hf
  refine gx_aload_n C dX1_stateOfInvariant_0 0 rfl ?_
  refine gx_iload_n C dX1_stateOfInvariant_1 1 rfl ?_
  replace hf := gx_bxs hf
  rcases hf with ⟨r2, h3, g1, hf⟩ | ⟨E4, q5, h3, g1, hf⟩
  · refine gx_xcallV (st := []) C (w_X1_invariant hlt g1) (is_X1_invariant g1) gz_108 rfl (lw_V q2370 q2372 qs46 q121 q2373) gz_466 (by decide) rfl rfl (gx_catn (Nat.le_of_ble_eq_true rfl)) dX1_stateOfInvariant_2 (gx_k2l ?_)
    replace hf := gx_bs hf
    obtain ⟨a6, rfl, hf⟩ := hf
    replace hf := gx_bs hf
    obtain ⟨x7, g8, hf⟩ := hf
    refine gx_giN C g8 gz_53 q865 dX1_stateOfInvariant_5 ?_
    obtain ⟨rfl, rfl⟩ := Prod.mk.inj (Option.some.inj hf)
    exact gx_ret (gx_iret C dX1_stateOfInvariant_8)
  · refine gx_xcallV (st := []) C (w_X1_invariant hlt g1) (is_X1_invariant g1) gz_108 rfl (lw_V q2370 q2372 qs46 q121 q2373) gz_466 (by decide) rfl rfl (gx_catn (Nat.le_of_ble_eq_true rfl)) dX1_stateOfInvariant_2 (gx_k2r ?_)
    obtain ⟨rfl, rfl⟩ := Prod.mk.inj (Option.some.inj hf)
    exact gx_out C hx
theorem le_X1_stateOfInvariant {D : gx_D} {r : Int32 ⊕ (String × Nat)} {hz : HX} {h : HX} {a0 : Nat} {p1 : Int32} (hf : f_X1_stateOfInvariant D h a0 p1 = some (r, hz)) : gx_le h hz := by
  unfold f_X1_stateOfInvariant at hf
  replace hf := gx_bs hf
  obtain ⟨_, -, hf⟩ := hf
  replace hf := gx_bxs hf
  rcases hf with ⟨r2, h3, g1, hf⟩ | ⟨E4, q5, h3, g1, hf⟩
  · refine (le_X1_invariant g1).tr ?_
    replace hf := gx_bs hf
    obtain ⟨a6, rfl, hf⟩ := hf
    replace hf := gx_bs hf
    obtain ⟨x7, g8, hf⟩ := hf
    obtain ⟨rfl, rfl⟩ := Prod.mk.inj (Option.some.inj hf)
    exact gx_le.rf
  · refine (le_X1_invariant g1).tr ?_
    obtain ⟨rfl, rfl⟩ := Prod.mk.inj (Option.some.inj hf)
    exact gx_le.rf
theorem w_X1_stateOfInvariant {l : Launch} (hlt : l.stackTraces = false) {D : gx_D} {h : HX} {a0 : Nat} {p1 : Int32} {r : Int32 ⊕ (String × Nat)} {hz : HX} (hf : f_X1_stateOfInvariant D h a0 p1 = some (r, hz)) : gx_MetX l yX1_stateOfInvariant (ws_ yX1_stateOfInvariant cX1_stateOfInvariant 2 (some .int)) 9 151 D [(va_rf (some a0)), (.int p1)] h (gx_xi r) hz :=
  gx_ofGX gz_26 (by simp only [gx_lsr, gx_lsi, gx_lsj, gx_ls0]; decide) (le_X1_stateOfInvariant hf) (fun p e R s m args below meth c C hn hx => by
    simp only [gx_lar, gx_lai, gx_laj, gx_la0, Nat.reduceAdd]
    exact w_X1_stateOfInvariant_b hlt C hx hf)
def f_X1_comparisonHolds (D : gx_D) (h : HX) (a0 : Nat) (p1 : Int32) : Option ((Bool ⊕ (String × Nat)) × HX) :=
  (hx_is h a0 [9]).bind fun _ =>
  gx_bx (f_X1_invariant D h a0 p1) (fun r2 h3 =>
  r2.bind fun a6 =>
  (hx_gr h3 a6 [15] 1).bind fun r7 =>
  (hx_gr h3 a0 [9] 6).bind fun r8 =>
  r8.bind fun a9 =>
  (f_X4_valuation D h3 a9).bind fun x11 =>
  r7.bind fun a12 =>
  (f_X7_holds D h3 a12 x11).bind fun b14 =>
  some (.inl b14, h3)) fun E4 q5 h3 =>
  some (.inr (E4, q5), h3)
theorem is_X1_comparisonHolds {D : gx_D} {h : HX} {a0 : Nat} {p1 : Int32} {z} (hf : f_X1_comparisonHolds D h a0 p1 = some z) : gx_isC h a0 [9] := by
  unfold f_X1_comparisonHolds at hf
  obtain ⟨_, g, -⟩ := gx_bs hf
  exact hx_is_of g
theorem w_X1_comparisonHolds_b {l : Launch} (hlt : l.stackTraces = false) {p : Program} {e : Env} {R : Room} {s : State} {m : MethodId} {args : Array Value} {below : List Frame} {meth : Method} {c : Code} {D : gx_D} {h0 : HX} {r : Bool ⊕ (String × Nat)} {hz : HX} (C : gx_Ctx p R s m args meth c "ContractMachine" cX1_comparisonHolds 2 (some .boolean) 9 151 D h0 hz) (hx : ∀ x ∈ c.exceptionTable.toList, False) {a0 : Nat} {p1 : Int32} (hf : f_X1_comparisonHolds D h0 a0 p1 = some (r, hz)) : gx_G p l e R s m args below meth c D h0 hz 2 (gx_MQX below args s D h0 hz (gx_xz r)) 0 [(0, (va_rf (some a0))), (1, (.int p1))] [] h0 := by
  unfold f_X1_comparisonHolds at hf
  replace hf := gx_bs hf
  obtain ⟨_, -, hf⟩ := hf
  refine gx_aload_n C dX1_comparisonHolds_0 0 rfl ?_
  refine gx_iload_n C dX1_comparisonHolds_1 1 rfl ?_
  replace hf := gx_bxs hf
  rcases hf with ⟨r2, h3, g1, hf⟩ | ⟨E4, q5, h3, g1, hf⟩
  · refine gx_xcallV (st := []) C (w_X1_invariant hlt g1) (is_X1_invariant g1) gz_108 rfl (lw_V q2370 q2372 qs46 q121 q2373) gz_466 (by decide) rfl rfl (gx_catn (Nat.le_of_ble_eq_true rfl)) dX1_comparisonHolds_2 (gx_k2l ?_)
    replace hf := gx_bs hf
    obtain ⟨a6, rfl, hf⟩ := hf
    replace hf := gx_bs hf
    obtain ⟨r7, g16, hf⟩ := hf
    refine gx_grN C g16 gz_54 q867 dX1_comparisonHolds_5 ?_
    refine gx_aload_n C dX1_comparisonHolds_8 0 rfl ?_
    replace hf := gx_bs hf
    obtain ⟨r8, g15, hf⟩ := hf
    refine gx_gr C g15 gz_85 q896 dX1_comparisonHolds_9 ?_
    replace hf := gx_bs hf
    obtain ⟨a9, rfl, hf⟩ := hf
    replace hf := gx_bs hf
    obtain ⟨x11, g10, hf⟩ := hf
    refine gx_callV (st := [(va_rf r7)]) C (w_X4_valuation hlt g10) (is_X4_valuation g10) gz_13 rfl (lw_V q1893 q1894 q1895 q144 q1896) gz_329 (by decide) rfl rfl (gx_catn (Nat.le_of_ble_eq_true rfl)) dX1_comparisonHolds_12 ?_
    replace hf := gx_bs hf
    obtain ⟨a12, rfl, hf⟩ := hf
    replace hf := gx_bs hf
    obtain ⟨b14, g13, hf⟩ := hf
    refine gx_callV (st := []) C (w_X7_holds hlt g13) (is_X7_holds g13) gz_107 rfl (lw_V q2381 q1444 q1445 q149 q1446) gz_217 (by decide) rfl rfl (gx_catn (Nat.le_of_ble_eq_true rfl)) dX1_comparisonHolds_15 ?_
    obtain ⟨rfl, rfl⟩ := Prod.mk.inj (Option.some.inj hf)
    exact gx_ret (gx_zret (b := _) C dX1_comparisonHolds_18)
  · refine gx_xcallV (st := []) C (w_X1_invariant hlt g1) (is_X1_invariant g1) gz_108 rfl (lw_V q2370 q2372 qs46 q121 q2373) gz_466 (by decide) rfl rfl (gx_catn (Nat.le_of_ble_eq_true rfl)) dX1_comparisonHolds_2 (gx_k2r ?_)
    obtain ⟨rfl, rfl⟩ := Prod.mk.inj (Option.some.inj hf)
    exact gx_out C hx
theorem le_X1_comparisonHolds {D : gx_D} {r : Bool ⊕ (String × Nat)} {hz : HX} {h : HX} {a0 : Nat} {p1 : Int32} (hf : f_X1_comparisonHolds D h a0 p1 = some (r, hz)) : gx_le h hz := by
  unfold f_X1_comparisonHolds at hf
  replace hf := gx_bs hf
  obtain ⟨_, -, hf⟩ := hf
  replace hf := gx_bxs hf
  rcases hf with ⟨r2, h3, g1, hf⟩ | ⟨E4, q5, h3, g1, hf⟩
  · refine (le_X1_invariant g1).tr ?_
    replace hf := gx_bs hf
    obtain ⟨a6, rfl, hf⟩ := hf
    replace hf := gx_bs hf
    obtain ⟨r7, g16, hf⟩ := hf
    replace hf := gx_bs hf
    obtain ⟨r8, g15, hf⟩ := hf
    replace hf := gx_bs hf
    obtain ⟨a9, rfl, hf⟩ := hf
    replace hf := gx_bs hf
    obtain ⟨x11, g10, hf⟩ := hf
    replace hf := gx_bs hf
    obtain ⟨a12, rfl, hf⟩ := hf
    replace hf := gx_bs hf
    obtain ⟨b14, g13, hf⟩ := hf
    obtain ⟨rfl, rfl⟩ := Prod.mk.inj (Option.some.inj hf)
    exact gx_le.rf
  · refine (le_X1_invariant g1).tr ?_
    obtain ⟨rfl, rfl⟩ := Prod.mk.inj (Option.some.inj hf)
    exact gx_le.rf
theorem w_X1_comparisonHolds {l : Launch} (hlt : l.stackTraces = false) {D : gx_D} {h : HX} {a0 : Nat} {p1 : Int32} {r : Bool ⊕ (String × Nat)} {hz : HX} (hf : f_X1_comparisonHolds D h a0 p1 = some (r, hz)) : gx_MetX l yX1_comparisonHolds (ws_ yX1_comparisonHolds cX1_comparisonHolds 2 (some .boolean)) 9 151 D [(va_rf (some a0)), (.int p1)] h (gx_xz r) hz :=
  gx_ofGX gz_26 (by simp only [gx_lsr, gx_lsi, gx_lsj, gx_ls0]; decide) (le_X1_comparisonHolds hf) (fun p e R s m args below meth c C hn hx => by
    simp only [gx_lar, gx_lai, gx_laj, gx_la0, Nat.reduceAdd]
    exact w_X1_comparisonHolds_b hlt C hx hf)
def f_X1_checkEvent (D : gx_D) (h : HX) (a0 : Nat) (p1 : Int32) : Option ((Unit ⊕ (String × Nat)) × HX) :=
  (hx_is h a0 [9]).bind fun _ =>
  (hx_gr h a0 [9] 5).bind fun r1 =>
  r1.bind fun a2 =>
  (hx_gr h a2 [10] 1).bind fun r3 =>
  r3.bind fun a4 =>
  (f_J2_size D h a4).bind fun x6 =>
  gx_bx (f_X1_checkIndex D h p1 x6) (fun u11 h8 =>
  some (.inl (), h8)) fun E9 q10 h8 =>
  some (.inr (E9, q10), h8)
theorem is_X1_checkEvent {D : gx_D} {h : HX} {a0 : Nat} {p1 : Int32} {z} (hf : f_X1_checkEvent D h a0 p1 = some z) : gx_isC h a0 [9] := by
  unfold f_X1_checkEvent at hf
  obtain ⟨_, g, -⟩ := gx_bs hf
  exact hx_is_of g
theorem w_X1_checkEvent_b {l : Launch} (hlt : l.stackTraces = false) {p : Program} {e : Env} {R : Room} {s : State} {m : MethodId} {args : Array Value} {below : List Frame} {meth : Method} {c : Code} {D : gx_D} {h0 : HX} {r : Unit ⊕ (String × Nat)} {hz : HX} (C : gx_Ctx p R s m args meth c "ContractMachine" cX1_checkEvent 2 none 8 130 D h0 hz) (hx : ∀ x ∈ c.exceptionTable.toList, False) {a0 : Nat} {p1 : Int32} (hf : f_X1_checkEvent D h0 a0 p1 = some (r, hz)) : gx_G p l e R s m args below meth c D h0 hz 2 (gx_MQX below args s D h0 hz (gx_xv r)) 0 [(0, (va_rf (some a0))), (1, (.int p1))] [] h0 := by
  unfold f_X1_checkEvent at hf
  replace hf := gx_bs hf
  obtain ⟨_, -, hf⟩ := hf
  refine gx_iload_n C dX1_checkEvent_0 1 rfl ?_
  refine gx_aload_n C dX1_checkEvent_1 0 rfl ?_
  replace hf := gx_bs hf
  obtain ⟨r1, g13, hf⟩ := hf
  refine gx_gr C g13 gz_20 q892 dX1_checkEvent_2 ?_
  replace hf := gx_bs hf
  obtain ⟨a2, rfl, hf⟩ := hf
  replace hf := gx_bs hf
  obtain ⟨r3, g12, hf⟩ := hf
  refine gx_grN C g12 gz_27 q565 dX1_checkEvent_5 ?_
  replace hf := gx_bs hf
  obtain ⟨a4, rfl, hf⟩ := hf
  replace hf := gx_bs hf
  obtain ⟨x6, g5, hf⟩ := hf
  refine gx_callF (st := [(.int p1)]) C (w_J2_size hlt g5) (is_J2_size g5) q1481 (gx_cis1 gz_19 ⟨gz_51, q770⟩ gx_cis0) q772 q127 q774 gz_50 (by decide) rfl rfl (gx_catn (Nat.le_of_ble_eq_true rfl)) dX1_checkEvent_8 ?_
  replace hf := gx_bxs hf
  rcases hf with ⟨u11, h8, g7, hf⟩ | ⟨E9, q10, h8, g7, hf⟩
  · refine gx_xcallS (st := []) C (w_X1_checkIndex hlt g7) (lw_S q2268 q2269 q121 q2270) gz_462 (by decide) rfl rfl (gx_catn (Nat.le_of_ble_eq_true rfl)) dX1_checkEvent_13 (gx_k2l ?_)
    obtain ⟨rfl, rfl⟩ := Prod.mk.inj (Option.some.inj hf)
    exact gx_ret (gx_vret C dX1_checkEvent_16)
  · refine gx_xcallS (st := []) C (w_X1_checkIndex hlt g7) (lw_S q2268 q2269 q121 q2270) gz_462 (by decide) rfl rfl (gx_catn (Nat.le_of_ble_eq_true rfl)) dX1_checkEvent_13 (gx_k2r ?_)
    obtain ⟨rfl, rfl⟩ := Prod.mk.inj (Option.some.inj hf)
    exact gx_out C hx
theorem le_X1_checkEvent {D : gx_D} {r : Unit ⊕ (String × Nat)} {hz : HX} {h : HX} {a0 : Nat} {p1 : Int32} (hf : f_X1_checkEvent D h a0 p1 = some (r, hz)) : gx_le h hz := by
  unfold f_X1_checkEvent at hf
  replace hf := gx_bs hf
  obtain ⟨_, -, hf⟩ := hf
  replace hf := gx_bs hf
  obtain ⟨r1, g13, hf⟩ := hf
  replace hf := gx_bs hf
  obtain ⟨a2, rfl, hf⟩ := hf
  replace hf := gx_bs hf
  obtain ⟨r3, g12, hf⟩ := hf
  replace hf := gx_bs hf
  obtain ⟨a4, rfl, hf⟩ := hf
  replace hf := gx_bs hf
  obtain ⟨x6, g5, hf⟩ := hf
  replace hf := gx_bxs hf
  rcases hf with ⟨u11, h8, g7, hf⟩ | ⟨E9, q10, h8, g7, hf⟩
  · refine (le_X1_checkIndex g7).tr ?_
    obtain ⟨rfl, rfl⟩ := Prod.mk.inj (Option.some.inj hf)
    exact gx_le.rf
  · refine (le_X1_checkIndex g7).tr ?_
    obtain ⟨rfl, rfl⟩ := Prod.mk.inj (Option.some.inj hf)
    exact gx_le.rf
theorem w_X1_checkEvent {l : Launch} (hlt : l.stackTraces = false) {D : gx_D} {h : HX} {a0 : Nat} {p1 : Int32} {r : Unit ⊕ (String × Nat)} {hz : HX} (hf : f_X1_checkEvent D h a0 p1 = some (r, hz)) : gx_MetX l yX1_checkEvent (ws_ yX1_checkEvent cX1_checkEvent 2 none) 8 130 D [(va_rf (some a0)), (.int p1)] h (gx_xv r) hz :=
  gx_ofGX gz_26 (by simp only [gx_lsr, gx_lsi, gx_lsj, gx_ls0]; decide) (le_X1_checkEvent hf) (fun p e R s m args below meth c C hn hx => by
    simp only [gx_lar, gx_lai, gx_laj, gx_la0, Nat.reduceAdd]
    exact w_X1_checkEvent_b hlt C hx hf)
def f_X1_verdictOf (D : gx_D) (h : HX) (a0 : Nat) (p1 : Int32) : Option ((Int32 ⊕ (String × Nat)) × HX) :=
  (hx_is h a0 [9]).bind fun _ =>
  gx_bx (f_X1_checkEvent D h a0 p1) (fun u5 h2 =>
  (hx_gr h2 a0 [9] 6).bind fun r6 =>
  r6.bind fun a7 =>
  (hx_gi h2 a7 [11] 6).bind fun x8 =>
  (f_X1_verdict D h2 a0 x8 p1).bind fun x10 =>
  some (.inl x10, h2)) fun E3 q4 h2 =>
  some (.inr (E3, q4), h2)
theorem is_X1_verdictOf {D : gx_D} {h : HX} {a0 : Nat} {p1 : Int32} {z} (hf : f_X1_verdictOf D h a0 p1 = some z) : gx_isC h a0 [9] := by
  unfold f_X1_verdictOf at hf
  obtain ⟨_, g, -⟩ := gx_bs hf
  exact hx_is_of g
theorem w_X1_verdictOf_b {l : Launch} (hlt : l.stackTraces = false) {p : Program} {e : Env} {R : Room} {s : State} {m : MethodId} {args : Array Value} {below : List Frame} {meth : Method} {c : Code} {D : gx_D} {h0 : HX} {r : Int32 ⊕ (String × Nat)} {hz : HX} (C : gx_Ctx p R s m args meth c "ContractMachine" cX1_verdictOf 2 (some .int) 9 156 D h0 hz) (hx : ∀ x ∈ c.exceptionTable.toList, False) {a0 : Nat} {p1 : Int32} (hf : f_X1_verdictOf D h0 a0 p1 = some (r, hz)) : gx_G p l e R s m args below meth c D h0 hz 2 (gx_MQX below args s D h0 hz (gx_xi r)) 0 [(0, (va_rf (some a0))), (1, (.int p1))] [] h0 := by
  unfold f_X1_verdictOf at hf
  replace hf := gx_bs hf
  obtain ⟨_, -, hf⟩ := hf
  refine gx_aload_n C dX1_verdictOf_0 0 rfl ?_
  refine gx_iload_n C dX1_verdictOf_1 1 rfl ?_
  replace hf := gx_bxs hf
  rcases hf with ⟨u5, h2, g1, hf⟩ | ⟨E3, q4, h2, g1, hf⟩
  · refine gx_xcallV (st := []) C (w_X1_checkEvent hlt g1) (is_X1_checkEvent g1) gz_108 rfl (lw_V q2389 q2391 qs47 q121 q2392) gz_467 (by decide) rfl rfl (gx_catn (Nat.le_of_ble_eq_true rfl)) dX1_verdictOf_2 (gx_k2l ?_)
    refine gx_aload_n C dX1_verdictOf_5 0 rfl ?_
    refine gx_aload_n C dX1_verdictOf_6 0 rfl ?_
    replace hf := gx_bs hf
    obtain ⟨r6, g12, hf⟩ := hf
    refine gx_gr C g12 gz_85 q896 dX1_verdictOf_7 ?_
    replace hf := gx_bs hf
    obtain ⟨a7, rfl, hf⟩ := hf
    replace hf := gx_bs hf
    obtain ⟨x8, g11, hf⟩ := hf
    refine gx_giN C g11 gz_65 q614 dX1_verdictOf_10 ?_
    refine gx_iload_n C dX1_verdictOf_13 1 rfl ?_
    replace hf := gx_bs hf
    obtain ⟨x10, g9, hf⟩ := hf
    refine gx_callV (st := []) C (w_X1_verdict hlt g9) (is_X1_verdict g9) gz_108 rfl (lw_V q1781 q1783 qs33 q121 q1784) gz_312 (by decide) rfl rfl (gx_catn (Nat.le_of_ble_eq_true rfl)) dX1_verdictOf_14 ?_
    obtain ⟨rfl, rfl⟩ := Prod.mk.inj (Option.some.inj hf)
    exact gx_ret (gx_iret C dX1_verdictOf_17)
  · refine gx_xcallV (st := []) C (w_X1_checkEvent hlt g1) (is_X1_checkEvent g1) gz_108 rfl (lw_V q2389 q2391 qs47 q121 q2392) gz_467 (by decide) rfl rfl (gx_catn (Nat.le_of_ble_eq_true rfl)) dX1_verdictOf_2 (gx_k2r ?_)
    obtain ⟨rfl, rfl⟩ := Prod.mk.inj (Option.some.inj hf)
    exact gx_out C hx
theorem le_X1_verdictOf {D : gx_D} {r : Int32 ⊕ (String × Nat)} {hz : HX} {h : HX} {a0 : Nat} {p1 : Int32} (hf : f_X1_verdictOf D h a0 p1 = some (r, hz)) : gx_le h hz := by
  unfold f_X1_verdictOf at hf
  replace hf := gx_bs hf
  obtain ⟨_, -, hf⟩ := hf
  replace hf := gx_bxs hf
  rcases hf with ⟨u5, h2, g1, hf⟩ | ⟨E3, q4, h2, g1, hf⟩
  · refine (le_X1_checkEvent g1).tr ?_
    replace hf := gx_bs hf
    obtain ⟨r6, g12, hf⟩ := hf
    replace hf := gx_bs hf
    obtain ⟨a7, rfl, hf⟩ := hf
    replace hf := gx_bs hf
    obtain ⟨x8, g11, hf⟩ := hf
    replace hf := gx_bs hf
    obtain ⟨x10, g9, hf⟩ := hf
    obtain ⟨rfl, rfl⟩ := Prod.mk.inj (Option.some.inj hf)
    exact gx_le.rf
  · refine (le_X1_checkEvent g1).tr ?_
    obtain ⟨rfl, rfl⟩ := Prod.mk.inj (Option.some.inj hf)
    exact gx_le.rf
theorem w_X1_verdictOf {l : Launch} (hlt : l.stackTraces = false) {D : gx_D} {h : HX} {a0 : Nat} {p1 : Int32} {r : Int32 ⊕ (String × Nat)} {hz : HX} (hf : f_X1_verdictOf D h a0 p1 = some (r, hz)) : gx_MetX l yX1_verdictOf (ws_ yX1_verdictOf cX1_verdictOf 2 (some .int)) 9 156 D [(va_rf (some a0)), (.int p1)] h (gx_xi r) hz :=
  gx_ofGX gz_26 (by simp only [gx_lsr, gx_lsi, gx_lsj, gx_ls0]; decide) (le_X1_verdictOf hf) (fun p e R s m args below meth c C hn hx => by
    simp only [gx_lar, gx_lai, gx_laj, gx_la0, Nat.reduceAdd]
    exact w_X1_verdictOf_b hlt C hx hf)
def f_X1_chosenTransition (D : gx_D) (h : HX) (a0 : Nat) (p1 : Int32) : Option ((Int32 ⊕ (String × Nat)) × HX) :=
  (hx_is h a0 [9]).bind fun _ =>
  gx_bx (f_X1_checkEvent D h a0 p1) (fun u5 h2 =>
  (hx_gr h2 a0 [9] 5).bind fun r6 =>
  (hx_gr h2 a0 [9] 6).bind fun r7 =>
  r7.bind fun a8 =>
  (hx_gi h2 a8 [11] 6).bind fun x9 =>
  r6.bind fun a10 =>
  (f_X3_choose D h2 a10 x9 p1).bind fun x12 =>
  some (.inl x12, h2)) fun E3 q4 h2 =>
  some (.inr (E3, q4), h2)
theorem is_X1_chosenTransition {D : gx_D} {h : HX} {a0 : Nat} {p1 : Int32} {z} (hf : f_X1_chosenTransition D h a0 p1 = some z) : gx_isC h a0 [9] := by
  unfold f_X1_chosenTransition at hf
  obtain ⟨_, g, -⟩ := gx_bs hf
  exact hx_is_of g
theorem w_X1_chosenTransition_b {l : Launch} (hlt : l.stackTraces = false) {p : Program} {e : Env} {R : Room} {s : State} {m : MethodId} {args : Array Value} {below : List Frame} {meth : Method} {c : Code} {D : gx_D} {h0 : HX} {r : Int32 ⊕ (String × Nat)} {hz : HX} (C : gx_Ctx p R s m args meth c "ContractMachine" cX1_chosenTransition 2 (some .int) 9 151 D h0 hz) (hx : ∀ x ∈ c.exceptionTable.toList, False) {a0 : Nat} {p1 : Int32} (hf : f_X1_chosenTransition D h0 a0 p1 = some (r, hz)) : gx_G p l e R s m args below meth c D h0 hz 2 (gx_MQX below args s D h0 hz (gx_xi r)) 0 [(0, (va_rf (some a0))), (1, (.int p1))] [] h0 := by
  unfold f_X1_chosenTransition at hf
  replace hf := gx_bs hf
  obtain ⟨_, -, hf⟩ := hf
  refine gx_aload_n C dX1_chosenTransition_0 0 rfl ?_
  refine gx_iload_n C dX1_chosenTransition_1 1 rfl ?_
  replace hf := gx_bxs hf
  rcases hf with ⟨u5, h2, g1, hf⟩ | ⟨E3, q4, h2, g1, hf⟩
  · refine gx_xcallV (st := []) C (w_X1_checkEvent hlt g1) (is_X1_checkEvent g1) gz_108 rfl (lw_V q2389 q2391 qs47 q121 q2392) gz_467 (by decide) rfl rfl (gx_catn (Nat.le_of_ble_eq_true rfl)) dX1_chosenTransition_2 (gx_k2l ?_)
    refine gx_aload_n C dX1_chosenTransition_5 0 rfl ?_
    replace hf := gx_bs hf
    obtain ⟨r6, g15, hf⟩ := hf
    refine gx_gr C g15 gz_20 q892 dX1_chosenTransition_6 ?_
    refine gx_aload_n C dX1_chosenTransition_9 0 rfl ?_
    replace hf := gx_bs hf
    obtain ⟨r7, g14, hf⟩ := hf
    refine gx_gr C g14 gz_85 q896 dX1_chosenTransition_10 ?_
    replace hf := gx_bs hf
    obtain ⟨a8, rfl, hf⟩ := hf
    replace hf := gx_bs hf
    obtain ⟨x9, g13, hf⟩ := hf
    refine gx_giN C g13 gz_65 q614 dX1_chosenTransition_13 ?_
    refine gx_iload_n C dX1_chosenTransition_16 1 rfl ?_
    replace hf := gx_bs hf
    obtain ⟨a10, rfl, hf⟩ := hf
    replace hf := gx_bs hf
    obtain ⟨x12, g11, hf⟩ := hf
    refine gx_callV (st := []) C (w_X3_choose hlt g11) (is_X3_choose g11) gz_111 rfl (lw_V q1785 q1786 q1787 q124 q1788) gz_303 (by decide) rfl rfl (gx_catn (Nat.le_of_ble_eq_true rfl)) dX1_chosenTransition_17 ?_
    obtain ⟨rfl, rfl⟩ := Prod.mk.inj (Option.some.inj hf)
    exact gx_ret (gx_iret C dX1_chosenTransition_20)
  · refine gx_xcallV (st := []) C (w_X1_checkEvent hlt g1) (is_X1_checkEvent g1) gz_108 rfl (lw_V q2389 q2391 qs47 q121 q2392) gz_467 (by decide) rfl rfl (gx_catn (Nat.le_of_ble_eq_true rfl)) dX1_chosenTransition_2 (gx_k2r ?_)
    obtain ⟨rfl, rfl⟩ := Prod.mk.inj (Option.some.inj hf)
    exact gx_out C hx
theorem le_X1_chosenTransition {D : gx_D} {r : Int32 ⊕ (String × Nat)} {hz : HX} {h : HX} {a0 : Nat} {p1 : Int32} (hf : f_X1_chosenTransition D h a0 p1 = some (r, hz)) : gx_le h hz := by
  unfold f_X1_chosenTransition at hf
  replace hf := gx_bs hf
  obtain ⟨_, -, hf⟩ := hf
  replace hf := gx_bxs hf
  rcases hf with ⟨u5, h2, g1, hf⟩ | ⟨E3, q4, h2, g1, hf⟩
  · refine (le_X1_checkEvent g1).tr ?_
    replace hf := gx_bs hf
    obtain ⟨r6, g15, hf⟩ := hf
    replace hf := gx_bs hf
    obtain ⟨r7, g14, hf⟩ := hf
    replace hf := gx_bs hf
    obtain ⟨a8, rfl, hf⟩ := hf
    replace hf := gx_bs hf
    obtain ⟨x9, g13, hf⟩ := hf
    replace hf := gx_bs hf
    obtain ⟨a10, rfl, hf⟩ := hf
    replace hf := gx_bs hf
    obtain ⟨x12, g11, hf⟩ := hf
    obtain ⟨rfl, rfl⟩ := Prod.mk.inj (Option.some.inj hf)
    exact gx_le.rf
  · refine (le_X1_checkEvent g1).tr ?_
    obtain ⟨rfl, rfl⟩ := Prod.mk.inj (Option.some.inj hf)
    exact gx_le.rf
theorem w_X1_chosenTransition {l : Launch} (hlt : l.stackTraces = false) {D : gx_D} {h : HX} {a0 : Nat} {p1 : Int32} {r : Int32 ⊕ (String × Nat)} {hz : HX} (hf : f_X1_chosenTransition D h a0 p1 = some (r, hz)) : gx_MetX l yX1_chosenTransition (ws_ yX1_chosenTransition cX1_chosenTransition 2 (some .int)) 9 151 D [(va_rf (some a0)), (.int p1)] h (gx_xi r) hz :=
  gx_ofGX gz_26 (by simp only [gx_lsr, gx_lsi, gx_lsj, gx_ls0]; decide) (le_X1_chosenTransition hf) (fun p e R s m args below meth c C hn hx => by
    simp only [gx_lar, gx_lai, gx_laj, gx_la0, Nat.reduceAdd]
    exact w_X1_chosenTransition_b hlt C hx hf)
def f_X1_brokenInvariant (D : gx_D) (h : HX) (a0 : Nat) (p1 : Int32) : Option ((Int32 ⊕ (String × Nat)) × HX) :=
  (hx_is h a0 [9]).bind fun _ =>
  gx_bx (f_X1_checkEvent D h a0 p1) (fun u5 h2 =>
  (hx_gr h2 a0 [9] 6).bind fun r6 =>
  r6.bind fun a7 =>
  (hx_gi h2 a7 [11] 6).bind fun x8 =>
  (f_X1_verdict D h2 a0 x8 p1).bind fun x10 =>
  if x10 = (4 : Int32) then
  (hx_gr h2 a0 [9] 5).bind fun r12 =>
  (hx_gr h2 a0 [9] 6).bind fun r13 =>
  r13.bind fun a14 =>
  (hx_gi h2 a14 [11] 6).bind fun x15 =>
  r12.bind fun a16 =>
  (f_X3_choose D h2 a16 x15 p1).bind fun x18 =>
  (hx_gr h2 a0 [9] 6).bind fun r19 =>
  (hx_gr h2 a0 [9] 5).bind fun r20 =>
  r20.bind fun a21 =>
  (hx_gr h2 a21 [10] 3).bind fun r22 =>
  r22.bind fun a23 =>
  (f_J2_get D h2 a23 x18).bind fun r25 =>
  (hx_cast h2 r25 [13]).bind fun u26 =>
  (hx_gr h2 a0 [9] 6).bind fun r27 =>
  r27.bind fun a28 =>
  (f_X4_valuation D h2 a28).bind fun x30 =>
  r25.bind fun a31 =>
  (f_X6_next D h2 a31 x30).bind fun x33 =>
  r19.bind fun a34 =>
  (f_X4_broken D h2 a34 x33).bind fun x36 =>
  some (.inl x36, h2)
  else
  some (.inl (-1 : Int32), h2)) fun E3 q4 h2 =>
  some (.inr (E3, q4), h2)
theorem is_X1_brokenInvariant {D : gx_D} {h : HX} {a0 : Nat} {p1 : Int32} {z} (hf : f_X1_brokenInvariant D h a0 p1 = some z) : gx_isC h a0 [9] := by
  unfold f_X1_brokenInvariant at hf
  obtain ⟨_, g, -⟩ := gx_bs hf
  exact hx_is_of g
theorem w_X1_brokenInvariant_b {l : Launch} (hlt : l.stackTraces = false) {p : Program} {e : Env} {R : Room} {s : State} {m : MethodId} {args : Array Value} {below : List Frame} {meth : Method} {c : Code} {D : gx_D} {h0 : HX} {r : Int32 ⊕ (String × Nat)} {hz : HX} (C : gx_Ctx p R s m args meth c "ContractMachine" cX1_brokenInvariant 3 (some .int) 9 156 D h0 hz) (hx : ∀ x ∈ c.exceptionTable.toList, False) {a0 : Nat} {p1 : Int32} (hf : f_X1_brokenInvariant D h0 a0 p1 = some (r, hz)) : gx_G p l e R s m args below meth c D h0 hz 3 (gx_MQX below args s D h0 hz (gx_xi r)) 0 [(0, (va_rf (some a0))), (1, (.int p1))] [] h0 := by
  unfold f_X1_brokenInvariant at hf
  replace hf := gx_bs hf
  obtain ⟨_, -, hf⟩ := hf
  refine gx_aload_n C dX1_brokenInvariant_0 0 rfl ?_
  refine gx_iload_n C dX1_brokenInvariant_1 1 rfl ?_
  replace hf := gx_bxs hf
  rcases hf with ⟨u5, h2, g1, hf⟩ | ⟨E3, q4, h2, g1, hf⟩
  · refine gx_xcallV (st := []) C (w_X1_checkEvent hlt g1) (is_X1_checkEvent g1) gz_108 rfl (lw_V q2389 q2391 qs47 q121 q2392) gz_467 (by decide) rfl rfl (gx_catn (Nat.le_of_ble_eq_true rfl)) dX1_brokenInvariant_2 (gx_k2l ?_)
    refine gx_aload_n C dX1_brokenInvariant_5 0 rfl ?_
    refine gx_aload_n C dX1_brokenInvariant_6 0 rfl ?_
    replace hf := gx_bs hf
    obtain ⟨r6, g46, hf⟩ := hf
    refine gx_gr C g46 gz_85 q896 dX1_brokenInvariant_7 ?_
    replace hf := gx_bs hf
    obtain ⟨a7, rfl, hf⟩ := hf
    replace hf := gx_bs hf
    obtain ⟨x8, g45, hf⟩ := hf
    refine gx_giN C g45 gz_65 q614 dX1_brokenInvariant_10 ?_
    refine gx_iload_n C dX1_brokenInvariant_13 1 rfl ?_
    replace hf := gx_bs hf
    obtain ⟨x10, g9, hf⟩ := hf
    refine gx_callV (st := []) C (w_X1_verdict hlt g9) (is_X1_verdict g9) gz_108 rfl (lw_V q1781 q1783 qs33 q121 q1784) gz_312 (by decide) rfl rfl (gx_catn (Nat.le_of_ble_eq_true rfl)) dX1_brokenInvariant_14 ?_
    refine gx_iconst (v := 4) C dX1_brokenInvariant_17 rfl ?_
    replace hf := gx_ite hf
    rcases hf with ⟨c11, hf⟩ | ⟨c11, hf⟩
    · refine gx_icmp_eq_t (tgt := 23) C dX1_brokenInvariant_18 rfl c11 ?_
      refine gx_aload_n C dX1_brokenInvariant_23 0 rfl ?_
      replace hf := gx_bs hf
      obtain ⟨r12, g44, hf⟩ := hf
      refine gx_gr C g44 gz_20 q892 dX1_brokenInvariant_24 ?_
      refine gx_aload_n C dX1_brokenInvariant_27 0 rfl ?_
      replace hf := gx_bs hf
      obtain ⟨r13, g43, hf⟩ := hf
      refine gx_gr C g43 gz_85 q896 dX1_brokenInvariant_28 ?_
      replace hf := gx_bs hf
      obtain ⟨a14, rfl, hf⟩ := hf
      replace hf := gx_bs hf
      obtain ⟨x15, g42, hf⟩ := hf
      refine gx_giN C g42 gz_65 q614 dX1_brokenInvariant_31 ?_
      refine gx_iload_n C dX1_brokenInvariant_34 1 rfl ?_
      replace hf := gx_bs hf
      obtain ⟨a16, rfl, hf⟩ := hf
      replace hf := gx_bs hf
      obtain ⟨x18, g17, hf⟩ := hf
      refine gx_callV (st := []) C (w_X3_choose hlt g17) (is_X3_choose g17) gz_111 rfl (lw_V q1785 q1786 q1787 q124 q1788) gz_303 (by decide) rfl rfl (gx_catn (Nat.le_of_ble_eq_true rfl)) dX1_brokenInvariant_35 ?_
      refine gx_istn C dX1_brokenInvariant_38 2 rfl (by decide) [0]  rfl (gx_okn rfl rfl gx_ok0) ?_
      refine gx_aload_n C dX1_brokenInvariant_39 1 rfl ?_
      replace hf := gx_bs hf
      obtain ⟨r19, g41, hf⟩ := hf
      refine gx_gr C g41 gz_85 q896 dX1_brokenInvariant_40 ?_
      refine gx_aload_n C dX1_brokenInvariant_43 1 rfl ?_
      replace hf := gx_bs hf
      obtain ⟨r20, g40, hf⟩ := hf
      refine gx_gr C g40 gz_20 q892 dX1_brokenInvariant_44 ?_
      replace hf := gx_bs hf
      obtain ⟨a21, rfl, hf⟩ := hf
      replace hf := gx_bs hf
      obtain ⟨r22, g39, hf⟩ := hf
      refine gx_grN C g39 gz_21 q572 dX1_brokenInvariant_47 ?_
      refine gx_iload_n C dX1_brokenInvariant_50 0 rfl ?_
      replace hf := gx_bs hf
      obtain ⟨a23, rfl, hf⟩ := hf
      replace hf := gx_bs hf
      obtain ⟨r25, g24, hf⟩ := hf
      refine gx_callF (st := [(va_rf r19)]) C (w_J2_get hlt g24) (is_J2_get g24) q1804 (gx_cis1 gz_19 ⟨gz_222, q1307⟩ gx_cis0) q1309 q127 q1311 gz_221 (by decide) rfl rfl (gx_catn (Nat.le_of_ble_eq_true rfl)) dX1_brokenInvariant_51 ?_
      replace hf := gx_bs hf
      obtain ⟨u26, g38, hf⟩ := hf
      refine gx_cast C g38 gz_295 q803 dX1_brokenInvariant_56 ?_
      refine gx_aload_n C dX1_brokenInvariant_59 1 rfl ?_
      replace hf := gx_bs hf
      obtain ⟨r27, g37, hf⟩ := hf
      refine gx_gr C g37 gz_85 q896 dX1_brokenInvariant_60 ?_
      replace hf := gx_bs hf
      obtain ⟨a28, rfl, hf⟩ := hf
      replace hf := gx_bs hf
      obtain ⟨x30, g29, hf⟩ := hf
      refine gx_callV (st := [(va_rf r25), (va_rf r19)]) C (w_X4_valuation hlt g29) (is_X4_valuation g29) gz_13 rfl (lw_V q1893 q1894 q1895 q144 q1896) gz_329 (by decide) rfl rfl (gx_catn (Nat.le_of_ble_eq_true rfl)) dX1_brokenInvariant_63 ?_
      replace hf := gx_bs hf
      obtain ⟨a31, rfl, hf⟩ := hf
      replace hf := gx_bs hf
      obtain ⟨x33, g32, hf⟩ := hf
      refine gx_callV (st := [(va_rf r19)]) C (w_X6_next hlt g32) (is_X6_next g32) gz_12 rfl (lw_V q1805 q1806 q1807 q148 q1808) gz_304 (by decide) rfl rfl (gx_catn (Nat.le_of_ble_eq_true rfl)) dX1_brokenInvariant_66 ?_
      replace hf := gx_bs hf
      obtain ⟨a34, rfl, hf⟩ := hf
      replace hf := gx_bs hf
      obtain ⟨x36, g35, hf⟩ := hf
      refine gx_callV (st := []) C (w_X4_broken hlt g35) (is_X4_broken g35) gz_13 rfl (lw_V q1829 q1431 q1432 q144 q1433) gz_258 (by decide) rfl rfl (gx_catn (Nat.le_of_ble_eq_true rfl)) dX1_brokenInvariant_69 ?_
      obtain ⟨rfl, rfl⟩ := Prod.mk.inj (Option.some.inj hf)
      exact gx_ret (gx_iret C dX1_brokenInvariant_72)
    · refine gx_icmp_eq_f (tgt := 23) C dX1_brokenInvariant_18 rfl c11 ?_
      refine gx_iconst (v := -1) C dX1_brokenInvariant_21 rfl ?_
      obtain ⟨rfl, rfl⟩ := Prod.mk.inj (Option.some.inj hf)
      exact gx_ret (gx_iret C dX1_brokenInvariant_22)
  · refine gx_xcallV (st := []) C (w_X1_checkEvent hlt g1) (is_X1_checkEvent g1) gz_108 rfl (lw_V q2389 q2391 qs47 q121 q2392) gz_467 (by decide) rfl rfl (gx_catn (Nat.le_of_ble_eq_true rfl)) dX1_brokenInvariant_2 (gx_k2r ?_)
    obtain ⟨rfl, rfl⟩ := Prod.mk.inj (Option.some.inj hf)
    exact gx_out C hx
theorem le_X1_brokenInvariant {D : gx_D} {r : Int32 ⊕ (String × Nat)} {hz : HX} {h : HX} {a0 : Nat} {p1 : Int32} (hf : f_X1_brokenInvariant D h a0 p1 = some (r, hz)) : gx_le h hz := by
  unfold f_X1_brokenInvariant at hf
  replace hf := gx_bs hf
  obtain ⟨_, -, hf⟩ := hf
  replace hf := gx_bxs hf
  rcases hf with ⟨u5, h2, g1, hf⟩ | ⟨E3, q4, h2, g1, hf⟩
  · refine (le_X1_checkEvent g1).tr ?_
    replace hf := gx_bs hf
    obtain ⟨r6, g46, hf⟩ := hf
    replace hf := gx_bs hf
    obtain ⟨a7, rfl, hf⟩ := hf
    replace hf := gx_bs hf
    obtain ⟨x8, g45, hf⟩ := hf
    replace hf := gx_bs hf
    obtain ⟨x10, g9, hf⟩ := hf
    replace hf := gx_ite hf
    rcases hf with ⟨c11, hf⟩ | ⟨c11, hf⟩
    · replace hf := gx_bs hf
      obtain ⟨r12, g44, hf⟩ := hf
      replace hf := gx_bs hf
      obtain ⟨r13, g43, hf⟩ := hf
      replace hf := gx_bs hf
      obtain ⟨a14, rfl, hf⟩ := hf
      replace hf := gx_bs hf
      obtain ⟨x15, g42, hf⟩ := hf
      replace hf := gx_bs hf
      obtain ⟨a16, rfl, hf⟩ := hf
      replace hf := gx_bs hf
      obtain ⟨x18, g17, hf⟩ := hf
      replace hf := gx_bs hf
      obtain ⟨r19, g41, hf⟩ := hf
      replace hf := gx_bs hf
      obtain ⟨r20, g40, hf⟩ := hf
      replace hf := gx_bs hf
      obtain ⟨a21, rfl, hf⟩ := hf
      replace hf := gx_bs hf
      obtain ⟨r22, g39, hf⟩ := hf
      replace hf := gx_bs hf
      obtain ⟨a23, rfl, hf⟩ := hf
      replace hf := gx_bs hf
      obtain ⟨r25, g24, hf⟩ := hf
      replace hf := gx_bs hf
      obtain ⟨u26, g38, hf⟩ := hf
      replace hf := gx_bs hf
      obtain ⟨r27, g37, hf⟩ := hf
      replace hf := gx_bs hf
      obtain ⟨a28, rfl, hf⟩ := hf
      replace hf := gx_bs hf
      obtain ⟨x30, g29, hf⟩ := hf
      replace hf := gx_bs hf
      obtain ⟨a31, rfl, hf⟩ := hf
      replace hf := gx_bs hf
      obtain ⟨x33, g32, hf⟩ := hf
      replace hf := gx_bs hf
      obtain ⟨a34, rfl, hf⟩ := hf
      replace hf := gx_bs hf
      obtain ⟨x36, g35, hf⟩ := hf
      obtain ⟨rfl, rfl⟩ := Prod.mk.inj (Option.some.inj hf)
      exact gx_le.rf
    · obtain ⟨rfl, rfl⟩ := Prod.mk.inj (Option.some.inj hf)
      exact gx_le.rf
  · refine (le_X1_checkEvent g1).tr ?_
    obtain ⟨rfl, rfl⟩ := Prod.mk.inj (Option.some.inj hf)
    exact gx_le.rf
theorem w_X1_brokenInvariant {l : Launch} (hlt : l.stackTraces = false) {D : gx_D} {h : HX} {a0 : Nat} {p1 : Int32} {r : Int32 ⊕ (String × Nat)} {hz : HX} (hf : f_X1_brokenInvariant D h a0 p1 = some (r, hz)) : gx_MetX l yX1_brokenInvariant (ws_ yX1_brokenInvariant cX1_brokenInvariant 3 (some .int)) 9 156 D [(va_rf (some a0)), (.int p1)] h (gx_xi r) hz :=
  gx_ofGX gz_26 (by simp only [gx_lsr, gx_lsi, gx_lsj, gx_ls0]; decide) (le_X1_brokenInvariant hf) (fun p e R s m args below meth c C hn hx => by
    simp only [gx_lar, gx_lai, gx_laj, gx_la0, Nat.reduceAdd]
    exact w_X1_brokenInvariant_b hlt C hx hf)
def f_X1_timesTaken (D : gx_D) (h : HX) (a0 : Nat) (p1 : Int32) : Option ((Int32 ⊕ (String × Nat)) × HX) :=
  (hx_is h a0 [9]).bind fun _ =>
  gx_bx (f_X1_transition D h a0 p1) (fun r2 h3 =>
  (hx_gr h3 a0 [9] 6).bind fun r6 =>
  r6.bind fun a7 =>
  (hx_gr h3 a7 [11] 1).bind fun r8 =>
  r8.bind fun a9 =>
  (hx_ai h3 a9 0 p1).bind fun x10 =>
  some (.inl x10, h3)) fun E4 q5 h3 =>
  some (.inr (E4, q5), h3)
theorem is_X1_timesTaken {D : gx_D} {h : HX} {a0 : Nat} {p1 : Int32} {z} (hf : f_X1_timesTaken D h a0 p1 = some z) : gx_isC h a0 [9] := by
  unfold f_X1_timesTaken at hf
  obtain ⟨_, g, -⟩ := gx_bs hf
  exact hx_is_of g
theorem w_X1_timesTaken_b {l : Launch} (hlt : l.stackTraces = false) {p : Program} {e : Env} {R : Room} {s : State} {m : MethodId} {args : Array Value} {below : List Frame} {meth : Method} {c : Code} {D : gx_D} {h0 : HX} {r : Int32 ⊕ (String × Nat)} {hz : HX} (C : gx_Ctx p R s m args meth c "ContractMachine" cX1_timesTaken 3 (some .int) 9 151 D h0 hz) (hx : ∀ x ∈ c.exceptionTable.toList, False) {a0 : Nat} {p1 : Int32} (hf : f_X1_timesTaken D h0 a0 p1 = some (r, hz)) : gx_G p l e R s m args below meth c D h0 hz 3 (gx_MQX below args s D h0 hz (gx_xi r)) 0 [(0, (va_rf (some a0))), (1, (.int p1))] [] h0 := by
  unfold f_X1_timesTaken at hf
  replace hf := gx_bs hf
  obtain ⟨_, -, hf⟩ := hf
  refine gx_aload_n C dX1_timesTaken_0 0 rfl ?_
  refine gx_iload_n C dX1_timesTaken_1 1 rfl ?_
  replace hf := gx_bxs hf
  rcases hf with ⟨r2, h3, g1, hf⟩ | ⟨E4, q5, h3, g1, hf⟩
  · refine gx_xcallV (st := []) C (w_X1_transition hlt g1) (is_X1_transition g1) gz_108 rfl (lw_V q2330 q2332 qs45 q121 q2333) gz_465 (by decide) rfl rfl (gx_catn (Nat.le_of_ble_eq_true rfl)) dX1_timesTaken_2 (gx_k2l ?_)
    refine gx_astn C dX1_timesTaken_5 2 rfl (by decide) [0, 1]  rfl (gx_okn rfl rfl (gx_okr rfl gx_catv_i gx_ok0)) ?_
    refine gx_aload_n C dX1_timesTaken_6 1 rfl ?_
    replace hf := gx_bs hf
    obtain ⟨r6, g13, hf⟩ := hf
    refine gx_gr C g13 gz_85 q896 dX1_timesTaken_7 ?_
    replace hf := gx_bs hf
    obtain ⟨a7, rfl, hf⟩ := hf
    replace hf := gx_bs hf
    obtain ⟨r8, g12, hf⟩ := hf
    refine gx_grN C g12 gz_58 q600 dX1_timesTaken_10 ?_
    refine gx_iload_n C dX1_timesTaken_13 2 rfl ?_
    replace hf := gx_bs hf
    obtain ⟨a9, rfl, hf⟩ := hf
    replace hf := gx_bs hf
    obtain ⟨x10, g11, hf⟩ := hf
    refine gx_iald C g11 dX1_timesTaken_14 ?_
    obtain ⟨rfl, rfl⟩ := Prod.mk.inj (Option.some.inj hf)
    exact gx_ret (gx_iret C dX1_timesTaken_15)
  · refine gx_xcallV (st := []) C (w_X1_transition hlt g1) (is_X1_transition g1) gz_108 rfl (lw_V q2330 q2332 qs45 q121 q2333) gz_465 (by decide) rfl rfl (gx_catn (Nat.le_of_ble_eq_true rfl)) dX1_timesTaken_2 (gx_k2r ?_)
    obtain ⟨rfl, rfl⟩ := Prod.mk.inj (Option.some.inj hf)
    exact gx_out C hx
theorem le_X1_timesTaken {D : gx_D} {r : Int32 ⊕ (String × Nat)} {hz : HX} {h : HX} {a0 : Nat} {p1 : Int32} (hf : f_X1_timesTaken D h a0 p1 = some (r, hz)) : gx_le h hz := by
  unfold f_X1_timesTaken at hf
  replace hf := gx_bs hf
  obtain ⟨_, -, hf⟩ := hf
  replace hf := gx_bxs hf
  rcases hf with ⟨r2, h3, g1, hf⟩ | ⟨E4, q5, h3, g1, hf⟩
  · refine (le_X1_transition g1).tr ?_
    replace hf := gx_bs hf
    obtain ⟨r6, g13, hf⟩ := hf
    replace hf := gx_bs hf
    obtain ⟨a7, rfl, hf⟩ := hf
    replace hf := gx_bs hf
    obtain ⟨r8, g12, hf⟩ := hf
    replace hf := gx_bs hf
    obtain ⟨a9, rfl, hf⟩ := hf
    replace hf := gx_bs hf
    obtain ⟨x10, g11, hf⟩ := hf
    obtain ⟨rfl, rfl⟩ := Prod.mk.inj (Option.some.inj hf)
    exact gx_le.rf
  · refine (le_X1_transition g1).tr ?_
    obtain ⟨rfl, rfl⟩ := Prod.mk.inj (Option.some.inj hf)
    exact gx_le.rf
theorem w_X1_timesTaken {l : Launch} (hlt : l.stackTraces = false) {D : gx_D} {h : HX} {a0 : Nat} {p1 : Int32} {r : Int32 ⊕ (String × Nat)} {hz : HX} (hf : f_X1_timesTaken D h a0 p1 = some (r, hz)) : gx_MetX l yX1_timesTaken (ws_ yX1_timesTaken cX1_timesTaken 3 (some .int)) 9 151 D [(va_rf (some a0)), (.int p1)] h (gx_xi r) hz :=
  gx_ofGX gz_26 (by simp only [gx_lsr, gx_lsi, gx_lsj, gx_ls0]; decide) (le_X1_timesTaken hf) (fun p e R s m args below meth c C hn hx => by
    simp only [gx_lar, gx_lai, gx_laj, gx_la0, Nat.reduceAdd]
    exact w_X1_timesTaken_b hlt C hx hf)
def f_X1_checkState (D : gx_D) (h : HX) (a0 : Nat) (p1 : Int32) : Option ((Unit ⊕ (String × Nat)) × HX) :=
  (hx_is h a0 [9]).bind fun _ =>
  (hx_gr h a0 [9] 5).bind fun r1 =>
  r1.bind fun a2 =>
  (hx_gr h a2 [10] 0).bind fun r3 =>
  r3.bind fun a4 =>
  (f_J2_size D h a4).bind fun x6 =>
  gx_bx (f_X1_checkIndex D h p1 x6) (fun u11 h8 =>
  some (.inl (), h8)) fun E9 q10 h8 =>
  some (.inr (E9, q10), h8)
theorem is_X1_checkState {D : gx_D} {h : HX} {a0 : Nat} {p1 : Int32} {z} (hf : f_X1_checkState D h a0 p1 = some z) : gx_isC h a0 [9] := by
  unfold f_X1_checkState at hf
  obtain ⟨_, g, -⟩ := gx_bs hf
  exact hx_is_of g
theorem w_X1_checkState_b {l : Launch} (hlt : l.stackTraces = false) {p : Program} {e : Env} {R : Room} {s : State} {m : MethodId} {args : Array Value} {below : List Frame} {meth : Method} {c : Code} {D : gx_D} {h0 : HX} {r : Unit ⊕ (String × Nat)} {hz : HX} (C : gx_Ctx p R s m args meth c "ContractMachine" cX1_checkState 2 none 8 130 D h0 hz) (hx : ∀ x ∈ c.exceptionTable.toList, False) {a0 : Nat} {p1 : Int32} (hf : f_X1_checkState D h0 a0 p1 = some (r, hz)) : gx_G p l e R s m args below meth c D h0 hz 2 (gx_MQX below args s D h0 hz (gx_xv r)) 0 [(0, (va_rf (some a0))), (1, (.int p1))] [] h0 := by
  unfold f_X1_checkState at hf
  replace hf := gx_bs hf
  obtain ⟨_, -, hf⟩ := hf
  refine gx_iload_n C dX1_checkState_0 1 rfl ?_
  refine gx_aload_n C dX1_checkState_1 0 rfl ?_
  replace hf := gx_bs hf
  obtain ⟨r1, g13, hf⟩ := hf
  refine gx_gr C g13 gz_20 q892 dX1_checkState_2 ?_
  replace hf := gx_bs hf
  obtain ⟨a2, rfl, hf⟩ := hf
  replace hf := gx_bs hf
  obtain ⟨r3, g12, hf⟩ := hf
  refine gx_grN C g12 gz_28 q560 dX1_checkState_5 ?_
  replace hf := gx_bs hf
  obtain ⟨a4, rfl, hf⟩ := hf
  replace hf := gx_bs hf
  obtain ⟨x6, g5, hf⟩ := hf
  refine gx_callF (st := [(.int p1)]) C (w_J2_size hlt g5) (is_J2_size g5) q1481 (gx_cis1 gz_19 ⟨gz_51, q770⟩ gx_cis0) q772 q127 q774 gz_50 (by decide) rfl rfl (gx_catn (Nat.le_of_ble_eq_true rfl)) dX1_checkState_8 ?_
  replace hf := gx_bxs hf
  rcases hf with ⟨u11, h8, g7, hf⟩ | ⟨E9, q10, h8, g7, hf⟩
  · refine gx_xcallS (st := []) C (w_X1_checkIndex hlt g7) (lw_S q2268 q2269 q121 q2270) gz_462 (by decide) rfl rfl (gx_catn (Nat.le_of_ble_eq_true rfl)) dX1_checkState_13 (gx_k2l ?_)
    obtain ⟨rfl, rfl⟩ := Prod.mk.inj (Option.some.inj hf)
    exact gx_ret (gx_vret C dX1_checkState_16)
  · refine gx_xcallS (st := []) C (w_X1_checkIndex hlt g7) (lw_S q2268 q2269 q121 q2270) gz_462 (by decide) rfl rfl (gx_catn (Nat.le_of_ble_eq_true rfl)) dX1_checkState_13 (gx_k2r ?_)
    obtain ⟨rfl, rfl⟩ := Prod.mk.inj (Option.some.inj hf)
    exact gx_out C hx
theorem le_X1_checkState {D : gx_D} {r : Unit ⊕ (String × Nat)} {hz : HX} {h : HX} {a0 : Nat} {p1 : Int32} (hf : f_X1_checkState D h a0 p1 = some (r, hz)) : gx_le h hz := by
  unfold f_X1_checkState at hf
  replace hf := gx_bs hf
  obtain ⟨_, -, hf⟩ := hf
  replace hf := gx_bs hf
  obtain ⟨r1, g13, hf⟩ := hf
  replace hf := gx_bs hf
  obtain ⟨a2, rfl, hf⟩ := hf
  replace hf := gx_bs hf
  obtain ⟨r3, g12, hf⟩ := hf
  replace hf := gx_bs hf
  obtain ⟨a4, rfl, hf⟩ := hf
  replace hf := gx_bs hf
  obtain ⟨x6, g5, hf⟩ := hf
  replace hf := gx_bxs hf
  rcases hf with ⟨u11, h8, g7, hf⟩ | ⟨E9, q10, h8, g7, hf⟩
  · refine (le_X1_checkIndex g7).tr ?_
    obtain ⟨rfl, rfl⟩ := Prod.mk.inj (Option.some.inj hf)
    exact gx_le.rf
  · refine (le_X1_checkIndex g7).tr ?_
    obtain ⟨rfl, rfl⟩ := Prod.mk.inj (Option.some.inj hf)
    exact gx_le.rf
theorem w_X1_checkState {l : Launch} (hlt : l.stackTraces = false) {D : gx_D} {h : HX} {a0 : Nat} {p1 : Int32} {r : Unit ⊕ (String × Nat)} {hz : HX} (hf : f_X1_checkState D h a0 p1 = some (r, hz)) : gx_MetX l yX1_checkState (ws_ yX1_checkState cX1_checkState 2 none) 8 130 D [(va_rf (some a0)), (.int p1)] h (gx_xv r) hz :=
  gx_ofGX gz_26 (by simp only [gx_lsr, gx_lsi, gx_lsj, gx_ls0]; decide) (le_X1_checkState hf) (fun p e R s m args below meth c C hn hx => by
    simp only [gx_lar, gx_lai, gx_laj, gx_la0, Nat.reduceAdd]
    exact w_X1_checkState_b hlt C hx hf)
def f_X1_visitsOf (D : gx_D) (h : HX) (a0 : Nat) (p1 : Int32) : Option ((Int32 ⊕ (String × Nat)) × HX) :=
  (hx_is h a0 [9]).bind fun _ =>
  gx_bx (f_X1_checkState D h a0 p1) (fun u5 h2 =>
  (hx_gr h2 a0 [9] 6).bind fun r6 =>
  r6.bind fun a7 =>
  (hx_gr h2 a7 [11] 2).bind fun r8 =>
  r8.bind fun a9 =>
  (hx_ai h2 a9 0 p1).bind fun x10 =>
  some (.inl x10, h2)) fun E3 q4 h2 =>
  some (.inr (E3, q4), h2)
theorem is_X1_visitsOf {D : gx_D} {h : HX} {a0 : Nat} {p1 : Int32} {z} (hf : f_X1_visitsOf D h a0 p1 = some z) : gx_isC h a0 [9] := by
  unfold f_X1_visitsOf at hf
  obtain ⟨_, g, -⟩ := gx_bs hf
  exact hx_is_of g
theorem w_X1_visitsOf_b {l : Launch} (hlt : l.stackTraces = false) {p : Program} {e : Env} {R : Room} {s : State} {m : MethodId} {args : Array Value} {below : List Frame} {meth : Method} {c : Code} {D : gx_D} {h0 : HX} {r : Int32 ⊕ (String × Nat)} {hz : HX} (C : gx_Ctx p R s m args meth c "ContractMachine" cX1_visitsOf 2 (some .int) 9 151 D h0 hz) (hx : ∀ x ∈ c.exceptionTable.toList, False) {a0 : Nat} {p1 : Int32} (hf : f_X1_visitsOf D h0 a0 p1 = some (r, hz)) : gx_G p l e R s m args below meth c D h0 hz 2 (gx_MQX below args s D h0 hz (gx_xi r)) 0 [(0, (va_rf (some a0))), (1, (.int p1))] [] h0 := by
  unfold f_X1_visitsOf at hf
  replace hf := gx_bs hf
  obtain ⟨_, -, hf⟩ := hf
  refine gx_aload_n C dX1_visitsOf_0 0 rfl ?_
  refine gx_iload_n C dX1_visitsOf_1 1 rfl ?_
  replace hf := gx_bxs hf
  rcases hf with ⟨u5, h2, g1, hf⟩ | ⟨E3, q4, h2, g1, hf⟩
  · refine gx_xcallV (st := []) C (w_X1_checkState hlt g1) (is_X1_checkState g1) gz_108 rfl (lw_V q2421 q2423 qs48 q121 q2424) gz_468 (by decide) rfl rfl (gx_catn (Nat.le_of_ble_eq_true rfl)) dX1_visitsOf_2 (gx_k2l ?_)
    refine gx_aload_n C dX1_visitsOf_5 0 rfl ?_
    replace hf := gx_bs hf
    obtain ⟨r6, g13, hf⟩ := hf
    refine gx_gr C g13 gz_85 q896 dX1_visitsOf_6 ?_
    replace hf := gx_bs hf
    obtain ⟨a7, rfl, hf⟩ := hf
    replace hf := gx_bs hf
    obtain ⟨r8, g12, hf⟩ := hf
    refine gx_grN C g12 gz_60 q603 dX1_visitsOf_9 ?_
    refine gx_iload_n C dX1_visitsOf_12 1 rfl ?_
    replace hf := gx_bs hf
    obtain ⟨a9, rfl, hf⟩ := hf
    replace hf := gx_bs hf
    obtain ⟨x10, g11, hf⟩ := hf
    refine gx_iald C g11 dX1_visitsOf_13 ?_
    obtain ⟨rfl, rfl⟩ := Prod.mk.inj (Option.some.inj hf)
    exact gx_ret (gx_iret C dX1_visitsOf_14)
  · refine gx_xcallV (st := []) C (w_X1_checkState hlt g1) (is_X1_checkState g1) gz_108 rfl (lw_V q2421 q2423 qs48 q121 q2424) gz_468 (by decide) rfl rfl (gx_catn (Nat.le_of_ble_eq_true rfl)) dX1_visitsOf_2 (gx_k2r ?_)
    obtain ⟨rfl, rfl⟩ := Prod.mk.inj (Option.some.inj hf)
    exact gx_out C hx
theorem le_X1_visitsOf {D : gx_D} {r : Int32 ⊕ (String × Nat)} {hz : HX} {h : HX} {a0 : Nat} {p1 : Int32} (hf : f_X1_visitsOf D h a0 p1 = some (r, hz)) : gx_le h hz := by
  unfold f_X1_visitsOf at hf
  replace hf := gx_bs hf
  obtain ⟨_, -, hf⟩ := hf
  replace hf := gx_bxs hf
  rcases hf with ⟨u5, h2, g1, hf⟩ | ⟨E3, q4, h2, g1, hf⟩
  · refine (le_X1_checkState g1).tr ?_
    replace hf := gx_bs hf
    obtain ⟨r6, g13, hf⟩ := hf
    replace hf := gx_bs hf
    obtain ⟨a7, rfl, hf⟩ := hf
    replace hf := gx_bs hf
    obtain ⟨r8, g12, hf⟩ := hf
    replace hf := gx_bs hf
    obtain ⟨a9, rfl, hf⟩ := hf
    replace hf := gx_bs hf
    obtain ⟨x10, g11, hf⟩ := hf
    obtain ⟨rfl, rfl⟩ := Prod.mk.inj (Option.some.inj hf)
    exact gx_le.rf
  · refine (le_X1_checkState g1).tr ?_
    obtain ⟨rfl, rfl⟩ := Prod.mk.inj (Option.some.inj hf)
    exact gx_le.rf
theorem w_X1_visitsOf {l : Launch} (hlt : l.stackTraces = false) {D : gx_D} {h : HX} {a0 : Nat} {p1 : Int32} {r : Int32 ⊕ (String × Nat)} {hz : HX} (hf : f_X1_visitsOf D h a0 p1 = some (r, hz)) : gx_MetX l yX1_visitsOf (ws_ yX1_visitsOf cX1_visitsOf 2 (some .int)) 9 151 D [(va_rf (some a0)), (.int p1)] h (gx_xi r) hz :=
  gx_ofGX gz_26 (by simp only [gx_lsr, gx_lsi, gx_lsj, gx_ls0]; decide) (le_X1_visitsOf hf) (fun p e R s m args below meth c C hn hx => by
    simp only [gx_lar, gx_lai, gx_laj, gx_la0, Nat.reduceAdd]
    exact w_X1_visitsOf_b hlt C hx hf)
def f_X1_requireArgument (D : gx_D) (h : HX) (p0 : Bool) : Option ((Unit ⊕ (String × Nat)) × HX) :=
  if p0 = true then
  some (.inl (), h)
  else
  some (.inr ("java/lang/IllegalArgumentException", h.1), hx_skip h 1 6)
theorem w_X1_requireArgument_b {l : Launch} (hlt : l.stackTraces = false) {p : Program} {e : Env} {R : Room} {s : State} {m : MethodId} {args : Array Value} {below : List Frame} {meth : Method} {c : Code} {D : gx_D} {h0 : HX} {r : Unit ⊕ (String × Nat)} {hz : HX} (C : gx_Ctx p R s m args meth c "ContractMachine" cX1_requireArgument 1 none 6 89 D h0 hz) (hx : ∀ x ∈ c.exceptionTable.toList, False) {p0 : Bool} (hf : f_X1_requireArgument D h0 p0 = some (r, hz)) : gx_G p l e R s m args below meth c D h0 hz 1 (gx_MQX below args s D h0 hz (gx_xv r)) 0 [(0, (.int (b2i p0)))] [] h0 := by
  unfold f_X1_requireArgument at hf
  refine gx_iload_n C dX1_requireArgument_0 0 rfl ?_
  replace hf := gx_ite hf
  rcases hf with ⟨c1, hf⟩ | ⟨c1, hf⟩
  · refine gx_ifz_ne_t (tgt := 12) C dX1_requireArgument_1 rfl c1 ?_
    obtain ⟨rfl, rfl⟩ := Prod.mk.inj (Option.some.inj hf)
    exact gx_ret (gx_vret C dX1_requireArgument_12)
  · refine gx_ifz_ne_f (tgt := 12) C dX1_requireArgument_1 rfl c1 ?_
    obtain ⟨rfl, rfl⟩ := Prod.mk.inj (Option.some.inj hf)
    exact gx_throw0 C hlt (names := ["java/lang/RuntimeException", "java/lang/Exception"]) (by decide +kernel) (by decide +kernel) q2437 q131 gz_470 gz_470g dX1_requireArgument_4 dX1_requireArgument_7 dX1_requireArgument_8 dX1_requireArgument_11 (by decide) (by decide) (gx_out C hx)
theorem le_X1_requireArgument {D : gx_D} {r : Unit ⊕ (String × Nat)} {hz : HX} {h : HX} {p0 : Bool} (hf : f_X1_requireArgument D h p0 = some (r, hz)) : gx_le h hz := by
  unfold f_X1_requireArgument at hf
  replace hf := gx_ite hf
  rcases hf with ⟨c1, hf⟩ | ⟨c1, hf⟩
  · obtain ⟨rfl, rfl⟩ := Prod.mk.inj (Option.some.inj hf)
    exact gx_le.rf
  · obtain ⟨rfl, rfl⟩ := Prod.mk.inj (Option.some.inj hf)
    exact gx_le.skip
theorem w_X1_requireArgument {l : Launch} (hlt : l.stackTraces = false) {D : gx_D} {h : HX} {p0 : Bool} {r : Unit ⊕ (String × Nat)} {hz : HX} (hf : f_X1_requireArgument D h p0 = some (r, hz)) : gx_MetX l yX1_requireArgument (ws_ yX1_requireArgument cX1_requireArgument 1 none) 6 89 D [(.int (b2i p0))] h (gx_xv r) hz :=
  gx_ofGX gz_26 (by simp only [gx_lsr, gx_lsi, gx_lsj, gx_ls0]; decide) (le_X1_requireArgument hf) (fun p e R s m args below meth c C hn hx => by
    simp only [gx_lar, gx_lai, gx_laj, gx_la0, Nat.reduceAdd]
    exact w_X1_requireArgument_b hlt C hx hf)
def f_X1_rejectedWith (D : gx_D) (h : HX) (a0 : Nat) (p1 : Int32) : Option ((Int32 ⊕ (String × Nat)) × HX) :=
  (hx_is h a0 [9]).bind fun _ =>
  (f_X1_isWithin D h (Int32.toInt64 p1) (1 : Int64) (4 : Int64)).bind fun b2 =>
  gx_bx (f_X1_requireArgument D h b2) (fun u7 h4 =>
  (hx_gr h4 a0 [9] 6).bind fun r8 =>
  r8.bind fun a9 =>
  (hx_gr h4 a9 [11] 3).bind fun r10 =>
  r10.bind fun a11 =>
  (hx_ai h4 a11 0 p1).bind fun x12 =>
  some (.inl x12, h4)) fun E5 q6 h4 =>
  some (.inr (E5, q6), h4)
theorem is_X1_rejectedWith {D : gx_D} {h : HX} {a0 : Nat} {p1 : Int32} {z} (hf : f_X1_rejectedWith D h a0 p1 = some z) : gx_isC h a0 [9] := by
  unfold f_X1_rejectedWith at hf
  obtain ⟨_, g, -⟩ := gx_bs hf
  exact hx_is_of g
theorem w_X1_rejectedWith_b {l : Launch} (hlt : l.stackTraces = false) {p : Program} {e : Env} {R : Room} {s : State} {m : MethodId} {args : Array Value} {below : List Frame} {meth : Method} {c : Code} {D : gx_D} {h0 : HX} {r : Int32 ⊕ (String × Nat)} {hz : HX} (C : gx_Ctx p R s m args meth c "ContractMachine" cX1_rejectedWith 2 (some .int) 7 109 D h0 hz) (hx : ∀ x ∈ c.exceptionTable.toList, False) {a0 : Nat} {p1 : Int32} (hf : f_X1_rejectedWith D h0 a0 p1 = some (r, hz)) : gx_G p l e R s m args below meth c D h0 hz 2 (gx_MQX below args s D h0 hz (gx_xi r)) 0 [(0, (va_rf (some a0))), (1, (.int p1))] [] h0 := by
  unfold f_X1_rejectedWith at hf
  replace hf := gx_bs hf
  obtain ⟨_, -, hf⟩ := hf
  refine gx_iload_n C dX1_rejectedWith_0 1 rfl ?_
  refine gx_i2l C dX1_rejectedWith_1 ?_
  refine gx_lconst (v := 1) C dX1_rejectedWith_2 rfl ?_
  refine gx_ldc2 C q2433 dX1_rejectedWith_3 ?_
  replace hf := gx_bs hf
  obtain ⟨b2, g1, hf⟩ := hf
  refine gx_callS (st := []) C (w_X1_isWithin hlt g1) (lw_S q953 q954 q121 q955) gz_121 (by decide) rfl rfl (gx_catn (Nat.le_of_ble_eq_true rfl)) dX1_rejectedWith_6 ?_
  replace hf := gx_bxs hf
  rcases hf with ⟨u7, h4, g3, hf⟩ | ⟨E5, q6, h4, g3, hf⟩
  · refine gx_xcallS (st := []) C (w_X1_requireArgument hlt g3) (lw_S q2434 q2435 q121 q2436) gz_471 (by decide) rfl rfl (gx_catn (Nat.le_of_ble_eq_true rfl)) dX1_rejectedWith_9 (gx_k2l ?_)
    refine gx_aload_n C dX1_rejectedWith_12 0 rfl ?_
    replace hf := gx_bs hf
    obtain ⟨r8, g15, hf⟩ := hf
    refine gx_gr C g15 gz_85 q896 dX1_rejectedWith_13 ?_
    replace hf := gx_bs hf
    obtain ⟨a9, rfl, hf⟩ := hf
    replace hf := gx_bs hf
    obtain ⟨r10, g14, hf⟩ := hf
    refine gx_grN C g14 gz_61 q606 dX1_rejectedWith_16 ?_
    refine gx_iload_n C dX1_rejectedWith_19 1 rfl ?_
    replace hf := gx_bs hf
    obtain ⟨a11, rfl, hf⟩ := hf
    replace hf := gx_bs hf
    obtain ⟨x12, g13, hf⟩ := hf
    refine gx_iald C g13 dX1_rejectedWith_20 ?_
    obtain ⟨rfl, rfl⟩ := Prod.mk.inj (Option.some.inj hf)
    exact gx_ret (gx_iret C dX1_rejectedWith_21)
  · refine gx_xcallS (st := []) C (w_X1_requireArgument hlt g3) (lw_S q2434 q2435 q121 q2436) gz_471 (by decide) rfl rfl (gx_catn (Nat.le_of_ble_eq_true rfl)) dX1_rejectedWith_9 (gx_k2r ?_)
    obtain ⟨rfl, rfl⟩ := Prod.mk.inj (Option.some.inj hf)
    exact gx_out C hx
theorem le_X1_rejectedWith {D : gx_D} {r : Int32 ⊕ (String × Nat)} {hz : HX} {h : HX} {a0 : Nat} {p1 : Int32} (hf : f_X1_rejectedWith D h a0 p1 = some (r, hz)) : gx_le h hz := by
  unfold f_X1_rejectedWith at hf
  replace hf := gx_bs hf
  obtain ⟨_, -, hf⟩ := hf
  replace hf := gx_bs hf
  obtain ⟨b2, g1, hf⟩ := hf
  replace hf := gx_bxs hf
  rcases hf with ⟨u7, h4, g3, hf⟩ | ⟨E5, q6, h4, g3, hf⟩
  · refine (le_X1_requireArgument g3).tr ?_
    replace hf := gx_bs hf
    obtain ⟨r8, g15, hf⟩ := hf
    replace hf := gx_bs hf
    obtain ⟨a9, rfl, hf⟩ := hf
    replace hf := gx_bs hf
    obtain ⟨r10, g14, hf⟩ := hf
    replace hf := gx_bs hf
    obtain ⟨a11, rfl, hf⟩ := hf
    replace hf := gx_bs hf
    obtain ⟨x12, g13, hf⟩ := hf
    obtain ⟨rfl, rfl⟩ := Prod.mk.inj (Option.some.inj hf)
    exact gx_le.rf
  · refine (le_X1_requireArgument g3).tr ?_
    obtain ⟨rfl, rfl⟩ := Prod.mk.inj (Option.some.inj hf)
    exact gx_le.rf
theorem w_X1_rejectedWith {l : Launch} (hlt : l.stackTraces = false) {D : gx_D} {h : HX} {a0 : Nat} {p1 : Int32} {r : Int32 ⊕ (String × Nat)} {hz : HX} (hf : f_X1_rejectedWith D h a0 p1 = some (r, hz)) : gx_MetX l yX1_rejectedWith (ws_ yX1_rejectedWith cX1_rejectedWith 2 (some .int)) 7 109 D [(va_rf (some a0)), (.int p1)] h (gx_xi r) hz :=
  gx_ofGX gz_26 (by simp only [gx_lsr, gx_lsi, gx_lsj, gx_ls0]; decide) (le_X1_rejectedWith hf) (fun p e R s m args below meth c C hn hx => by
    simp only [gx_lar, gx_lai, gx_laj, gx_la0, Nat.reduceAdd]
    exact w_X1_rejectedWith_b hlt C hx hf)
def f_X24_init (D : gx_D) (h : HX) (a0 : Nat) (p1 : Option Nat) (p2 : Int32) : Option HX :=
  (hx_pr h a0 [27] 2 p1).bind fun h1 =>
  (hx_pi h1 a0 [27] 1 p2).bind fun h2 =>
  (f_X23_init D h2 a0 p1).bind fun h4 =>
  some h4
theorem w_X24_init_b {l : Launch} (hlt : l.stackTraces = false) {p : Program} {e : Env} {R : Room} {s : State} {m : MethodId} {args : Array Value} {below : List Frame} {meth : Method} {c : Code} {D : gx_D} {h0 : HX} {hz : HX} (C : gx_Ctx p R s m args meth c "ContractMachine$1" cX24_init 3 none 2 45 D h0 hz) (hx : meth.name = "<init>") {a0 : Nat} {p1 : Option Nat} {p2 : Int32} (hf : f_X24_init D h0 a0 p1 p2 = some hz) : gx_G p l e R s m args below meth c D h0 hz 3 (gx_MQ below args s D h0 hz none) 0 [(0, (va_rf (some a0))), (1, (va_rf p1)), (2, (.int p2))] [] h0 := by
  unfold f_X24_init at hf
  refine gx_aload_n C dX24_init_0 0 rfl ?_
  refine gx_aload_n C dX24_init_1 1 rfl ?_
  replace hf := gx_bs hf
  obtain ⟨h1, g6, hf⟩ := hf
  refine gx_putvF C hx g6 gz_472 gz_186 (gx_narrow_r rfl _).1 (gx_narrow_r rfl _).2 q2460 dX24_init_2 ?_
  refine gx_aload_n C dX24_init_5 0 rfl ?_
  refine gx_iload_n C dX24_init_6 2 rfl ?_
  replace hf := gx_bs hf
  obtain ⟨h2, g5, hf⟩ := hf
  refine gx_putvF C hx g5 gz_393 gz_1 rfl rfl q2459 dX24_init_7 ?_
  refine gx_aload_n C dX24_init_10 0 rfl ?_
  refine gx_aload_n C dX24_init_11 1 rfl ?_
  replace hf := gx_bs hf
  obtain ⟨h4, g3, hf⟩ := hf
  refine gx_callI (st := []) C (w_X23_init hlt g3) q2458 q2125 q176 q2126 rfl gz_432 (by decide) rfl rfl (gx_catn (Nat.le_of_ble_eq_true rfl)) dX24_init_12 ?_
  obtain rfl := Option.some.inj hf
  exact gx_vret C dX24_init_15
theorem le_X24_init {D : gx_D} {hz : HX} {h : HX} {a0 : Nat} {p1 : Option Nat} {p2 : Int32} (hf : f_X24_init D h a0 p1 p2 = some hz) : gx_le h hz := by
  unfold f_X24_init at hf
  replace hf := gx_bs hf
  obtain ⟨h1, g6, hf⟩ := hf
  refine (hx_le_pv g6).tr ?_
  replace hf := gx_bs hf
  obtain ⟨h2, g5, hf⟩ := hf
  refine (hx_le_pv g5).tr ?_
  replace hf := gx_bs hf
  obtain ⟨h4, g3, hf⟩ := hf
  refine (le_X23_init g3).tr ?_
  obtain rfl := Option.some.inj hf
  exact gx_le.rf
theorem w_X24_init {l : Launch} (hlt : l.stackTraces = false) {D : gx_D} {h : HX} {a0 : Nat} {p1 : Option Nat} {p2 : Int32} {hz : HX} (hf : f_X24_init D h a0 p1 p2 = some hz) : gx_Met l yX24_init cX24_init 3 none 2 45 D [(va_rf (some a0)), (va_rf p1), (.int p2)] h none hz :=
  gx_ofG gz_394 (by simp only [gx_lsr, gx_lsi, gx_lsj, gx_ls0]; decide) (le_X24_init hf) (fun p e R s m args below meth c C hx => by
    simp only [gx_lar, gx_lai, gx_laj, gx_la0, Nat.reduceAdd]
    exact w_X24_init_b hlt C hx hf)
def f_X1_findState (D : gx_D) (h : HX) (a0 : Nat) (p1 : Int32) : Option ((Int32 ⊕ (String × Nat)) × HX) :=
  (hx_is h a0 [9]).bind fun _ =>
  gx_bx (f_X1_checkState D h a0 p1) (fun u5 h2 =>
  gx_b2 (hx_new h2 3 25 gx_df25) fun a6 h7 =>
  (f_X21_init D h7 a6 (some a0)).bind fun h9 =>
  gx_b2 (hx_new h9 3 27 gx_df27) fun a10 h11 =>
  (f_X24_init D h11 a10 (some a0) p1).bind fun h13 =>
  gx_b2 (f_X21_inBreadth D h13 a6 (some a10)) fun x15 h16 =>
  (hx_gi h16 a0 [9] 12).bind fun x17 =>
  some (.inl x17, h16)) fun E3 q4 h2 =>
  some (.inr (E3, q4), h2)
theorem is_X1_findState {D : gx_D} {h : HX} {a0 : Nat} {p1 : Int32} {z} (hf : f_X1_findState D h a0 p1 = some z) : gx_isC h a0 [9] := by
  unfold f_X1_findState at hf
  obtain ⟨_, g, -⟩ := gx_bs hf
  exact hx_is_of g
theorem w_X1_findState_b {l : Launch} (hlt : l.stackTraces = false) {p : Program} {e : Env} {R : Room} {s : State} {m : MethodId} {args : Array Value} {below : List Frame} {meth : Method} {c : Code} {D : gx_D} {h0 : HX} {r : Int32 ⊕ (String × Nat)} {hz : HX} (C : gx_Ctx p R s m args meth c "ContractMachine" cX1_findState 3 (some .int) 11 242 D h0 hz) (hx : ∀ x ∈ c.exceptionTable.toList, False) {a0 : Nat} {p1 : Int32} (hf : f_X1_findState D h0 a0 p1 = some (r, hz)) : gx_G p l e R s m args below meth c D h0 hz 3 (gx_MQX below args s D h0 hz (gx_xi r)) 0 [(0, (va_rf (some a0))), (1, (.int p1))] [] h0 := by
  unfold f_X1_findState at hf
  replace hf := gx_bs hf
  obtain ⟨_, -, hf⟩ := hf
  refine gx_aload_n C dX1_findState_0 0 rfl ?_
  refine gx_iload_n C dX1_findState_1 1 rfl ?_
  replace hf := gx_bxs hf
  rcases hf with ⟨u5, h2, g1, hf⟩ | ⟨E3, q4, h2, g1, hf⟩
  · refine gx_xcallV (st := []) C (w_X1_checkState hlt g1) (is_X1_checkState g1) gz_108 rfl (lw_V q2421 q2423 qs48 q121 q2424) gz_468 (by decide) rfl rfl (gx_catn (Nat.le_of_ble_eq_true rfl)) dX1_findState_2 (gx_k2l ?_)
    replace hf := gx_b2s hf
    obtain ⟨a6, h7, g20, hf⟩ := hf
    refine gx_newN C g20 gz_407 tyX21_ok gx_df25_ok q1998 q1999 q174 dX1_findState_5 rfl ?_
    refine gx_dup C dX1_findState_8 rfl ?_
    refine gx_aload_n C dX1_findState_9 0 rfl ?_
    replace hf := gx_bs hf
    obtain ⟨h9, g8, hf⟩ := hf
    refine gx_callI (st := [(va_rf (some a6))]) C (w_X21_init hlt g8) q2000 q2001 q174 q2002 rfl gz_429 (by decide) rfl rfl (gx_catn (Nat.le_of_ble_eq_true rfl)) dX1_findState_10 ?_
    replace hf := gx_b2s hf
    obtain ⟨a10, h11, g19, hf⟩ := hf
    refine gx_newN C g19 gz_402 tyX24_ok gx_df27_ok q2453 q2454 q177 dX1_findState_13 rfl ?_
    refine gx_dup C dX1_findState_16 rfl ?_
    refine gx_aload_n C dX1_findState_17 0 rfl ?_
    refine gx_iload_n C dX1_findState_18 1 rfl ?_
    replace hf := gx_bs hf
    obtain ⟨h13, g12, hf⟩ := hf
    refine gx_callI (st := [(va_rf (some a10)), (va_rf (some a6))]) C (w_X24_init hlt g12) q2455 q2456 q177 q2457 rfl gz_474 (by decide) rfl rfl (gx_catn (Nat.le_of_ble_eq_true rfl)) dX1_findState_19 ?_
    replace hf := gx_b2s hf
    obtain ⟨x15, h16, g14, hf⟩ := hf
    refine gx_callV (st := []) C (w_X21_inBreadth hlt g14) (is_X21_inBreadth g14) gz_407 rfl (lw_V q2024 q2025 q2026 q174 q2027) gz_427 (by decide) rfl rfl (gx_catn (Nat.le_of_ble_eq_true rfl)) dX1_findState_22 ?_
    refine gx_istn C dX1_findState_25 2 rfl (by decide) [0]  rfl (gx_okn rfl rfl gx_ok0) ?_
    refine gx_aload_n C dX1_findState_26 1 rfl ?_
    replace hf := gx_bs hf
    obtain ⟨x17, g18, hf⟩ := hf
    refine gx_gi C g18 gz_391 q906 dX1_findState_27 ?_
    obtain ⟨rfl, rfl⟩ := Prod.mk.inj (Option.some.inj hf)
    exact gx_ret (gx_iret C dX1_findState_30)
  · refine gx_xcallV (st := []) C (w_X1_checkState hlt g1) (is_X1_checkState g1) gz_108 rfl (lw_V q2421 q2423 qs48 q121 q2424) gz_468 (by decide) rfl rfl (gx_catn (Nat.le_of_ble_eq_true rfl)) dX1_findState_2 (gx_k2r ?_)
    obtain ⟨rfl, rfl⟩ := Prod.mk.inj (Option.some.inj hf)
    exact gx_out C hx
theorem le_X1_findState {D : gx_D} {r : Int32 ⊕ (String × Nat)} {hz : HX} {h : HX} {a0 : Nat} {p1 : Int32} (hf : f_X1_findState D h a0 p1 = some (r, hz)) : gx_le h hz := by
  unfold f_X1_findState at hf
  replace hf := gx_bs hf
  obtain ⟨_, -, hf⟩ := hf
  replace hf := gx_bxs hf
  rcases hf with ⟨u5, h2, g1, hf⟩ | ⟨E3, q4, h2, g1, hf⟩
  · refine (le_X1_checkState g1).tr ?_
    replace hf := gx_b2s hf
    obtain ⟨a6, h7, g20, hf⟩ := hf
    refine (hx_le_new g20).tr ?_
    replace hf := gx_bs hf
    obtain ⟨h9, g8, hf⟩ := hf
    refine (le_X21_init g8).tr ?_
    replace hf := gx_b2s hf
    obtain ⟨a10, h11, g19, hf⟩ := hf
    refine (hx_le_new g19).tr ?_
    replace hf := gx_bs hf
    obtain ⟨h13, g12, hf⟩ := hf
    refine (le_X24_init g12).tr ?_
    replace hf := gx_b2s hf
    obtain ⟨x15, h16, g14, hf⟩ := hf
    refine (le_X21_inBreadth g14).tr ?_
    replace hf := gx_bs hf
    obtain ⟨x17, g18, hf⟩ := hf
    obtain ⟨rfl, rfl⟩ := Prod.mk.inj (Option.some.inj hf)
    exact gx_le.rf
  · refine (le_X1_checkState g1).tr ?_
    obtain ⟨rfl, rfl⟩ := Prod.mk.inj (Option.some.inj hf)
    exact gx_le.rf
theorem w_X1_findState {l : Launch} (hlt : l.stackTraces = false) {D : gx_D} {h : HX} {a0 : Nat} {p1 : Int32} {r : Int32 ⊕ (String × Nat)} {hz : HX} (hf : f_X1_findState D h a0 p1 = some (r, hz)) : gx_MetX l yX1_findState (ws_ yX1_findState cX1_findState 3 (some .int)) 11 242 D [(va_rf (some a0)), (.int p1)] h (gx_xi r) hz :=
  gx_ofGX gz_26 (by simp only [gx_lsr, gx_lsi, gx_lsj, gx_ls0]; decide) (le_X1_findState hf) (fun p e R s m args below meth c C hn hx => by
    simp only [gx_lar, gx_lai, gx_laj, gx_la0, Nat.reduceAdd]
    exact w_X1_findState_b hlt C hx hf)
def f_X1_isReachable (D : gx_D) (h : HX) (a0 : Nat) (p1 : Int32) : Option ((Bool ⊕ (String × Nat)) × HX) :=
  (hx_is h a0 [9]).bind fun _ =>
  gx_bx (f_X1_findState D h a0 p1) (fun x2 h3 =>
  if x2 = (-1 : Int32) then
  some (.inl false, h3)
  else
  some (.inl true, h3)) fun E4 q5 h3 =>
  some (.inr (E4, q5), h3)
theorem is_X1_isReachable {D : gx_D} {h : HX} {a0 : Nat} {p1 : Int32} {z} (hf : f_X1_isReachable D h a0 p1 = some z) : gx_isC h a0 [9] := by
  unfold f_X1_isReachable at hf
  obtain ⟨_, g, -⟩ := gx_bs hf
  exact hx_is_of g
theorem w_X1_isReachable_b {l : Launch} (hlt : l.stackTraces = false) {p : Program} {e : Env} {R : Room} {s : State} {m : MethodId} {args : Array Value} {below : List Frame} {meth : Method} {c : Code} {D : gx_D} {h0 : HX} {r : Bool ⊕ (String × Nat)} {hz : HX} (C : gx_Ctx p R s m args meth c "ContractMachine" cX1_isReachable 2 (some .boolean) 12 264 D h0 hz) (hx : ∀ x ∈ c.exceptionTable.toList, False) {a0 : Nat} {p1 : Int32} (hf : f_X1_isReachable D h0 a0 p1 = some (r, hz)) : gx_G p l e R s m args below meth c D h0 hz 2 (gx_MQX below args s D h0 hz (gx_xz r)) 0 [(0, (va_rf (some a0))), (1, (.int p1))] [] h0 := by
  unfold f_X1_isReachable at hf
  replace hf := gx_bs hf
  obtain ⟨_, -, hf⟩ := hf
  refine gx_aload_n C dX1_isReachable_0 0 rfl ?_
  refine gx_iload_n C dX1_isReachable_1 1 rfl ?_
  replace hf := gx_bxs hf
  rcases hf with ⟨x2, h3, g1, hf⟩ | ⟨E4, q5, h3, g1, hf⟩
  · refine gx_xcallV (st := []) C (w_X1_findState hlt g1) (is_X1_findState g1) gz_108 rfl (lw_V q2449 q2451 qs49 q121 q2452) gz_475 (by decide) rfl rfl (gx_catn (Nat.le_of_ble_eq_true rfl)) dX1_isReachable_2 (gx_k2l ?_)
    refine gx_iconst (v := -1) C dX1_isReachable_5 rfl ?_
    replace hf := gx_ite hf
    rcases hf with ⟨c6, hf⟩ | ⟨c6, hf⟩
    · refine gx_icmp_eq_t (tgt := 13) C dX1_isReachable_6 rfl c6 ?_
      refine gx_iconst (v := 0) C dX1_isReachable_13 rfl ?_
      obtain ⟨rfl, rfl⟩ := Prod.mk.inj (Option.some.inj hf)
      exact gx_ret (gx_zret (b := false) C dX1_isReachable_14)
    · refine gx_icmp_eq_f (tgt := 13) C dX1_isReachable_6 rfl c6 ?_
      refine gx_iconst (v := 1) C dX1_isReachable_9 rfl ?_
      refine gx_goto (tgt := 14) C dX1_isReachable_10 rfl ?_
      obtain ⟨rfl, rfl⟩ := Prod.mk.inj (Option.some.inj hf)
      exact gx_ret (gx_zret (b := true) C dX1_isReachable_14)
  · refine gx_xcallV (st := []) C (w_X1_findState hlt g1) (is_X1_findState g1) gz_108 rfl (lw_V q2449 q2451 qs49 q121 q2452) gz_475 (by decide) rfl rfl (gx_catn (Nat.le_of_ble_eq_true rfl)) dX1_isReachable_2 (gx_k2r ?_)
    obtain ⟨rfl, rfl⟩ := Prod.mk.inj (Option.some.inj hf)
    exact gx_out C hx
theorem le_X1_isReachable {D : gx_D} {r : Bool ⊕ (String × Nat)} {hz : HX} {h : HX} {a0 : Nat} {p1 : Int32} (hf : f_X1_isReachable D h a0 p1 = some (r, hz)) : gx_le h hz := by
  unfold f_X1_isReachable at hf
  replace hf := gx_bs hf
  obtain ⟨_, -, hf⟩ := hf
  replace hf := gx_bxs hf
  rcases hf with ⟨x2, h3, g1, hf⟩ | ⟨E4, q5, h3, g1, hf⟩
  · refine (le_X1_findState g1).tr ?_
    replace hf := gx_ite hf
    rcases hf with ⟨c6, hf⟩ | ⟨c6, hf⟩
    · obtain ⟨rfl, rfl⟩ := Prod.mk.inj (Option.some.inj hf)
      exact gx_le.rf
    · obtain ⟨rfl, rfl⟩ := Prod.mk.inj (Option.some.inj hf)
      exact gx_le.rf
  · refine (le_X1_findState g1).tr ?_
    obtain ⟨rfl, rfl⟩ := Prod.mk.inj (Option.some.inj hf)
    exact gx_le.rf
theorem w_X1_isReachable {l : Launch} (hlt : l.stackTraces = false) {D : gx_D} {h : HX} {a0 : Nat} {p1 : Int32} {r : Bool ⊕ (String × Nat)} {hz : HX} (hf : f_X1_isReachable D h a0 p1 = some (r, hz)) : gx_MetX l yX1_isReachable (ws_ yX1_isReachable cX1_isReachable 2 (some .boolean)) 12 264 D [(va_rf (some a0)), (.int p1)] h (gx_xz r) hz :=
  gx_ofGX gz_26 (by simp only [gx_lsr, gx_lsi, gx_lsj, gx_ls0]; decide) (le_X1_isReachable hf) (fun p e R s m args below meth c C hn hx => by
    simp only [gx_lar, gx_lai, gx_laj, gx_la0, Nat.reduceAdd]
    exact w_X1_isReachable_b hlt C hx hf)
def f_X25_init (D : gx_D) (h : HX) (a0 : Nat) (p1 : Option Nat) (p2 : Option Nat) (p3 : Int32) : Option HX :=
  (hx_pr h a0 [28] 3 p1).bind fun h1 =>
  (hx_pr h1 a0 [28] 1 p2).bind fun h2 =>
  (hx_pi h2 a0 [28] 2 p3).bind fun h3 =>
  (f_X23_init D h3 a0 p1).bind fun h5 =>
  some h5
theorem w_X25_init_b {l : Launch} (hlt : l.stackTraces = false) {p : Program} {e : Env} {R : Room} {s : State} {m : MethodId} {args : Array Value} {below : List Frame} {meth : Method} {c : Code} {D : gx_D} {h0 : HX} {hz : HX} (C : gx_Ctx p R s m args meth c "ContractMachine$3" cX25_init 4 none 2 45 D h0 hz) (hx : meth.name = "<init>") {a0 : Nat} {p1 : Option Nat} {p2 : Option Nat} {p3 : Int32} (hf : f_X25_init D h0 a0 p1 p2 p3 = some hz) : gx_G p l e R s m args below meth c D h0 hz 4 (gx_MQ below args s D h0 hz none) 0 [(0, (va_rf (some a0))), (1, (va_rf p1)), (2, (va_rf p2)), (3, (.int p3))] [] h0 := by
  unfold f_X25_init at hf
  refine gx_aload_n C dX25_init_0 0 rfl ?_
  refine gx_aload_n C dX25_init_1 1 rfl ?_
  replace hf := gx_bs hf
  obtain ⟨h1, g8, hf⟩ := hf
  refine gx_putvF C hx g8 gz_395 gz_186 (gx_narrow_r rfl _).1 (gx_narrow_r rfl _).2 q2482 dX25_init_2 ?_
  refine gx_aload_n C dX25_init_5 0 rfl ?_
  refine gx_aload_n C dX25_init_6 2 rfl ?_
  replace hf := gx_bs hf
  obtain ⟨h2, g7, hf⟩ := hf
  refine gx_putvF C hx g7 gz_396 gz_476 (gx_narrow_r rfl _).1 (gx_narrow_r rfl _).2 q2480 dX25_init_7 ?_
  refine gx_aload_n C dX25_init_10 0 rfl ?_
  refine gx_iload_n C dX25_init_11 3 rfl ?_
  replace hf := gx_bs hf
  obtain ⟨h3, g6, hf⟩ := hf
  refine gx_putvF C hx g6 gz_397 gz_1 rfl rfl q2481 dX25_init_12 ?_
  refine gx_aload_n C dX25_init_15 0 rfl ?_
  refine gx_aload_n C dX25_init_16 1 rfl ?_
  replace hf := gx_bs hf
  obtain ⟨h5, g4, hf⟩ := hf
  refine gx_callI (st := []) C (w_X23_init hlt g4) q2479 q2125 q176 q2126 rfl gz_432 (by decide) rfl rfl (gx_catn (Nat.le_of_ble_eq_true rfl)) dX25_init_17 ?_
  obtain rfl := Option.some.inj hf
  exact gx_vret C dX25_init_20
theorem le_X25_init {D : gx_D} {hz : HX} {h : HX} {a0 : Nat} {p1 : Option Nat} {p2 : Option Nat} {p3 : Int32} (hf : f_X25_init D h a0 p1 p2 p3 = some hz) : gx_le h hz := by
  unfold f_X25_init at hf
  replace hf := gx_bs hf
  obtain ⟨h1, g8, hf⟩ := hf
  refine (hx_le_pv g8).tr ?_
  replace hf := gx_bs hf
  obtain ⟨h2, g7, hf⟩ := hf
  refine (hx_le_pv g7).tr ?_
  replace hf := gx_bs hf
  obtain ⟨h3, g6, hf⟩ := hf
  refine (hx_le_pv g6).tr ?_
  replace hf := gx_bs hf
  obtain ⟨h5, g4, hf⟩ := hf
  refine (le_X23_init g4).tr ?_
  obtain rfl := Option.some.inj hf
  exact gx_le.rf
theorem w_X25_init {l : Launch} (hlt : l.stackTraces = false) {D : gx_D} {h : HX} {a0 : Nat} {p1 : Option Nat} {p2 : Option Nat} {p3 : Int32} {hz : HX} (hf : f_X25_init D h a0 p1 p2 p3 = some hz) : gx_Met l yX25_init cX25_init 4 none 2 45 D [(va_rf (some a0)), (va_rf p1), (va_rf p2), (.int p3)] h none hz :=
  gx_ofG gz_398 (by simp only [gx_lsr, gx_lsi, gx_lsj, gx_ls0]; decide) (le_X25_init hf) (fun p e R s m args below meth c C hx => by
    simp only [gx_lar, gx_lai, gx_laj, gx_la0, Nat.reduceAdd]
    exact w_X25_init_b hlt C hx hf)
def f_X1_canBeTaken (D : gx_D) (h : HX) (a0 : Nat) (p1 : Int32) : Option ((Bool ⊕ (String × Nat)) × HX) :=
  (hx_is h a0 [9]).bind fun _ =>
  gx_bx (f_X1_transition D h a0 p1) (fun r2 h3 =>
  gx_b2 (hx_new h3 3 25 gx_df25) fun a6 h7 =>
  (f_X21_init D h7 a6 (some a0)).bind fun h9 =>
  gx_b2 (hx_new h9 4 28 gx_df28) fun a10 h11 =>
  (f_X25_init D h11 a10 (some a0) r2 p1).bind fun h13 =>
  gx_b2 (f_X21_inBreadth D h13 a6 (some a10)) fun x15 h16 =>
  (hx_gi h16 a0 [9] 12).bind fun x17 =>
  if x17 = (-1 : Int32) then
  some (.inl false, h16)
  else
  some (.inl true, h16)) fun E4 q5 h3 =>
  some (.inr (E4, q5), h3)
theorem is_X1_canBeTaken {D : gx_D} {h : HX} {a0 : Nat} {p1 : Int32} {z} (hf : f_X1_canBeTaken D h a0 p1 = some z) : gx_isC h a0 [9] := by
  unfold f_X1_canBeTaken at hf
  obtain ⟨_, g, -⟩ := gx_bs hf
  exact hx_is_of g
theorem w_X1_canBeTaken_b {l : Launch} (hlt : l.stackTraces = false) {p : Program} {e : Env} {R : Room} {s : State} {m : MethodId} {args : Array Value} {below : List Frame} {meth : Method} {c : Code} {D : gx_D} {h0 : HX} {r : Bool ⊕ (String × Nat)} {hz : HX} (C : gx_Ctx p R s m args meth c "ContractMachine" cX1_canBeTaken 4 (some .boolean) 11 242 D h0 hz) (hx : ∀ x ∈ c.exceptionTable.toList, False) {a0 : Nat} {p1 : Int32} (hf : f_X1_canBeTaken D h0 a0 p1 = some (r, hz)) : gx_G p l e R s m args below meth c D h0 hz 4 (gx_MQX below args s D h0 hz (gx_xz r)) 0 [(0, (va_rf (some a0))), (1, (.int p1))] [] h0 := by
  unfold f_X1_canBeTaken at hf
  replace hf := gx_bs hf
  obtain ⟨_, -, hf⟩ := hf
  refine gx_aload_n C dX1_canBeTaken_0 0 rfl ?_
  refine gx_iload_n C dX1_canBeTaken_1 1 rfl ?_
  replace hf := gx_bxs hf
  rcases hf with ⟨r2, h3, g1, hf⟩ | ⟨E4, q5, h3, g1, hf⟩
  · refine gx_xcallV (st := []) C (w_X1_transition hlt g1) (is_X1_transition g1) gz_108 rfl (lw_V q2330 q2332 qs45 q121 q2333) gz_465 (by decide) rfl rfl (gx_catn (Nat.le_of_ble_eq_true rfl)) dX1_canBeTaken_2 (gx_k2l ?_)
    refine gx_astn C dX1_canBeTaken_5 2 rfl (by decide) [0, 1]  rfl (gx_okn rfl rfl (gx_okr rfl gx_catv_i gx_ok0)) ?_
    replace hf := gx_b2s hf
    obtain ⟨a6, h7, g21, hf⟩ := hf
    refine gx_newN C g21 gz_407 tyX21_ok gx_df25_ok q1998 q1999 q174 dX1_canBeTaken_6 rfl ?_
    refine gx_dup C dX1_canBeTaken_9 rfl ?_
    refine gx_aload_n C dX1_canBeTaken_10 1 rfl ?_
    replace hf := gx_bs hf
    obtain ⟨h9, g8, hf⟩ := hf
    refine gx_callI (st := [(va_rf (some a6))]) C (w_X21_init hlt g8) q2000 q2001 q174 q2002 rfl gz_429 (by decide) rfl rfl (gx_catn (Nat.le_of_ble_eq_true rfl)) dX1_canBeTaken_11 ?_
    replace hf := gx_b2s hf
    obtain ⟨a10, h11, g20, hf⟩ := hf
    refine gx_newN C g20 gz_403 tyX25_ok gx_df28_ok q2474 q2475 q178 dX1_canBeTaken_14 rfl ?_
    refine gx_dup C dX1_canBeTaken_17 rfl ?_
    refine gx_aload_n C dX1_canBeTaken_18 1 rfl ?_
    refine gx_aload_n C dX1_canBeTaken_19 0 rfl ?_
    refine gx_iload_n C dX1_canBeTaken_20 2 rfl ?_
    replace hf := gx_bs hf
    obtain ⟨h13, g12, hf⟩ := hf
    refine gx_callI (st := [(va_rf (some a10)), (va_rf (some a6))]) C (w_X25_init hlt g12) q2476 q2477 q178 q2478 rfl gz_478 (by decide) rfl rfl (gx_catn (Nat.le_of_ble_eq_true rfl)) dX1_canBeTaken_21 ?_
    replace hf := gx_b2s hf
    obtain ⟨x15, h16, g14, hf⟩ := hf
    refine gx_callV (st := []) C (w_X21_inBreadth hlt g14) (is_X21_inBreadth g14) gz_407 rfl (lw_V q2024 q2025 q2026 q174 q2027) gz_427 (by decide) rfl rfl (gx_catn (Nat.le_of_ble_eq_true rfl)) dX1_canBeTaken_24 ?_
    refine gx_istn C dX1_canBeTaken_27 3 rfl (by decide) [1]  rfl (gx_okn rfl rfl gx_ok0) ?_
    refine gx_aload_n C dX1_canBeTaken_28 1 rfl ?_
    replace hf := gx_bs hf
    obtain ⟨x17, g19, hf⟩ := hf
    refine gx_gi C g19 gz_391 q906 dX1_canBeTaken_29 ?_
    refine gx_iconst (v := -1) C dX1_canBeTaken_32 rfl ?_
    replace hf := gx_ite hf
    rcases hf with ⟨c18, hf⟩ | ⟨c18, hf⟩
    · refine gx_icmp_eq_t (tgt := 40) C dX1_canBeTaken_33 rfl c18 ?_
      refine gx_iconst (v := 0) C dX1_canBeTaken_40 rfl ?_
      obtain ⟨rfl, rfl⟩ := Prod.mk.inj (Option.some.inj hf)
      exact gx_ret (gx_zret (b := false) C dX1_canBeTaken_41)
    · refine gx_icmp_eq_f (tgt := 40) C dX1_canBeTaken_33 rfl c18 ?_
      refine gx_iconst (v := 1) C dX1_canBeTaken_36 rfl ?_
      refine gx_goto (tgt := 41) C dX1_canBeTaken_37 rfl ?_
      obtain ⟨rfl, rfl⟩ := Prod.mk.inj (Option.some.inj hf)
      exact gx_ret (gx_zret (b := true) C dX1_canBeTaken_41)
  · refine gx_xcallV (st := []) C (w_X1_transition hlt g1) (is_X1_transition g1) gz_108 rfl (lw_V q2330 q2332 qs45 q121 q2333) gz_465 (by decide) rfl rfl (gx_catn (Nat.le_of_ble_eq_true rfl)) dX1_canBeTaken_2 (gx_k2r ?_)
    obtain ⟨rfl, rfl⟩ := Prod.mk.inj (Option.some.inj hf)
    exact gx_out C hx
theorem le_X1_canBeTaken {D : gx_D} {r : Bool ⊕ (String × Nat)} {hz : HX} {h : HX} {a0 : Nat} {p1 : Int32} (hf : f_X1_canBeTaken D h a0 p1 = some (r, hz)) : gx_le h hz := by
  unfold f_X1_canBeTaken at hf
  replace hf := gx_bs hf
  obtain ⟨_, -, hf⟩ := hf
  replace hf := gx_bxs hf
  rcases hf with ⟨r2, h3, g1, hf⟩ | ⟨E4, q5, h3, g1, hf⟩
  · refine (le_X1_transition g1).tr ?_
    replace hf := gx_b2s hf
    obtain ⟨a6, h7, g21, hf⟩ := hf
    refine (hx_le_new g21).tr ?_
    replace hf := gx_bs hf
    obtain ⟨h9, g8, hf⟩ := hf
    refine (le_X21_init g8).tr ?_
    replace hf := gx_b2s hf
    obtain ⟨a10, h11, g20, hf⟩ := hf
    refine (hx_le_new g20).tr ?_
    replace hf := gx_bs hf
    obtain ⟨h13, g12, hf⟩ := hf
    refine (le_X25_init g12).tr ?_
    replace hf := gx_b2s hf
    obtain ⟨x15, h16, g14, hf⟩ := hf
    refine (le_X21_inBreadth g14).tr ?_
    replace hf := gx_bs hf
    obtain ⟨x17, g19, hf⟩ := hf
    replace hf := gx_ite hf
    rcases hf with ⟨c18, hf⟩ | ⟨c18, hf⟩
    · obtain ⟨rfl, rfl⟩ := Prod.mk.inj (Option.some.inj hf)
      exact gx_le.rf
    · obtain ⟨rfl, rfl⟩ := Prod.mk.inj (Option.some.inj hf)
      exact gx_le.rf
  · refine (le_X1_transition g1).tr ?_
    obtain ⟨rfl, rfl⟩ := Prod.mk.inj (Option.some.inj hf)
    exact gx_le.rf
theorem w_X1_canBeTaken {l : Launch} (hlt : l.stackTraces = false) {D : gx_D} {h : HX} {a0 : Nat} {p1 : Int32} {r : Bool ⊕ (String × Nat)} {hz : HX} (hf : f_X1_canBeTaken D h a0 p1 = some (r, hz)) : gx_MetX l yX1_canBeTaken (ws_ yX1_canBeTaken cX1_canBeTaken 4 (some .boolean)) 11 242 D [(va_rf (some a0)), (.int p1)] h (gx_xz r) hz :=
  gx_ofGX gz_26 (by simp only [gx_lsr, gx_lsi, gx_lsj, gx_ls0]; decide) (le_X1_canBeTaken hf) (fun p e R s m args below meth c C hn hx => by
    simp only [gx_lar, gx_lai, gx_laj, gx_la0, Nat.reduceAdd]
    exact w_X1_canBeTaken_b hlt C hx hf)
def f_X1_stepsTo (D : gx_D) (h : HX) (a0 : Nat) (p1 : Int32) : Option ((Int32 ⊕ (String × Nat)) × HX) :=
  (hx_is h a0 [9]).bind fun _ =>
  gx_bx (f_X1_findState D h a0 p1) (fun x2 h3 =>
  if x2 = (-1 : Int32) then
  some (.inl (-1 : Int32), h3)
  else
  (hx_gr h3 a0 [9] 9).bind fun r7 =>
  r7.bind fun a8 =>
  (hx_ai h3 a8 0 x2).bind fun x9 =>
  some (.inl x9, h3)) fun E4 q5 h3 =>
  some (.inr (E4, q5), h3)
theorem is_X1_stepsTo {D : gx_D} {h : HX} {a0 : Nat} {p1 : Int32} {z} (hf : f_X1_stepsTo D h a0 p1 = some z) : gx_isC h a0 [9] := by
  unfold f_X1_stepsTo at hf
  obtain ⟨_, g, -⟩ := gx_bs hf
  exact hx_is_of g
theorem w_X1_stepsTo_b {l : Launch} (hlt : l.stackTraces = false) {p : Program} {e : Env} {R : Room} {s : State} {m : MethodId} {args : Array Value} {below : List Frame} {meth : Method} {c : Code} {D : gx_D} {h0 : HX} {r : Int32 ⊕ (String × Nat)} {hz : HX} (C : gx_Ctx p R s m args meth c "ContractMachine" cX1_stepsTo 3 (some .int) 12 264 D h0 hz) (hx : ∀ x ∈ c.exceptionTable.toList, False) {a0 : Nat} {p1 : Int32} (hf : f_X1_stepsTo D h0 a0 p1 = some (r, hz)) : gx_G p l e R s m args below meth c D h0 hz 3 (gx_MQX below args s D h0 hz (gx_xi r)) 0 [(0, (va_rf (some a0))), (1, (.int p1))] [] h0 := by
  unfold f_X1_stepsTo at hf
  replace hf := gx_bs hf
  obtain ⟨_, -, hf⟩ := hf
  refine gx_aload_n C dX1_stepsTo_0 0 rfl ?_
  refine gx_iload_n C dX1_stepsTo_1 1 rfl ?_
  replace hf := gx_bxs hf
  rcases hf with ⟨x2, h3, g1, hf⟩ | ⟨E4, q5, h3, g1, hf⟩
  · refine gx_xcallV (st := []) C (w_X1_findState hlt g1) (is_X1_findState g1) gz_108 rfl (lw_V q2449 q2451 qs49 q121 q2452) gz_475 (by decide) rfl rfl (gx_catn (Nat.le_of_ble_eq_true rfl)) dX1_stepsTo_2 (gx_k2l ?_)
    refine gx_istn C dX1_stepsTo_5 2 rfl (by decide) [0]  rfl (gx_okn rfl rfl gx_ok0) ?_
    refine gx_iload_n C dX1_stepsTo_6 0 rfl ?_
    refine gx_iconst (v := -1) C dX1_stepsTo_7 rfl ?_
    replace hf := gx_ite hf
    rcases hf with ⟨c6, hf⟩ | ⟨c6, hf⟩
    · refine gx_icmp_ne_f (tgt := 15) C dX1_stepsTo_8 rfl c6 ?_
      refine gx_iconst (v := -1) C dX1_stepsTo_11 rfl ?_
      refine gx_goto (tgt := 21) C dX1_stepsTo_12 rfl ?_
      obtain ⟨rfl, rfl⟩ := Prod.mk.inj (Option.some.inj hf)
      exact gx_ret (gx_iret C dX1_stepsTo_21)
    · refine gx_icmp_ne_t (tgt := 15) C dX1_stepsTo_8 rfl c6 ?_
      refine gx_aload_n C dX1_stepsTo_15 1 rfl ?_
      replace hf := gx_bs hf
      obtain ⟨r7, g11, hf⟩ := hf
      refine gx_gr C g11 gz_90 q900 dX1_stepsTo_16 ?_
      refine gx_iload_n C dX1_stepsTo_19 0 rfl ?_
      replace hf := gx_bs hf
      obtain ⟨a8, rfl, hf⟩ := hf
      replace hf := gx_bs hf
      obtain ⟨x9, g10, hf⟩ := hf
      refine gx_iald C g10 dX1_stepsTo_20 ?_
      obtain ⟨rfl, rfl⟩ := Prod.mk.inj (Option.some.inj hf)
      exact gx_ret (gx_iret C dX1_stepsTo_21)
  · refine gx_xcallV (st := []) C (w_X1_findState hlt g1) (is_X1_findState g1) gz_108 rfl (lw_V q2449 q2451 qs49 q121 q2452) gz_475 (by decide) rfl rfl (gx_catn (Nat.le_of_ble_eq_true rfl)) dX1_stepsTo_2 (gx_k2r ?_)
    obtain ⟨rfl, rfl⟩ := Prod.mk.inj (Option.some.inj hf)
    exact gx_out C hx
theorem le_X1_stepsTo {D : gx_D} {r : Int32 ⊕ (String × Nat)} {hz : HX} {h : HX} {a0 : Nat} {p1 : Int32} (hf : f_X1_stepsTo D h a0 p1 = some (r, hz)) : gx_le h hz := by
  unfold f_X1_stepsTo at hf
  replace hf := gx_bs hf
  obtain ⟨_, -, hf⟩ := hf
  replace hf := gx_bxs hf
  rcases hf with ⟨x2, h3, g1, hf⟩ | ⟨E4, q5, h3, g1, hf⟩
  · refine (le_X1_findState g1).tr ?_
    replace hf := gx_ite hf
    rcases hf with ⟨c6, hf⟩ | ⟨c6, hf⟩
    · obtain ⟨rfl, rfl⟩ := Prod.mk.inj (Option.some.inj hf)
      exact gx_le.rf
    · replace hf := gx_bs hf
      obtain ⟨r7, g11, hf⟩ := hf
      replace hf := gx_bs hf
      obtain ⟨a8, rfl, hf⟩ := hf
      replace hf := gx_bs hf
      obtain ⟨x9, g10, hf⟩ := hf
      obtain ⟨rfl, rfl⟩ := Prod.mk.inj (Option.some.inj hf)
      exact gx_le.rf
  · refine (le_X1_findState g1).tr ?_
    obtain ⟨rfl, rfl⟩ := Prod.mk.inj (Option.some.inj hf)
    exact gx_le.rf
theorem w_X1_stepsTo {l : Launch} (hlt : l.stackTraces = false) {D : gx_D} {h : HX} {a0 : Nat} {p1 : Int32} {r : Int32 ⊕ (String × Nat)} {hz : HX} (hf : f_X1_stepsTo D h a0 p1 = some (r, hz)) : gx_MetX l yX1_stepsTo (ws_ yX1_stepsTo cX1_stepsTo 3 (some .int)) 12 264 D [(va_rf (some a0)), (.int p1)] h (gx_xi r) hz :=
  gx_ofGX gz_26 (by simp only [gx_lsr, gx_lsi, gx_lsj, gx_ls0]; decide) (le_X1_stepsTo hf) (fun p e R s m args below meth c C hn hx => by
    simp only [gx_lar, gx_lai, gx_laj, gx_la0, Nat.reduceAdd]
    exact w_X1_stepsTo_b hlt C hx hf)
def f_X1_firstEventTo (D : gx_D) (h : HX) (a0 : Nat) (p1 : Int32) : Option ((Int32 ⊕ (String × Nat)) × HX) :=
  (hx_is h a0 [9]).bind fun _ =>
  gx_bx (f_X1_findState D h a0 p1) (fun x2 h3 =>
  if x2 = (-1 : Int32) then
  some (.inl (-1 : Int32), h3)
  else
  (hx_gr h3 a0 [9] 10).bind fun r7 =>
  r7.bind fun a8 =>
  (hx_ai h3 a8 0 x2).bind fun x9 =>
  some (.inl x9, h3)) fun E4 q5 h3 =>
  some (.inr (E4, q5), h3)
theorem is_X1_firstEventTo {D : gx_D} {h : HX} {a0 : Nat} {p1 : Int32} {z} (hf : f_X1_firstEventTo D h a0 p1 = some z) : gx_isC h a0 [9] := by
  unfold f_X1_firstEventTo at hf
  obtain ⟨_, g, -⟩ := gx_bs hf
  exact hx_is_of g
theorem w_X1_firstEventTo_b {l : Launch} (hlt : l.stackTraces = false) {p : Program} {e : Env} {R : Room} {s : State} {m : MethodId} {args : Array Value} {below : List Frame} {meth : Method} {c : Code} {D : gx_D} {h0 : HX} {r : Int32 ⊕ (String × Nat)} {hz : HX} (C : gx_Ctx p R s m args meth c "ContractMachine" cX1_firstEventTo 3 (some .int) 12 264 D h0 hz) (hx : ∀ x ∈ c.exceptionTable.toList, False) {a0 : Nat} {p1 : Int32} (hf : f_X1_firstEventTo D h0 a0 p1 = some (r, hz)) : gx_G p l e R s m args below meth c D h0 hz 3 (gx_MQX below args s D h0 hz (gx_xi r)) 0 [(0, (va_rf (some a0))), (1, (.int p1))] [] h0 := by
  unfold f_X1_firstEventTo at hf
  replace hf := gx_bs hf
  obtain ⟨_, -, hf⟩ := hf
  refine gx_aload_n C dX1_firstEventTo_0 0 rfl ?_
  refine gx_iload_n C dX1_firstEventTo_1 1 rfl ?_
  replace hf := gx_bxs hf
  rcases hf with ⟨x2, h3, g1, hf⟩ | ⟨E4, q5, h3, g1, hf⟩
  · refine gx_xcallV (st := []) C (w_X1_findState hlt g1) (is_X1_findState g1) gz_108 rfl (lw_V q2449 q2451 qs49 q121 q2452) gz_475 (by decide) rfl rfl (gx_catn (Nat.le_of_ble_eq_true rfl)) dX1_firstEventTo_2 (gx_k2l ?_)
    refine gx_istn C dX1_firstEventTo_5 2 rfl (by decide) [0]  rfl (gx_okn rfl rfl gx_ok0) ?_
    refine gx_iload_n C dX1_firstEventTo_6 0 rfl ?_
    refine gx_iconst (v := -1) C dX1_firstEventTo_7 rfl ?_
    replace hf := gx_ite hf
    rcases hf with ⟨c6, hf⟩ | ⟨c6, hf⟩
    · refine gx_icmp_ne_f (tgt := 15) C dX1_firstEventTo_8 rfl c6 ?_
      refine gx_iconst (v := -1) C dX1_firstEventTo_11 rfl ?_
      refine gx_goto (tgt := 21) C dX1_firstEventTo_12 rfl ?_
      obtain ⟨rfl, rfl⟩ := Prod.mk.inj (Option.some.inj hf)
      exact gx_ret (gx_iret C dX1_firstEventTo_21)
    · refine gx_icmp_ne_t (tgt := 15) C dX1_firstEventTo_8 rfl c6 ?_
      refine gx_aload_n C dX1_firstEventTo_15 1 rfl ?_
      replace hf := gx_bs hf
      obtain ⟨r7, g11, hf⟩ := hf
      refine gx_gr C g11 gz_91 q902 dX1_firstEventTo_16 ?_
      refine gx_iload_n C dX1_firstEventTo_19 0 rfl ?_
      replace hf := gx_bs hf
      obtain ⟨a8, rfl, hf⟩ := hf
      replace hf := gx_bs hf
      obtain ⟨x9, g10, hf⟩ := hf
      refine gx_iald C g10 dX1_firstEventTo_20 ?_
      obtain ⟨rfl, rfl⟩ := Prod.mk.inj (Option.some.inj hf)
      exact gx_ret (gx_iret C dX1_firstEventTo_21)
  · refine gx_xcallV (st := []) C (w_X1_findState hlt g1) (is_X1_findState g1) gz_108 rfl (lw_V q2449 q2451 qs49 q121 q2452) gz_475 (by decide) rfl rfl (gx_catn (Nat.le_of_ble_eq_true rfl)) dX1_firstEventTo_2 (gx_k2r ?_)
    obtain ⟨rfl, rfl⟩ := Prod.mk.inj (Option.some.inj hf)
    exact gx_out C hx
theorem le_X1_firstEventTo {D : gx_D} {r : Int32 ⊕ (String × Nat)} {hz : HX} {h : HX} {a0 : Nat} {p1 : Int32} (hf : f_X1_firstEventTo D h a0 p1 = some (r, hz)) : gx_le h hz := by
  unfold f_X1_firstEventTo at hf
  replace hf := gx_bs hf
  obtain ⟨_, -, hf⟩ := hf
  replace hf := gx_bxs hf
  rcases hf with ⟨x2, h3, g1, hf⟩ | ⟨E4, q5, h3, g1, hf⟩
  · refine (le_X1_findState g1).tr ?_
    replace hf := gx_ite hf
    rcases hf with ⟨c6, hf⟩ | ⟨c6, hf⟩
    · obtain ⟨rfl, rfl⟩ := Prod.mk.inj (Option.some.inj hf)
      exact gx_le.rf
    · replace hf := gx_bs hf
      obtain ⟨r7, g11, hf⟩ := hf
      replace hf := gx_bs hf
      obtain ⟨a8, rfl, hf⟩ := hf
      replace hf := gx_bs hf
      obtain ⟨x9, g10, hf⟩ := hf
      obtain ⟨rfl, rfl⟩ := Prod.mk.inj (Option.some.inj hf)
      exact gx_le.rf
  · refine (le_X1_findState g1).tr ?_
    obtain ⟨rfl, rfl⟩ := Prod.mk.inj (Option.some.inj hf)
    exact gx_le.rf
theorem w_X1_firstEventTo {l : Launch} (hlt : l.stackTraces = false) {D : gx_D} {h : HX} {a0 : Nat} {p1 : Int32} {r : Int32 ⊕ (String × Nat)} {hz : HX} (hf : f_X1_firstEventTo D h a0 p1 = some (r, hz)) : gx_MetX l yX1_firstEventTo (ws_ yX1_firstEventTo cX1_firstEventTo 3 (some .int)) 12 264 D [(va_rf (some a0)), (.int p1)] h (gx_xi r) hz :=
  gx_ofGX gz_26 (by simp only [gx_lsr, gx_lsi, gx_lsj, gx_ls0]; decide) (le_X1_firstEventTo hf) (fun p e R s m args below meth c C hn hx => by
    simp only [gx_lar, gx_lai, gx_laj, gx_la0, Nat.reduceAdd]
    exact w_X1_firstEventTo_b hlt C hx hf)
def f_X20_verdict (D : gx_D) (h : HX) (a0 : Nat) : Option Int32 :=
  (hx_is h a0 [24]).bind fun _ =>
  some ((0 : Int32))
theorem is_X20_verdict {D : gx_D} {h : HX} {a0 : Nat} {z} (hf : f_X20_verdict D h a0 = some z) : gx_isC h a0 [24] := by
  unfold f_X20_verdict at hf
  obtain ⟨_, g, -⟩ := gx_bs hf
  exact hx_is_of g
theorem w_X20_verdict_b {l : Launch} (hlt : l.stackTraces = false) {p : Program} {e : Env} {R : Room} {s : State} {m : MethodId} {args : Array Value} {below : List Frame} {meth : Method} {c : Code} {D : gx_D} {h0 : HX} {r : Int32} (C : gx_Ctx p R s m args meth c "ContractMachine$Accepted" cX20_verdict 1 (some .int) 1 24 D h0 h0) (hx : meth.name = "verdict") {a0 : Nat} (hf : f_X20_verdict D h0 a0 = some r) : gx_G p l e R s m args below meth c D h0 h0 1 (gx_MQ below args s D h0 h0 (some (.int r))) 0 [(0, (va_rf (some a0)))] [] h0 := by
  unfold f_X20_verdict at hf
  replace hf := gx_bs hf
  obtain ⟨_, -, hf⟩ := hf
  refine gx_iconst (v := 0) C dX20_verdict_0 rfl ?_
  obtain rfl := Option.some.inj hf
  exact gx_iret C dX20_verdict_1
theorem w_X20_verdict {l : Launch} (hlt : l.stackTraces = false) {D : gx_D} {h : HX} {a0 : Nat} {r : Int32} (hf : f_X20_verdict D h a0 = some r) : gx_Met l yX20_verdict cX20_verdict 1 (some .int) 1 24 D [(va_rf (some a0))] h (some (.int r)) h :=
  gx_ofG gz_309 (by simp only [gx_lsr, gx_lsi, gx_lsj, gx_ls0]; decide) gx_le.rf (fun p e R s m args below meth c C hx => by
    simp only [gx_lar, gx_lai, gx_laj, gx_la0, Nat.reduceAdd]
    exact w_X20_verdict_b hlt C hx hf)
def f_X19_verdict (D : gx_D) (h : HX) (a0 : Nat) : Option Int32 :=
  (hx_is h a0 [23]).bind fun _ =>
  (hx_gi h a0 [23] 0).bind fun x1 =>
  some x1
theorem is_X19_verdict {D : gx_D} {h : HX} {a0 : Nat} {z} (hf : f_X19_verdict D h a0 = some z) : gx_isC h a0 [23] := by
  unfold f_X19_verdict at hf
  obtain ⟨_, g, -⟩ := gx_bs hf
  exact hx_is_of g
theorem w_X19_verdict_b {l : Launch} (hlt : l.stackTraces = false) {p : Program} {e : Env} {R : Room} {s : State} {m : MethodId} {args : Array Value} {below : List Frame} {meth : Method} {c : Code} {D : gx_D} {h0 : HX} {r : Int32} (C : gx_Ctx p R s m args meth c "ContractMachine$Rejected" cX19_verdict 1 (some .int) 1 24 D h0 h0) (hx : meth.name = "verdict") {a0 : Nat} (hf : f_X19_verdict D h0 a0 = some r) : gx_G p l e R s m args below meth c D h0 h0 1 (gx_MQ below args s D h0 h0 (some (.int r))) 0 [(0, (va_rf (some a0)))] [] h0 := by
  unfold f_X19_verdict at hf
  replace hf := gx_bs hf
  obtain ⟨_, -, hf⟩ := hf
  refine gx_aload_n C dX19_verdict_0 0 rfl ?_
  replace hf := gx_bs hf
  obtain ⟨x1, g2, hf⟩ := hf
  refine gx_gi C g2 gz_310 q1836 dX19_verdict_1 ?_
  obtain rfl := Option.some.inj hf
  exact gx_iret C dX19_verdict_4
theorem w_X19_verdict {l : Launch} (hlt : l.stackTraces = false) {D : gx_D} {h : HX} {a0 : Nat} {r : Int32} (hf : f_X19_verdict D h a0 = some r) : gx_Met l yX19_verdict cX19_verdict 1 (some .int) 1 24 D [(va_rf (some a0))] h (some (.int r)) h :=
  gx_ofG gz_311 (by simp only [gx_lsr, gx_lsi, gx_lsj, gx_ls0]; decide) gx_le.rf (fun p e R s m args below meth c C hx => by
    simp only [gx_lar, gx_lai, gx_laj, gx_la0, Nat.reduceAdd]
    exact w_X19_verdict_b hlt C hx hf)
def f_X1_fire_b21 (D : gx_D) (h : HX) (v2 : Option Nat) : Option ((Int32 ⊕ (String × Nat)) × HX) :=
  v2.bind fun a16 =>
  if hx_isb h a16 [23] = true then
  (f_X19_verdict D h a16).bind fun x19 =>
  some (.inl x19, h)
  else
  if hx_isb h a16 [24] = true then
  (f_X20_verdict D h a16).bind fun x22 =>
  some (.inl x22, h)
  else
  none
theorem w_X1_fire_b21 {l : Launch} (hlt : l.stackTraces = false) {p : Program} {e : Env} {R : Room} {s : State} {m : MethodId} {args : Array Value} {below : List Frame} {meth : Method} {c : Code} {D : gx_D} {h0 : HX} {r : Int32 ⊕ (String × Nat)} {hz : HX} (C : gx_Ctx p R s m args meth c "ContractMachine" cX1_fire 3 (some .int) 9 178 D h0 hz) (hx : ∀ x ∈ c.exceptionTable.toList, False)  {h : HX} {v2 : Option Nat} (hf : f_X1_fire_b21 D h v2 = some (r, hz)) : gx_G p l e R s m args below meth c D h0 hz 3 (gx_MQX below args s D h0 hz (gx_xi r)) 21 [(2, (va_rf v2))] [] h := by
  unfold f_X1_fire_b21 at hf
  refine gx_aload_n C dX1_fire_21 0 rfl ?_
  replace hf := gx_bs hf
  obtain ⟨a16, rfl, hf⟩ := hf
  replace hf := gx_ite hf
  rcases hf with ⟨c17, hf⟩ | ⟨c17, hf⟩
  · replace hf := gx_bs hf
    obtain ⟨x19, g18, hf⟩ := hf
    refine gx_callF (st := []) C (w_X19_verdict hlt g18) (is_X19_verdict g18) q2516 (gx_cis1 gz_319 ⟨gz_480, q2524⟩ gx_cis0) q2526 q170 q2528 gz_479 (by decide) rfl rfl (gx_catn (Nat.le_of_ble_eq_true rfl)) dX1_fire_22 ?_
    obtain ⟨rfl, rfl⟩ := Prod.mk.inj (Option.some.inj hf)
    exact gx_ret (gx_iret C dX1_fire_27)
  replace hf := gx_ite hf
  rcases hf with ⟨c20, hf⟩ | ⟨c20, hf⟩
  · replace hf := gx_bs hf
    obtain ⟨x22, g21, hf⟩ := hf
    refine gx_callF (st := []) C (w_X20_verdict hlt g21) (is_X20_verdict g21) q2516 (gx_cis1 gz_316 ⟨gz_481, q2519⟩ gx_cis0) q2521 q171 q2523 gz_479 (by decide) rfl rfl (gx_catn (Nat.le_of_ble_eq_true rfl)) dX1_fire_22 ?_
    obtain ⟨rfl, rfl⟩ := Prod.mk.inj (Option.some.inj hf)
    exact gx_ret (gx_iret C dX1_fire_27)
  cases hf
theorem le_X1_fire_b21 {D : gx_D} {r : Int32 ⊕ (String × Nat)} {hz : HX} {h : HX} {v2 : Option Nat} (hf : f_X1_fire_b21 D h v2 = some (r, hz)) : gx_le h hz := by
  unfold f_X1_fire_b21 at hf
  replace hf := gx_bs hf
  obtain ⟨a16, rfl, hf⟩ := hf
  replace hf := gx_ite hf
  rcases hf with ⟨c17, hf⟩ | ⟨c17, hf⟩
  · replace hf := gx_bs hf
    obtain ⟨x19, g18, hf⟩ := hf
    obtain ⟨rfl, rfl⟩ := Prod.mk.inj (Option.some.inj hf)
    exact gx_le.rf
  replace hf := gx_ite hf
  rcases hf with ⟨c20, hf⟩ | ⟨c20, hf⟩
  · replace hf := gx_bs hf
    obtain ⟨x22, g21, hf⟩ := hf
    obtain ⟨rfl, rfl⟩ := Prod.mk.inj (Option.some.inj hf)
    exact gx_le.rf
  cases hf
def f_X1_fire (D : gx_D) (h : HX) (a0 : Nat) (p1 : Int32) : Option ((Int32 ⊕ (String × Nat)) × HX) :=
  (hx_is h a0 [9]).bind fun _ =>
  gx_bx (f_X1_checkEvent D h a0 p1) (fun u5 h2 =>
  gx_b2 (f_X1_outcome D h2 a0 p1) fun r7 h8 =>
  gx_b2 (f_X1_changed D h8 a0) fun r10 h11 =>
  r7.bind fun a12 =>
  if hx_isb h11 a12 [23] = true then
  (f_X19_applyTo D h11 a12 r10).bind fun h15 =>
  f_X1_fire_b21 D h15 (some a12)
  else
  if hx_isb h11 a12 [24] = true then
  (f_X20_applyTo D h11 a12 r10).bind fun h25 =>
  f_X1_fire_b21 D h25 (some a12)
  else
  none) fun E3 q4 h2 =>
  some (.inr (E3, q4), h2)
theorem is_X1_fire {D : gx_D} {h : HX} {a0 : Nat} {p1 : Int32} {z} (hf : f_X1_fire D h a0 p1 = some z) : gx_isC h a0 [9] := by
  unfold f_X1_fire at hf
  obtain ⟨_, g, -⟩ := gx_bs hf
  exact hx_is_of g
theorem w_X1_fire_b {l : Launch} (hlt : l.stackTraces = false) {p : Program} {e : Env} {R : Room} {s : State} {m : MethodId} {args : Array Value} {below : List Frame} {meth : Method} {c : Code} {D : gx_D} {h0 : HX} {r : Int32 ⊕ (String × Nat)} {hz : HX} (C : gx_Ctx p R s m args meth c "ContractMachine" cX1_fire 3 (some .int) 9 178 D h0 hz) (hx : ∀ x ∈ c.exceptionTable.toList, False) {a0 : Nat} {p1 : Int32} (hf : f_X1_fire D h0 a0 p1 = some (r, hz)) : gx_G p l e R s m args below meth c D h0 hz 3 (gx_MQX below args s D h0 hz (gx_xi r)) 0 [(0, (va_rf (some a0))), (1, (.int p1))] [] h0 := by
  unfold f_X1_fire at hf
  replace hf := gx_bs hf
  obtain ⟨_, -, hf⟩ := hf
  refine gx_aload_n C dX1_fire_0 0 rfl ?_
  refine gx_iload_n C dX1_fire_1 1 rfl ?_
  replace hf := gx_bxs hf
  rcases hf with ⟨u5, h2, g1, hf⟩ | ⟨E3, q4, h2, g1, hf⟩
  · refine gx_xcallV (st := []) C (w_X1_checkEvent hlt g1) (is_X1_checkEvent g1) gz_108 rfl (lw_V q2389 q2391 qs47 q121 q2392) gz_467 (by decide) rfl rfl (gx_catn (Nat.le_of_ble_eq_true rfl)) dX1_fire_2 (gx_k2l ?_)
    refine gx_aload_n C dX1_fire_5 0 rfl ?_
    refine gx_iload_n C dX1_fire_6 1 rfl ?_
    replace hf := gx_b2s hf
    obtain ⟨r7, h8, g6, hf⟩ := hf
    refine gx_callV (st := []) C (w_X1_outcome hlt g6) (is_X1_outcome g6) gz_108 rfl (lw_V q2512 q1779 qs32 q121 q1780) gz_324 (by decide) rfl rfl (gx_catn (Nat.le_of_ble_eq_true rfl)) dX1_fire_7 ?_
    refine gx_astn C dX1_fire_10 2 rfl (by decide) [0]  rfl (gx_okn rfl rfl gx_ok0) ?_
    refine gx_aload_n C dX1_fire_11 0 rfl ?_
    refine gx_aload_n C dX1_fire_12 1 rfl ?_
    replace hf := gx_b2s hf
    obtain ⟨r10, h11, g9, hf⟩ := hf
    refine gx_callV (st := [(va_rf r7)]) C (w_X1_changed hlt g9) (is_X1_changed g9) gz_108 rfl (lw_V q1631 q1633 qs29 q121 q1634) gz_342 (by decide) rfl rfl (gx_catn (Nat.le_of_ble_eq_true rfl)) dX1_fire_13 ?_
    replace hf := gx_bs hf
    obtain ⟨a12, rfl, hf⟩ := hf
    replace hf := gx_ite hf
    rcases hf with ⟨c13, hf⟩ | ⟨c13, hf⟩
    · replace hf := gx_bs hf
      obtain ⟨h15, g14, hf⟩ := hf
      refine gx_callF (st := []) C (w_X19_applyTo hlt g14) (is_X19_applyTo g14) q2514 (gx_cis1 gz_319 ⟨gz_326, q1877⟩ gx_cis0) q1879 q170 q1881 gz_325 (by decide) rfl rfl (gx_catn (Nat.le_of_ble_eq_true rfl)) dX1_fire_16 ?_
      refine gx_sub [0] rfl ?_
      exact w_X1_fire_b21 hlt C hx hf
    replace hf := gx_ite hf
    rcases hf with ⟨c23, hf⟩ | ⟨c23, hf⟩
    · replace hf := gx_bs hf
      obtain ⟨h25, g24, hf⟩ := hf
      refine gx_callF (st := []) C (w_X20_applyTo hlt g24) (is_X20_applyTo g24) q2514 (gx_cis1 gz_316 ⟨gz_327, q1865⟩ gx_cis0) q1867 q171 q1869 gz_325 (by decide) rfl rfl (gx_catn (Nat.le_of_ble_eq_true rfl)) dX1_fire_16 ?_
      refine gx_sub [0] rfl ?_
      exact w_X1_fire_b21 hlt C hx hf
    cases hf
  · refine gx_xcallV (st := []) C (w_X1_checkEvent hlt g1) (is_X1_checkEvent g1) gz_108 rfl (lw_V q2389 q2391 qs47 q121 q2392) gz_467 (by decide) rfl rfl (gx_catn (Nat.le_of_ble_eq_true rfl)) dX1_fire_2 (gx_k2r ?_)
    obtain ⟨rfl, rfl⟩ := Prod.mk.inj (Option.some.inj hf)
    exact gx_out C hx
theorem le_X1_fire {D : gx_D} {r : Int32 ⊕ (String × Nat)} {hz : HX} {h : HX} {a0 : Nat} {p1 : Int32} (hf : f_X1_fire D h a0 p1 = some (r, hz)) : gx_le h hz := by
  unfold f_X1_fire at hf
  replace hf := gx_bs hf
  obtain ⟨_, -, hf⟩ := hf
  replace hf := gx_bxs hf
  rcases hf with ⟨u5, h2, g1, hf⟩ | ⟨E3, q4, h2, g1, hf⟩
  · refine (le_X1_checkEvent g1).tr ?_
    replace hf := gx_b2s hf
    obtain ⟨r7, h8, g6, hf⟩ := hf
    refine (le_X1_outcome g6).tr ?_
    replace hf := gx_b2s hf
    obtain ⟨r10, h11, g9, hf⟩ := hf
    refine (le_X1_changed g9).tr ?_
    replace hf := gx_bs hf
    obtain ⟨a12, rfl, hf⟩ := hf
    replace hf := gx_ite hf
    rcases hf with ⟨c13, hf⟩ | ⟨c13, hf⟩
    · replace hf := gx_bs hf
      obtain ⟨h15, g14, hf⟩ := hf
      refine (le_X19_applyTo g14).tr ?_
      exact le_X1_fire_b21 hf
    replace hf := gx_ite hf
    rcases hf with ⟨c23, hf⟩ | ⟨c23, hf⟩
    · replace hf := gx_bs hf
      obtain ⟨h25, g24, hf⟩ := hf
      refine (le_X20_applyTo g24).tr ?_
      exact le_X1_fire_b21 hf
    cases hf
  · refine (le_X1_checkEvent g1).tr ?_
    obtain ⟨rfl, rfl⟩ := Prod.mk.inj (Option.some.inj hf)
    exact gx_le.rf
theorem w_X1_fire {l : Launch} (hlt : l.stackTraces = false) {D : gx_D} {h : HX} {a0 : Nat} {p1 : Int32} {r : Int32 ⊕ (String × Nat)} {hz : HX} (hf : f_X1_fire D h a0 p1 = some (r, hz)) : gx_MetX l yX1_fire (ws_ yX1_fire cX1_fire 3 (some .int)) 9 178 D [(va_rf (some a0)), (.int p1)] h (gx_xi r) hz :=
  gx_ofGX gz_26 (by simp only [gx_lsr, gx_lsi, gx_lsj, gx_ls0]; decide) (le_X1_fire hf) (fun p e R s m args below meth c C hn hx => by
    simp only [gx_lar, gx_lai, gx_laj, gx_la0, Nat.reduceAdd]
    exact w_X1_fire_b hlt C hx hf)
def f_X1_requireState (D : gx_D) (h : HX) (p0 : Bool) : Option ((Unit ⊕ (String × Nat)) × HX) :=
  if p0 = true then
  some (.inl (), h)
  else
  some (.inr ("java/lang/IllegalStateException", h.1), hx_skip h 1 6)
theorem w_X1_requireState_b {l : Launch} (hlt : l.stackTraces = false) {p : Program} {e : Env} {R : Room} {s : State} {m : MethodId} {args : Array Value} {below : List Frame} {meth : Method} {c : Code} {D : gx_D} {h0 : HX} {r : Unit ⊕ (String × Nat)} {hz : HX} (C : gx_Ctx p R s m args meth c "ContractMachine" cX1_requireState 1 none 6 89 D h0 hz) (hx : ∀ x ∈ c.exceptionTable.toList, False) {p0 : Bool} (hf : f_X1_requireState D h0 p0 = some (r, hz)) : gx_G p l e R s m args below meth c D h0 hz 1 (gx_MQX below args s D h0 hz (gx_xv r)) 0 [(0, (.int (b2i p0)))] [] h0 := by
  unfold f_X1_requireState at hf
  refine gx_iload_n C dX1_requireState_0 0 rfl ?_
  replace hf := gx_ite hf
  rcases hf with ⟨c1, hf⟩ | ⟨c1, hf⟩
  · refine gx_ifz_ne_t (tgt := 12) C dX1_requireState_1 rfl c1 ?_
    obtain ⟨rfl, rfl⟩ := Prod.mk.inj (Option.some.inj hf)
    exact gx_ret (gx_vret C dX1_requireState_12)
  · refine gx_ifz_ne_f (tgt := 12) C dX1_requireState_1 rfl c1 ?_
    obtain ⟨rfl, rfl⟩ := Prod.mk.inj (Option.some.inj hf)
    exact gx_throw0 C hlt (names := ["java/lang/RuntimeException", "java/lang/Exception"]) (by decide +kernel) (by decide +kernel) q2542 q168 gz_483 gz_483g dX1_requireState_4 dX1_requireState_7 dX1_requireState_8 dX1_requireState_11 (by decide) (by decide) (gx_out C hx)
theorem le_X1_requireState {D : gx_D} {r : Unit ⊕ (String × Nat)} {hz : HX} {h : HX} {p0 : Bool} (hf : f_X1_requireState D h p0 = some (r, hz)) : gx_le h hz := by
  unfold f_X1_requireState at hf
  replace hf := gx_ite hf
  rcases hf with ⟨c1, hf⟩ | ⟨c1, hf⟩
  · obtain ⟨rfl, rfl⟩ := Prod.mk.inj (Option.some.inj hf)
    exact gx_le.rf
  · obtain ⟨rfl, rfl⟩ := Prod.mk.inj (Option.some.inj hf)
    exact gx_le.skip
theorem w_X1_requireState {l : Launch} (hlt : l.stackTraces = false) {D : gx_D} {h : HX} {p0 : Bool} {r : Unit ⊕ (String × Nat)} {hz : HX} (hf : f_X1_requireState D h p0 = some (r, hz)) : gx_MetX l yX1_requireState (ws_ yX1_requireState cX1_requireState 1 none) 6 89 D [(.int (b2i p0))] h (gx_xv r) hz :=
  gx_ofGX gz_26 (by simp only [gx_lsr, gx_lsi, gx_lsj, gx_ls0]; decide) (le_X1_requireState hf) (fun p e R s m args below meth c C hn hx => by
    simp only [gx_lar, gx_lai, gx_laj, gx_la0, Nat.reduceAdd]
    exact w_X1_requireState_b hlt C hx hf)
def f_X1_setValue (D : gx_D) (h : HX) (a0 : Nat) (p1 : Int32) (p2 : Int32) : Option ((Int32 ⊕ (String × Nat)) × HX) :=
  (hx_is h a0 [9]).bind fun _ =>
  gx_bx (f_X1_checkVariable D h a0 p1) (fun u5 h2 =>
  (f_X1_isWithin D h2 (Int32.toInt64 p2) (0 : Int64) (9 : Int64)).bind fun b7 =>
  gx_bx (f_X1_requireArgument D h2 b7) (fun u12 h9 =>
  (f_X1_canSet D h9 a0 p1 p2).bind fun b14 =>
  gx_bx (f_X1_requireState D h9 b14) (fun u19 h16 =>
  gx_b2 (f_X1_changed D h16 a0) fun r21 h22 =>
  gx_b2 (f_X1_set D h22 a0 p1 p2) fun x24 h25 =>
  some (.inl x24, h25)) fun E17 q18 h16 =>
  some (.inr (E17, q18), h16)) fun E10 q11 h9 =>
  some (.inr (E10, q11), h9)) fun E3 q4 h2 =>
  some (.inr (E3, q4), h2)
theorem is_X1_setValue {D : gx_D} {h : HX} {a0 : Nat} {p1 : Int32} {p2 : Int32} {z} (hf : f_X1_setValue D h a0 p1 p2 = some z) : gx_isC h a0 [9] := by
  unfold f_X1_setValue at hf
  obtain ⟨_, g, -⟩ := gx_bs hf
  exact hx_is_of g
theorem w_X1_setValue_b {l : Launch} (hlt : l.stackTraces = false) {p : Program} {e : Env} {R : Room} {s : State} {m : MethodId} {args : Array Value} {below : List Frame} {meth : Method} {c : Code} {D : gx_D} {h0 : HX} {r : Int32 ⊕ (String × Nat)} {hz : HX} (C : gx_Ctx p R s m args meth c "ContractMachine" cX1_setValue 4 (some .int) 9 152 D h0 hz) (hx : ∀ x ∈ c.exceptionTable.toList, False) {a0 : Nat} {p1 : Int32} {p2 : Int32} (hf : f_X1_setValue D h0 a0 p1 p2 = some (r, hz)) : gx_G p l e R s m args below meth c D h0 hz 4 (gx_MQX below args s D h0 hz (gx_xi r)) 0 [(0, (va_rf (some a0))), (1, (.int p1)), (2, (.int p2))] [] h0 := by
  unfold f_X1_setValue at hf
  replace hf := gx_bs hf
  obtain ⟨_, -, hf⟩ := hf
  refine gx_aload_n C dX1_setValue_0 0 rfl ?_
  refine gx_iload_n C dX1_setValue_1 1 rfl ?_
  replace hf := gx_bxs hf
  rcases hf with ⟨u5, h2, g1, hf⟩ | ⟨E3, q4, h2, g1, hf⟩
  · refine gx_xcallV (st := []) C (w_X1_checkVariable hlt g1) (is_X1_checkVariable g1) gz_108 rfl (lw_V q2312 q2314 qs44 q121 q2315) gz_464 (by decide) rfl rfl (gx_catn (Nat.le_of_ble_eq_true rfl)) dX1_setValue_2 (gx_k2l ?_)
    refine gx_iload_n C dX1_setValue_5 2 rfl ?_
    refine gx_i2l C dX1_setValue_6 ?_
    refine gx_lconst (v := 0) C dX1_setValue_7 rfl ?_
    refine gx_ldc2 C q2537 dX1_setValue_8 ?_
    replace hf := gx_bs hf
    obtain ⟨b7, g6, hf⟩ := hf
    refine gx_callS (st := []) C (w_X1_isWithin hlt g6) (lw_S q953 q954 q121 q955) gz_121 (by decide) rfl rfl (gx_catn (Nat.le_of_ble_eq_true rfl)) dX1_setValue_11 ?_
    replace hf := gx_bxs hf
    rcases hf with ⟨u12, h9, g8, hf⟩ | ⟨E10, q11, h9, g8, hf⟩
    · refine gx_xcallS (st := []) C (w_X1_requireArgument hlt g8) (lw_S q2434 q2435 q121 q2436) gz_471 (by decide) rfl rfl (gx_catn (Nat.le_of_ble_eq_true rfl)) dX1_setValue_14 (gx_k2l ?_)
      refine gx_aload_n C dX1_setValue_17 0 rfl ?_
      refine gx_iload_n C dX1_setValue_18 1 rfl ?_
      refine gx_iload_n C dX1_setValue_19 2 rfl ?_
      replace hf := gx_bs hf
      obtain ⟨b14, g13, hf⟩ := hf
      refine gx_callV (st := []) C (w_X1_canSet hlt g13) (is_X1_canSet g13) gz_108 rfl (lw_V q2538 q1887 qs36 q121 q1888) gz_334 (by decide) rfl rfl (gx_catn (Nat.le_of_ble_eq_true rfl)) dX1_setValue_20 ?_
      replace hf := gx_bxs hf
      rcases hf with ⟨u19, h16, g15, hf⟩ | ⟨E17, q18, h16, g15, hf⟩
      · refine gx_xcallS (st := []) C (w_X1_requireState hlt g15) (lw_S q2539 q2540 q121 q2541) gz_484 (by decide) rfl rfl (gx_catn (Nat.le_of_ble_eq_true rfl)) dX1_setValue_23 (gx_k2l ?_)
        refine gx_aload_n C dX1_setValue_26 0 rfl ?_
        replace hf := gx_b2s hf
        obtain ⟨r21, h22, g20, hf⟩ := hf
        refine gx_callV (st := []) C (w_X1_changed hlt g20) (is_X1_changed g20) gz_108 rfl (lw_V q1631 q1633 qs29 q121 q1634) gz_342 (by decide) rfl rfl (gx_catn (Nat.le_of_ble_eq_true rfl)) dX1_setValue_27 ?_
        refine gx_astn C dX1_setValue_30 3 rfl (by decide) [0, 1, 2]  rfl (gx_okn rfl rfl (gx_okn rfl rfl (gx_okr rfl gx_catv_i gx_ok0))) ?_
        refine gx_aload_n C dX1_setValue_31 1 rfl ?_
        refine gx_iload_n C dX1_setValue_32 2 rfl ?_
        refine gx_iload_n C dX1_setValue_33 3 rfl ?_
        replace hf := gx_b2s hf
        obtain ⟨x24, h25, g23, hf⟩ := hf
        refine gx_callV (st := []) C (w_X1_set hlt g23) (is_X1_set g23) gz_108 rfl (lw_V q2547 q1900 qs38 q121 q1901) gz_335 (by decide) rfl rfl (gx_catn (Nat.le_of_ble_eq_true rfl)) dX1_setValue_34 ?_
        obtain ⟨rfl, rfl⟩ := Prod.mk.inj (Option.some.inj hf)
        exact gx_ret (gx_iret C dX1_setValue_37)
      · refine gx_xcallS (st := []) C (w_X1_requireState hlt g15) (lw_S q2539 q2540 q121 q2541) gz_484 (by decide) rfl rfl (gx_catn (Nat.le_of_ble_eq_true rfl)) dX1_setValue_23 (gx_k2r ?_)
        obtain ⟨rfl, rfl⟩ := Prod.mk.inj (Option.some.inj hf)
        exact gx_out C hx
    · refine gx_xcallS (st := []) C (w_X1_requireArgument hlt g8) (lw_S q2434 q2435 q121 q2436) gz_471 (by decide) rfl rfl (gx_catn (Nat.le_of_ble_eq_true rfl)) dX1_setValue_14 (gx_k2r ?_)
      obtain ⟨rfl, rfl⟩ := Prod.mk.inj (Option.some.inj hf)
      exact gx_out C hx
  · refine gx_xcallV (st := []) C (w_X1_checkVariable hlt g1) (is_X1_checkVariable g1) gz_108 rfl (lw_V q2312 q2314 qs44 q121 q2315) gz_464 (by decide) rfl rfl (gx_catn (Nat.le_of_ble_eq_true rfl)) dX1_setValue_2 (gx_k2r ?_)
    obtain ⟨rfl, rfl⟩ := Prod.mk.inj (Option.some.inj hf)
    exact gx_out C hx
theorem le_X1_setValue {D : gx_D} {r : Int32 ⊕ (String × Nat)} {hz : HX} {h : HX} {a0 : Nat} {p1 : Int32} {p2 : Int32} (hf : f_X1_setValue D h a0 p1 p2 = some (r, hz)) : gx_le h hz := by
  unfold f_X1_setValue at hf
  replace hf := gx_bs hf
  obtain ⟨_, -, hf⟩ := hf
  replace hf := gx_bxs hf
  rcases hf with ⟨u5, h2, g1, hf⟩ | ⟨E3, q4, h2, g1, hf⟩
  · refine (le_X1_checkVariable g1).tr ?_
    replace hf := gx_bs hf
    obtain ⟨b7, g6, hf⟩ := hf
    replace hf := gx_bxs hf
    rcases hf with ⟨u12, h9, g8, hf⟩ | ⟨E10, q11, h9, g8, hf⟩
    · refine (le_X1_requireArgument g8).tr ?_
      replace hf := gx_bs hf
      obtain ⟨b14, g13, hf⟩ := hf
      replace hf := gx_bxs hf
      rcases hf with ⟨u19, h16, g15, hf⟩ | ⟨E17, q18, h16, g15, hf⟩
      · refine (le_X1_requireState g15).tr ?_
        replace hf := gx_b2s hf
        obtain ⟨r21, h22, g20, hf⟩ := hf
        refine (le_X1_changed g20).tr ?_
        replace hf := gx_b2s hf
        obtain ⟨x24, h25, g23, hf⟩ := hf
        refine (le_X1_set g23).tr ?_
        obtain ⟨rfl, rfl⟩ := Prod.mk.inj (Option.some.inj hf)
        exact gx_le.rf
      · refine (le_X1_requireState g15).tr ?_
        obtain ⟨rfl, rfl⟩ := Prod.mk.inj (Option.some.inj hf)
        exact gx_le.rf
    · refine (le_X1_requireArgument g8).tr ?_
      obtain ⟨rfl, rfl⟩ := Prod.mk.inj (Option.some.inj hf)
      exact gx_le.rf
  · refine (le_X1_checkVariable g1).tr ?_
    obtain ⟨rfl, rfl⟩ := Prod.mk.inj (Option.some.inj hf)
    exact gx_le.rf
theorem w_X1_setValue {l : Launch} (hlt : l.stackTraces = false) {D : gx_D} {h : HX} {a0 : Nat} {p1 : Int32} {p2 : Int32} {r : Int32 ⊕ (String × Nat)} {hz : HX} (hf : f_X1_setValue D h a0 p1 p2 = some (r, hz)) : gx_MetX l yX1_setValue (ws_ yX1_setValue cX1_setValue 4 (some .int)) 9 152 D [(va_rf (some a0)), (.int p1), (.int p2)] h (gx_xi r) hz :=
  gx_ofGX gz_26 (by simp only [gx_lsr, gx_lsi, gx_lsj, gx_ls0]; decide) (le_X1_setValue hf) (fun p e R s m args below meth c C hn hx => by
    simp only [gx_lar, gx_lai, gx_laj, gx_la0, Nat.reduceAdd]
    exact w_X1_setValue_b hlt C hx hf)
def f_X1_canAdd (D : gx_D) (h : HX) (a0 : Nat) (p1 : Option Nat) : Option Bool :=
  (hx_is h a0 [9]).bind fun _ =>
  (hx_gr h a0 [9] 6).bind fun r1 =>
  r1.bind fun a2 =>
  (hx_gr h a2 [11] 0).bind fun r3 =>
  r3.bind fun a4 =>
  (f_J2_size D h a4).bind fun x6 =>
  if (12 : Int32) ≤ x6 then
  some false
  else
  (hx_gr h a0 [9] 6).bind fun r8 =>
  r8.bind fun a9 =>
  (hx_gi h a9 [11] 6).bind fun x10 =>
  p1.bind fun a11 =>
  (f_X8_isBrokenBy D h a11 x10).bind fun b13 =>
  if b13 = true then
  some false
  else
  (hx_gr h a0 [9] 5).bind fun r15 =>
  r15.bind fun a16 =>
  (hx_gi h a16 [10] 4).bind fun x17 =>
  (f_X8_isBrokenBy D h a11 x17).bind fun b19 =>
  if b19 = true then
  some false
  else
  some true
theorem is_X1_canAdd {D : gx_D} {h : HX} {a0 : Nat} {p1 : Option Nat} {z} (hf : f_X1_canAdd D h a0 p1 = some z) : gx_isC h a0 [9] := by
  unfold f_X1_canAdd at hf
  obtain ⟨_, g, -⟩ := gx_bs hf
  exact hx_is_of g
theorem w_X1_canAdd_b {l : Launch} (hlt : l.stackTraces = false) {p : Program} {e : Env} {R : Room} {s : State} {m : MethodId} {args : Array Value} {below : List Frame} {meth : Method} {c : Code} {D : gx_D} {h0 : HX} {r : Bool} (C : gx_Ctx p R s m args meth c "ContractMachine" cX1_canAdd 2 (some .boolean) 5 108 D h0 h0) (hx : meth.name = "canAdd") {a0 : Nat} {p1 : Option Nat} (hf : f_X1_canAdd D h0 a0 p1 = some r) : gx_G p l e R s m args below meth c D h0 h0 2 (gx_MQ below args s D h0 h0 (some (.int (b2i r)))) 0 [(0, (va_rf (some a0))), (1, (va_rf p1))] [] h0 := by
  unfold f_X1_canAdd at hf
  replace hf := gx_bs hf
  obtain ⟨_, -, hf⟩ := hf
  refine gx_aload_n C dX1_canAdd_0 0 rfl ?_
  replace hf := gx_bs hf
  obtain ⟨r1, g26, hf⟩ := hf
  refine gx_gr C g26 gz_85 q896 dX1_canAdd_1 ?_
  replace hf := gx_bs hf
  obtain ⟨a2, rfl, hf⟩ := hf
  replace hf := gx_bs hf
  obtain ⟨r3, g25, hf⟩ := hf
  refine gx_grN C g25 gz_57 q596 dX1_canAdd_4 ?_
  replace hf := gx_bs hf
  obtain ⟨a4, rfl, hf⟩ := hf
  replace hf := gx_bs hf
  obtain ⟨x6, g5, hf⟩ := hf
  refine gx_callF (st := []) C (w_J2_size hlt g5) (is_J2_size g5) q1481 (gx_cis1 gz_19 ⟨gz_51, q770⟩ gx_cis0) q772 q127 q774 gz_50 (by decide) rfl rfl (gx_catn (Nat.le_of_ble_eq_true rfl)) dX1_canAdd_7 ?_
  refine gx_bipush (v := 12) C dX1_canAdd_12 rfl ?_
  replace hf := gx_ite hf
  rcases hf with ⟨c7, hf⟩ | ⟨c7, hf⟩
  · refine gx_icmp_ge_t (tgt := 49) C dX1_canAdd_14 rfl c7 ?_
    refine gx_iconst (v := 0) C dX1_canAdd_49 rfl ?_
    obtain rfl := Option.some.inj hf
    exact gx_zret (b := false) C dX1_canAdd_50
  · refine gx_icmp_ge_f (tgt := 49) C dX1_canAdd_14 rfl c7 ?_
    refine gx_aload_n C dX1_canAdd_17 1 rfl ?_
    refine gx_aload_n C dX1_canAdd_18 0 rfl ?_
    replace hf := gx_bs hf
    obtain ⟨r8, g24, hf⟩ := hf
    refine gx_gr C g24 gz_85 q896 dX1_canAdd_19 ?_
    replace hf := gx_bs hf
    obtain ⟨a9, rfl, hf⟩ := hf
    replace hf := gx_bs hf
    obtain ⟨x10, g23, hf⟩ := hf
    refine gx_giN C g23 gz_65 q614 dX1_canAdd_22 ?_
    replace hf := gx_bs hf
    obtain ⟨a11, rfl, hf⟩ := hf
    replace hf := gx_bs hf
    obtain ⟨b13, g12, hf⟩ := hf
    refine gx_callV (st := []) C (w_X8_isBrokenBy hlt g12) (is_X8_isBrokenBy g12) gz_11 rfl (lw_V q2560 q1440 q1441 q150 q1442) gz_224 (by decide) rfl rfl (gx_catn (Nat.le_of_ble_eq_true rfl)) dX1_canAdd_25 ?_
    replace hf := gx_ite hf
    rcases hf with ⟨c14, hf⟩ | ⟨c14, hf⟩
    · refine gx_ifz_ne_t (tgt := 49) C dX1_canAdd_28 rfl c14 ?_
      refine gx_iconst (v := 0) C dX1_canAdd_49 rfl ?_
      obtain rfl := Option.some.inj hf
      exact gx_zret (b := false) C dX1_canAdd_50
    · refine gx_ifz_ne_f (tgt := 49) C dX1_canAdd_28 rfl c14 ?_
      refine gx_aload_n C dX1_canAdd_31 1 rfl ?_
      refine gx_aload_n C dX1_canAdd_32 0 rfl ?_
      replace hf := gx_bs hf
      obtain ⟨r15, g22, hf⟩ := hf
      refine gx_gr C g22 gz_20 q892 dX1_canAdd_33 ?_
      replace hf := gx_bs hf
      obtain ⟨a16, rfl, hf⟩ := hf
      replace hf := gx_bs hf
      obtain ⟨x17, g21, hf⟩ := hf
      refine gx_giN C g21 gz_49 q574 dX1_canAdd_36 ?_
      replace hf := gx_bs hf
      obtain ⟨b19, g18, hf⟩ := hf
      refine gx_callV (st := []) C (w_X8_isBrokenBy hlt g18) (is_X8_isBrokenBy g18) gz_11 rfl (lw_V q2560 q1440 q1441 q150 q1442) gz_224 (by decide) rfl rfl (gx_catn (Nat.le_of_ble_eq_true rfl)) dX1_canAdd_39 ?_
      replace hf := gx_ite hf
      rcases hf with ⟨c20, hf⟩ | ⟨c20, hf⟩
      · refine gx_ifz_ne_t (tgt := 49) C dX1_canAdd_42 rfl c20 ?_
        refine gx_iconst (v := 0) C dX1_canAdd_49 rfl ?_
        obtain rfl := Option.some.inj hf
        exact gx_zret (b := false) C dX1_canAdd_50
      · refine gx_ifz_ne_f (tgt := 49) C dX1_canAdd_42 rfl c20 ?_
        refine gx_iconst (v := 1) C dX1_canAdd_45 rfl ?_
        refine gx_goto (tgt := 50) C dX1_canAdd_46 rfl ?_
        obtain rfl := Option.some.inj hf
        exact gx_zret (b := true) C dX1_canAdd_50
theorem w_X1_canAdd {l : Launch} (hlt : l.stackTraces = false) {D : gx_D} {h : HX} {a0 : Nat} {p1 : Option Nat} {r : Bool} (hf : f_X1_canAdd D h a0 p1 = some r) : gx_Met l yX1_canAdd cX1_canAdd 2 (some .boolean) 5 108 D [(va_rf (some a0)), (va_rf p1)] h (some (.int (b2i r))) h :=
  gx_ofG gz_26 (by simp only [gx_lsr, gx_lsi, gx_lsj, gx_ls0]; decide) gx_le.rf (fun p e R s m args below meth c C hx => by
    simp only [gx_lar, gx_lai, gx_laj, gx_la0, Nat.reduceAdd]
    exact w_X1_canAdd_b hlt C hx hf)
def f_X1_addAlways_b34 (D : gx_D) (h : HX) (v0 : Nat) (v1 : Int32) (v2 : Int32) (v3 : Int32) (s0 : Bool) : Option ((Int32 ⊕ (String × Nat)) × HX) :=
  gx_bx (f_X1_requireArgument D h s0) (fun u16 h13 =>
  gx_b2 (hx_new h13 2 15 gx_df15) fun a17 h18 =>
  gx_b2 (hx_new h18 3 14 gx_df14) fun a19 h20 =>
  (hx_gr h20 v0 [9] 0).bind fun r21 =>
  r21.bind fun a22 =>
  (hx_ar h20 a22 v2).bind fun r23 =>
  (f_X7_init D h20 a19 v1 r23 v3).bind fun h25 =>
  (f_X8_init D ((hx_fz1 h25 a19)) a17 (-1 : Int32) (some a19)).bind fun h27 =>
  (f_X1_canAdd D ((hx_fz1 h27 a17)) v0 (some a17)).bind fun b29 =>
  gx_bx (f_X1_requireState D ((hx_fz1 h27 a17)) b29) (fun u34 h31 =>
  gx_b2 (f_X1_changed D h31 v0) fun r36 h37 =>
  r36.bind fun a38 =>
  (hx_gr h37 a38 [11] 0).bind fun r39 =>
  r39.bind fun a40 =>
  gx_b2 (f_J2_add D h37 a40 (some a17)) fun b42 h43 =>
  (hx_gr h43 v0 [9] 6).bind fun r44 =>
  r44.bind fun a45 =>
  (hx_gr h43 a45 [11] 0).bind fun r46 =>
  r46.bind fun a47 =>
  (f_J2_size D h43 a47).bind fun x49 =>
  some (.inl (x49 - (1 : Int32)), h43)) fun E32 q33 h31 =>
  some (.inr (E32, q33), h31)) fun E14 q15 h13 =>
  some (.inr (E14, q15), h13)
theorem w_X1_addAlways_b34 {l : Launch} (hlt : l.stackTraces = false) {p : Program} {e : Env} {R : Room} {s : State} {m : MethodId} {args : Array Value} {below : List Frame} {meth : Method} {c : Code} {D : gx_D} {h0 : HX} {r : Int32 ⊕ (String × Nat)} {hz : HX} (C : gx_Ctx p R s m args meth c "ContractMachine" cX1_addAlways 6 (some .int) 9 151 D h0 hz) (hx : ∀ x ∈ c.exceptionTable.toList, False)  {h : HX} {v0 : Nat} {v1 : Int32} {v2 : Int32} {v3 : Int32} {s0 : Bool} (hf : f_X1_addAlways_b34 D h v0 v1 v2 v3 s0 = some (r, hz)) : gx_G p l e R s m args below meth c D h0 hz 6 (gx_MQX below args s D h0 hz (gx_xi r)) 34 [(0, (va_rf (some v0))), (1, (.int v1)), (2, (.int v2)), (3, (.int v3))] [(.int (b2i s0))] h := by
  unfold f_X1_addAlways_b34 at hf
  replace hf := gx_bxs hf
  rcases hf with ⟨u16, h13, g12, hf⟩ | ⟨E14, q15, h13, g12, hf⟩
  · refine gx_xcallS (st := []) C (w_X1_requireArgument hlt g12) (lw_S q2434 q2435 q121 q2436) gz_471 (by decide) rfl rfl (gx_catn (Nat.le_of_ble_eq_true rfl)) dX1_addAlways_34 (gx_k2l ?_)
    replace hf := gx_b2s hf
    obtain ⟨a17, h18, g56, hf⟩ := hf
    refine gx_newN C g56 gz_11 tyX8_ok gx_df15_ok q856 q857 q150 dX1_addAlways_37 rfl ?_
    refine gx_dup C dX1_addAlways_40 rfl ?_
    refine gx_iconst (v := -1) C dX1_addAlways_41 rfl ?_
    replace hf := gx_b2s hf
    obtain ⟨a19, h20, g55, hf⟩ := hf
    refine gx_newN C g55 gz_107 tyX7_ok gx_df14_ok q832 q833 q149 dX1_addAlways_42 rfl ?_
    refine gx_dup C dX1_addAlways_45 rfl ?_
    refine gx_iload_n C dX1_addAlways_46 1 rfl ?_
    refine gx_aload_n C dX1_addAlways_47 0 rfl ?_
    replace hf := gx_bs hf
    obtain ⟨r21, g54, hf⟩ := hf
    refine gx_gr C g54 gz_78 q881 dX1_addAlways_48 ?_
    refine gx_iload_n C dX1_addAlways_51 2 rfl ?_
    replace hf := gx_bs hf
    obtain ⟨a22, rfl, hf⟩ := hf
    replace hf := gx_bs hf
    obtain ⟨r23, g53, hf⟩ := hf
    refine gx_aald C g53 dX1_addAlways_52 ?_
    refine gx_iload_n C dX1_addAlways_53 3 rfl ?_
    replace hf := gx_bs hf
    obtain ⟨h25, g24, hf⟩ := hf
    refine gx_callI (st := [(va_rf (some a19)), (.int (-1 : Int32)), (va_rf (some a17)), (va_rf (some a17))]) C (w_X7_init hlt g24) q836 q837 q149 q838 rfl gz_106 (by decide) rfl rfl (gx_catn (Nat.le_of_ble_eq_true rfl)) dX1_addAlways_54 ?_
    refine gx_frz1 (a := a19) ?_
    replace hf := gx_bs hf
    obtain ⟨h27, g26, hf⟩ := hf
    refine gx_callI (st := [(va_rf (some a17))]) C (w_X8_init hlt g26) q860 q861 q150 q862 rfl gz_105 (by decide) rfl rfl (gx_catn (Nat.le_of_ble_eq_true rfl)) dX1_addAlways_57 ?_
    refine gx_frz1 (a := a17) ?_
    refine gx_ast C dX1_addAlways_60 (by decide) [0]  rfl (gx_okn rfl rfl gx_ok0) ?_
    refine gx_aload_n C dX1_addAlways_62 1 rfl ?_
    refine gx_aload C dX1_addAlways_63 0 rfl ?_
    replace hf := gx_bs hf
    obtain ⟨b29, g28, hf⟩ := hf
    refine gx_callV (st := []) C (w_X1_canAdd hlt g28) (is_X1_canAdd g28) gz_108 rfl (lw_V q2556 q2558 qs50 q121 q2559) gz_485 (by decide) rfl rfl (gx_catn (Nat.le_of_ble_eq_true rfl)) dX1_addAlways_65 ?_
    replace hf := gx_bxs hf
    rcases hf with ⟨u34, h31, g30, hf⟩ | ⟨E32, q33, h31, g30, hf⟩
    · refine gx_xcallS (st := []) C (w_X1_requireState hlt g30) (lw_S q2539 q2540 q121 q2541) gz_484 (by decide) rfl rfl (gx_catn (Nat.le_of_ble_eq_true rfl)) dX1_addAlways_68 (gx_k2l ?_)
      refine gx_aload_n C dX1_addAlways_71 1 rfl ?_
      replace hf := gx_b2s hf
      obtain ⟨r36, h37, g35, hf⟩ := hf
      refine gx_callV (st := []) C (w_X1_changed hlt g35) (is_X1_changed g35) gz_108 rfl (lw_V q1631 q1633 qs29 q121 q1634) gz_342 (by decide) rfl rfl (gx_catn (Nat.le_of_ble_eq_true rfl)) dX1_addAlways_72 ?_
      replace hf := gx_bs hf
      obtain ⟨a38, rfl, hf⟩ := hf
      replace hf := gx_bs hf
      obtain ⟨r39, g52, hf⟩ := hf
      refine gx_grN C g52 gz_57 q596 dX1_addAlways_75 ?_
      refine gx_aload C dX1_addAlways_78 0 rfl ?_
      replace hf := gx_bs hf
      obtain ⟨a40, rfl, hf⟩ := hf
      replace hf := gx_b2s hf
      obtain ⟨b42, h43, g41, hf⟩ := hf
      refine gx_callF (st := []) C (w_J2_add hlt g41) (is_J2_add g41) q670 (gx_cis1 gz_19 ⟨gz_24, q674⟩ gx_cis0) q676 q127 q678 gz_23 (by decide) rfl rfl (gx_catn (Nat.le_of_ble_eq_true rfl)) dX1_addAlways_80 ?_
      refine gx_ist C dX1_addAlways_85 (by decide) [1]  rfl (gx_okn rfl rfl gx_ok0) ?_
      refine gx_aload_n C dX1_addAlways_87 1 rfl ?_
      replace hf := gx_bs hf
      obtain ⟨r44, g51, hf⟩ := hf
      refine gx_gr C g51 gz_85 q896 dX1_addAlways_88 ?_
      replace hf := gx_bs hf
      obtain ⟨a45, rfl, hf⟩ := hf
      replace hf := gx_bs hf
      obtain ⟨r46, g50, hf⟩ := hf
      refine gx_grN C g50 gz_57 q596 dX1_addAlways_91 ?_
      replace hf := gx_bs hf
      obtain ⟨a47, rfl, hf⟩ := hf
      replace hf := gx_bs hf
      obtain ⟨x49, g48, hf⟩ := hf
      refine gx_callF (st := []) C (w_J2_size hlt g48) (is_J2_size g48) q1481 (gx_cis1 gz_19 ⟨gz_51, q770⟩ gx_cis0) q772 q127 q774 gz_50 (by decide) rfl rfl (gx_catn (Nat.le_of_ble_eq_true rfl)) dX1_addAlways_94 ?_
      refine gx_iconst (v := 1) C dX1_addAlways_99 rfl ?_
      refine gx_isub C dX1_addAlways_100 ?_
      obtain ⟨rfl, rfl⟩ := Prod.mk.inj (Option.some.inj hf)
      exact gx_ret (gx_iret C dX1_addAlways_101)
    · refine gx_xcallS (st := []) C (w_X1_requireState hlt g30) (lw_S q2539 q2540 q121 q2541) gz_484 (by decide) rfl rfl (gx_catn (Nat.le_of_ble_eq_true rfl)) dX1_addAlways_68 (gx_k2r ?_)
      obtain ⟨rfl, rfl⟩ := Prod.mk.inj (Option.some.inj hf)
      exact gx_out C hx
  · refine gx_xcallS (st := []) C (w_X1_requireArgument hlt g12) (lw_S q2434 q2435 q121 q2436) gz_471 (by decide) rfl rfl (gx_catn (Nat.le_of_ble_eq_true rfl)) dX1_addAlways_34 (gx_k2r ?_)
    obtain ⟨rfl, rfl⟩ := Prod.mk.inj (Option.some.inj hf)
    exact gx_out C hx
theorem le_X1_addAlways_b34 {D : gx_D} {r : Int32 ⊕ (String × Nat)} {hz : HX} {h : HX} {v0 : Nat} {v1 : Int32} {v2 : Int32} {v3 : Int32} {s0 : Bool} (hf : f_X1_addAlways_b34 D h v0 v1 v2 v3 s0 = some (r, hz)) : gx_le h hz := by
  unfold f_X1_addAlways_b34 at hf
  replace hf := gx_bxs hf
  rcases hf with ⟨u16, h13, g12, hf⟩ | ⟨E14, q15, h13, g12, hf⟩
  · refine (le_X1_requireArgument g12).tr ?_
    replace hf := gx_b2s hf
    obtain ⟨a17, h18, g56, hf⟩ := hf
    refine (hx_le_new g56).tr ?_
    replace hf := gx_b2s hf
    obtain ⟨a19, h20, g55, hf⟩ := hf
    refine (hx_le_new g55).tr ?_
    replace hf := gx_bs hf
    obtain ⟨r21, g54, hf⟩ := hf
    replace hf := gx_bs hf
    obtain ⟨a22, rfl, hf⟩ := hf
    replace hf := gx_bs hf
    obtain ⟨r23, g53, hf⟩ := hf
    replace hf := gx_bs hf
    obtain ⟨h25, g24, hf⟩ := hf
    refine (le_X7_init g24).tr ?_
    refine (gx_le.frz1 (a := a19)).tr ?_
    replace hf := gx_bs hf
    obtain ⟨h27, g26, hf⟩ := hf
    refine (le_X8_init g26).tr ?_
    refine (gx_le.frz1 (a := a17)).tr ?_
    replace hf := gx_bs hf
    obtain ⟨b29, g28, hf⟩ := hf
    replace hf := gx_bxs hf
    rcases hf with ⟨u34, h31, g30, hf⟩ | ⟨E32, q33, h31, g30, hf⟩
    · refine (le_X1_requireState g30).tr ?_
      replace hf := gx_b2s hf
      obtain ⟨r36, h37, g35, hf⟩ := hf
      refine (le_X1_changed g35).tr ?_
      replace hf := gx_bs hf
      obtain ⟨a38, rfl, hf⟩ := hf
      replace hf := gx_bs hf
      obtain ⟨r39, g52, hf⟩ := hf
      replace hf := gx_bs hf
      obtain ⟨a40, rfl, hf⟩ := hf
      replace hf := gx_b2s hf
      obtain ⟨b42, h43, g41, hf⟩ := hf
      refine (le_J2_add g41).tr ?_
      replace hf := gx_bs hf
      obtain ⟨r44, g51, hf⟩ := hf
      replace hf := gx_bs hf
      obtain ⟨a45, rfl, hf⟩ := hf
      replace hf := gx_bs hf
      obtain ⟨r46, g50, hf⟩ := hf
      replace hf := gx_bs hf
      obtain ⟨a47, rfl, hf⟩ := hf
      replace hf := gx_bs hf
      obtain ⟨x49, g48, hf⟩ := hf
      obtain ⟨rfl, rfl⟩ := Prod.mk.inj (Option.some.inj hf)
      exact gx_le.rf
    · refine (le_X1_requireState g30).tr ?_
      obtain ⟨rfl, rfl⟩ := Prod.mk.inj (Option.some.inj hf)
      exact gx_le.rf
  · refine (le_X1_requireArgument g12).tr ?_
    obtain ⟨rfl, rfl⟩ := Prod.mk.inj (Option.some.inj hf)
    exact gx_le.rf
def f_X1_addAlways_b33 (D : gx_D) (h : HX) (v0 : Nat) (v1 : Int32) (v2 : Int32) (v3 : Int32) : Option ((Int32 ⊕ (String × Nat)) × HX) :=
  f_X1_addAlways_b34 D h v0 v1 v2 v3 false
theorem w_X1_addAlways_b33 {l : Launch} (hlt : l.stackTraces = false) {p : Program} {e : Env} {R : Room} {s : State} {m : MethodId} {args : Array Value} {below : List Frame} {meth : Method} {c : Code} {D : gx_D} {h0 : HX} {r : Int32 ⊕ (String × Nat)} {hz : HX} (C : gx_Ctx p R s m args meth c "ContractMachine" cX1_addAlways 6 (some .int) 9 151 D h0 hz) (hx : ∀ x ∈ c.exceptionTable.toList, False)  {h : HX} {v0 : Nat} {v1 : Int32} {v2 : Int32} {v3 : Int32} (hf : f_X1_addAlways_b33 D h v0 v1 v2 v3 = some (r, hz)) : gx_G p l e R s m args below meth c D h0 hz 6 (gx_MQX below args s D h0 hz (gx_xi r)) 33 [(0, (va_rf (some v0))), (1, (.int v1)), (2, (.int v2)), (3, (.int v3))] [] h := by
  unfold f_X1_addAlways_b33 at hf
  refine gx_iconst (v := 0) C dX1_addAlways_33 rfl ?_
  refine gx_sub [0, 1, 2, 3] rfl ?_
  exact w_X1_addAlways_b34 hlt C hx hf
theorem le_X1_addAlways_b33 {D : gx_D} {r : Int32 ⊕ (String × Nat)} {hz : HX} {h : HX} {v0 : Nat} {v1 : Int32} {v2 : Int32} {v3 : Int32} (hf : f_X1_addAlways_b33 D h v0 v1 v2 v3 = some (r, hz)) : gx_le h hz := by
  unfold f_X1_addAlways_b33 at hf
  exact le_X1_addAlways_b34 hf
def f_X1_addAlways (D : gx_D) (h : HX) (a0 : Nat) (p1 : Int32) (p2 : Int32) (p3 : Int32) : Option ((Int32 ⊕ (String × Nat)) × HX) :=
  (hx_is h a0 [9]).bind fun _ =>
  gx_bx (f_X1_checkVariable D h a0 p1) (fun u5 h2 =>
  (f_X1_isWithin D h2 (Int32.toInt64 p2) (0 : Int64) (5 : Int64)).bind fun b7 =>
  if b7 = true then
  (f_X1_isWithin D h2 (Int32.toInt64 p3) (0 : Int64) (9 : Int64)).bind fun b10 =>
  if b10 = true then
  f_X1_addAlways_b34 D h2 a0 p1 p2 p3 true
  else
  f_X1_addAlways_b33 D h2 a0 p1 p2 p3
  else
  f_X1_addAlways_b33 D h2 a0 p1 p2 p3) fun E3 q4 h2 =>
  some (.inr (E3, q4), h2)
theorem is_X1_addAlways {D : gx_D} {h : HX} {a0 : Nat} {p1 : Int32} {p2 : Int32} {p3 : Int32} {z} (hf : f_X1_addAlways D h a0 p1 p2 p3 = some z) : gx_isC h a0 [9] := by
  unfold f_X1_addAlways at hf
  obtain ⟨_, g, -⟩ := gx_bs hf
  exact hx_is_of g
theorem w_X1_addAlways_b {l : Launch} (hlt : l.stackTraces = false) {p : Program} {e : Env} {R : Room} {s : State} {m : MethodId} {args : Array Value} {below : List Frame} {meth : Method} {c : Code} {D : gx_D} {h0 : HX} {r : Int32 ⊕ (String × Nat)} {hz : HX} (C : gx_Ctx p R s m args meth c "ContractMachine" cX1_addAlways 6 (some .int) 9 151 D h0 hz) (hx : ∀ x ∈ c.exceptionTable.toList, False) {a0 : Nat} {p1 : Int32} {p2 : Int32} {p3 : Int32} (hf : f_X1_addAlways D h0 a0 p1 p2 p3 = some (r, hz)) : gx_G p l e R s m args below meth c D h0 hz 6 (gx_MQX below args s D h0 hz (gx_xi r)) 0 [(0, (va_rf (some a0))), (1, (.int p1)), (2, (.int p2)), (3, (.int p3))] [] h0 := by
  unfold f_X1_addAlways at hf
  replace hf := gx_bs hf
  obtain ⟨_, -, hf⟩ := hf
  refine gx_aload_n C dX1_addAlways_0 0 rfl ?_
  refine gx_iload_n C dX1_addAlways_1 1 rfl ?_
  replace hf := gx_bxs hf
  rcases hf with ⟨u5, h2, g1, hf⟩ | ⟨E3, q4, h2, g1, hf⟩
  · refine gx_xcallV (st := []) C (w_X1_checkVariable hlt g1) (is_X1_checkVariable g1) gz_108 rfl (lw_V q2312 q2314 qs44 q121 q2315) gz_464 (by decide) rfl rfl (gx_catn (Nat.le_of_ble_eq_true rfl)) dX1_addAlways_2 (gx_k2l ?_)
    refine gx_iload_n C dX1_addAlways_5 2 rfl ?_
    refine gx_i2l C dX1_addAlways_6 ?_
    refine gx_lconst (v := 0) C dX1_addAlways_7 rfl ?_
    refine gx_ldc2 C q2555 dX1_addAlways_8 ?_
    replace hf := gx_bs hf
    obtain ⟨b7, g6, hf⟩ := hf
    refine gx_callS (st := []) C (w_X1_isWithin hlt g6) (lw_S q953 q954 q121 q955) gz_121 (by decide) rfl rfl (gx_catn (Nat.le_of_ble_eq_true rfl)) dX1_addAlways_11 ?_
    replace hf := gx_ite hf
    rcases hf with ⟨c8, hf⟩ | ⟨c8, hf⟩
    · refine gx_ifz_eq_f (tgt := 33) C dX1_addAlways_14 rfl c8 ?_
      refine gx_iload_n C dX1_addAlways_17 3 rfl ?_
      refine gx_i2l C dX1_addAlways_18 ?_
      refine gx_lconst (v := 0) C dX1_addAlways_19 rfl ?_
      refine gx_ldc2 C q2537 dX1_addAlways_20 ?_
      replace hf := gx_bs hf
      obtain ⟨b10, g9, hf⟩ := hf
      refine gx_callS (st := []) C (w_X1_isWithin hlt g9) (lw_S q953 q954 q121 q955) gz_121 (by decide) rfl rfl (gx_catn (Nat.le_of_ble_eq_true rfl)) dX1_addAlways_23 ?_
      replace hf := gx_ite hf
      rcases hf with ⟨c11, hf⟩ | ⟨c11, hf⟩
      · refine gx_ifz_eq_f (tgt := 33) C dX1_addAlways_26 rfl c11 ?_
        refine gx_iconst (v := 1) C dX1_addAlways_29 rfl ?_
        refine gx_goto (tgt := 34) C dX1_addAlways_30 rfl ?_
        refine gx_sub [0, 1, 2, 3] rfl ?_
        exact w_X1_addAlways_b34 hlt C hx hf
      · refine gx_ifz_eq_t (tgt := 33) C dX1_addAlways_26 rfl c11 ?_
        refine gx_sub [0, 1, 2, 3] rfl ?_
        exact w_X1_addAlways_b33 hlt C hx hf
    · refine gx_ifz_eq_t (tgt := 33) C dX1_addAlways_14 rfl c8 ?_
      refine gx_sub [0, 1, 2, 3] rfl ?_
      exact w_X1_addAlways_b33 hlt C hx hf
  · refine gx_xcallV (st := []) C (w_X1_checkVariable hlt g1) (is_X1_checkVariable g1) gz_108 rfl (lw_V q2312 q2314 qs44 q121 q2315) gz_464 (by decide) rfl rfl (gx_catn (Nat.le_of_ble_eq_true rfl)) dX1_addAlways_2 (gx_k2r ?_)
    obtain ⟨rfl, rfl⟩ := Prod.mk.inj (Option.some.inj hf)
    exact gx_out C hx
theorem le_X1_addAlways {D : gx_D} {r : Int32 ⊕ (String × Nat)} {hz : HX} {h : HX} {a0 : Nat} {p1 : Int32} {p2 : Int32} {p3 : Int32} (hf : f_X1_addAlways D h a0 p1 p2 p3 = some (r, hz)) : gx_le h hz := by
  unfold f_X1_addAlways at hf
  replace hf := gx_bs hf
  obtain ⟨_, -, hf⟩ := hf
  replace hf := gx_bxs hf
  rcases hf with ⟨u5, h2, g1, hf⟩ | ⟨E3, q4, h2, g1, hf⟩
  · refine (le_X1_checkVariable g1).tr ?_
    replace hf := gx_bs hf
    obtain ⟨b7, g6, hf⟩ := hf
    replace hf := gx_ite hf
    rcases hf with ⟨c8, hf⟩ | ⟨c8, hf⟩
    · replace hf := gx_bs hf
      obtain ⟨b10, g9, hf⟩ := hf
      replace hf := gx_ite hf
      rcases hf with ⟨c11, hf⟩ | ⟨c11, hf⟩
      · exact le_X1_addAlways_b34 hf
      · exact le_X1_addAlways_b33 hf
    · exact le_X1_addAlways_b33 hf
  · refine (le_X1_checkVariable g1).tr ?_
    obtain ⟨rfl, rfl⟩ := Prod.mk.inj (Option.some.inj hf)
    exact gx_le.rf
theorem w_X1_addAlways {l : Launch} (hlt : l.stackTraces = false) {D : gx_D} {h : HX} {a0 : Nat} {p1 : Int32} {p2 : Int32} {p3 : Int32} {r : Int32 ⊕ (String × Nat)} {hz : HX} (hf : f_X1_addAlways D h a0 p1 p2 p3 = some (r, hz)) : gx_MetX l yX1_addAlways (ws_ yX1_addAlways cX1_addAlways 6 (some .int)) 9 151 D [(va_rf (some a0)), (.int p1), (.int p2), (.int p3)] h (gx_xi r) hz :=
  gx_ofGX gz_26 (by simp only [gx_lsr, gx_lsi, gx_lsj, gx_ls0]; decide) (le_X1_addAlways hf) (fun p e R s m args below meth c C hn hx => by
    simp only [gx_lar, gx_lai, gx_laj, gx_la0, Nat.reduceAdd]
    exact w_X1_addAlways_b hlt C hx hf)
def f_X1_requireElement (D : gx_D) (h : HX) (p0 : Bool) : Option ((Unit ⊕ (String × Nat)) × HX) :=
  if p0 = true then
  some (.inl (), h)
  else
  some (.inr ("java/util/NoSuchElementException", h.1), hx_skip h 1 6)
theorem w_X1_requireElement_b {l : Launch} (hlt : l.stackTraces = false) {p : Program} {e : Env} {R : Room} {s : State} {m : MethodId} {args : Array Value} {below : List Frame} {meth : Method} {c : Code} {D : gx_D} {h0 : HX} {r : Unit ⊕ (String × Nat)} {hz : HX} (C : gx_Ctx p R s m args meth c "ContractMachine" cX1_requireElement 1 none 6 89 D h0 hz) (hx : ∀ x ∈ c.exceptionTable.toList, False) {p0 : Bool} (hf : f_X1_requireElement D h0 p0 = some (r, hz)) : gx_G p l e R s m args below meth c D h0 hz 1 (gx_MQX below args s D h0 hz (gx_xv r)) 0 [(0, (.int (b2i p0)))] [] h0 := by
  unfold f_X1_requireElement at hf
  refine gx_iload_n C dX1_requireElement_0 0 rfl ?_
  replace hf := gx_ite hf
  rcases hf with ⟨c1, hf⟩ | ⟨c1, hf⟩
  · refine gx_ifz_ne_t (tgt := 12) C dX1_requireElement_1 rfl c1 ?_
    obtain ⟨rfl, rfl⟩ := Prod.mk.inj (Option.some.inj hf)
    exact gx_ret (gx_vret C dX1_requireElement_12)
  · refine gx_ifz_ne_f (tgt := 12) C dX1_requireElement_1 rfl c1 ?_
    obtain ⟨rfl, rfl⟩ := Prod.mk.inj (Option.some.inj hf)
    exact gx_throw0 C hlt (names := ["java/lang/RuntimeException", "java/lang/Exception"]) (by decide +kernel) (by decide +kernel) q2576 q167 gz_487 gz_487g dX1_requireElement_4 dX1_requireElement_7 dX1_requireElement_8 dX1_requireElement_11 (by decide) (by decide) (gx_out C hx)
theorem le_X1_requireElement {D : gx_D} {r : Unit ⊕ (String × Nat)} {hz : HX} {h : HX} {p0 : Bool} (hf : f_X1_requireElement D h p0 = some (r, hz)) : gx_le h hz := by
  unfold f_X1_requireElement at hf
  replace hf := gx_ite hf
  rcases hf with ⟨c1, hf⟩ | ⟨c1, hf⟩
  · obtain ⟨rfl, rfl⟩ := Prod.mk.inj (Option.some.inj hf)
    exact gx_le.rf
  · obtain ⟨rfl, rfl⟩ := Prod.mk.inj (Option.some.inj hf)
    exact gx_le.skip
theorem w_X1_requireElement {l : Launch} (hlt : l.stackTraces = false) {D : gx_D} {h : HX} {p0 : Bool} {r : Unit ⊕ (String × Nat)} {hz : HX} (hf : f_X1_requireElement D h p0 = some (r, hz)) : gx_MetX l yX1_requireElement (ws_ yX1_requireElement cX1_requireElement 1 none) 6 89 D [(.int (b2i p0))] h (gx_xv r) hz :=
  gx_ofGX gz_26 (by simp only [gx_lsr, gx_lsi, gx_lsj, gx_ls0]; decide) (le_X1_requireElement hf) (fun p e R s m args below meth c C hn hx => by
    simp only [gx_lar, gx_lai, gx_laj, gx_la0, Nat.reduceAdd]
    exact w_X1_requireElement_b hlt C hx hf)
def f_X1_undo_b15 (D : gx_D) (h : HX) (v0 : Nat) (s0 : Bool) : Option ((Int32 ⊕ (String × Nat)) × HX) :=
  gx_bx (f_X1_requireElement D h s0) (fun u10 h7 =>
  (hx_gr h7 v0 [9] 8).bind fun r11 =>
  r11.bind fun a12 =>
  gx_b2 (f_J17_removeLast D h7 a12) fun r14 h15 =>
  (hx_cast h15 r14 [11]).bind fun u16 =>
  (hx_pr h15 v0 [9] 6 r14).bind fun h17 =>
  (hx_gr h17 v0 [9] 8).bind fun r18 =>
  r18.bind fun a19 =>
  (f_J17_size D h17 a19).bind fun x21 =>
  some (.inl x21, h17)) fun E8 q9 h7 =>
  some (.inr (E8, q9), h7)
theorem w_X1_undo_b15 {l : Launch} (hlt : l.stackTraces = false) {p : Program} {e : Env} {R : Room} {s : State} {m : MethodId} {args : Array Value} {below : List Frame} {meth : Method} {c : Code} {D : gx_D} {h0 : HX} {r : Int32 ⊕ (String × Nat)} {hz : HX} (C : gx_Ctx p R s m args meth c "ContractMachine" cX1_undo 1 (some .int) 7 109 D h0 hz) (hx : ∀ x ∈ c.exceptionTable.toList, False)  {h : HX} {v0 : Nat} {s0 : Bool} (hf : f_X1_undo_b15 D h v0 s0 = some (r, hz)) : gx_G p l e R s m args below meth c D h0 hz 1 (gx_MQX below args s D h0 hz (gx_xi r)) 15 [(0, (va_rf (some v0)))] [(.int (b2i s0))] h := by
  unfold f_X1_undo_b15 at hf
  replace hf := gx_bxs hf
  rcases hf with ⟨u10, h7, g6, hf⟩ | ⟨E8, q9, h7, g6, hf⟩
  · refine gx_xcallS (st := []) C (w_X1_requireElement hlt g6) (lw_S q2573 q2574 q121 q2575) gz_493 (by decide) rfl rfl (gx_catn (Nat.le_of_ble_eq_true rfl)) dX1_undo_15 (gx_k2l ?_)
    refine gx_aload_n C dX1_undo_18 0 rfl ?_
    refine gx_aload_n C dX1_undo_19 0 rfl ?_
    replace hf := gx_bs hf
    obtain ⟨r11, g25, hf⟩ := hf
    refine gx_gr C g25 gz_88 q898 dX1_undo_20 ?_
    replace hf := gx_bs hf
    obtain ⟨a12, rfl, hf⟩ := hf
    replace hf := gx_b2s hf
    obtain ⟨r14, h15, g13, hf⟩ := hf
    refine gx_callV (st := [(va_rf (some v0))]) C (w_J17_removeLast hlt g13) (is_J17_removeLast g13) gz_115 rfl (lw_V q2578 q2579 q2580 q145 q2581) gz_491 (by decide) rfl rfl (gx_catn (Nat.le_of_ble_eq_true rfl)) dX1_undo_23 ?_
    replace hf := gx_bs hf
    obtain ⟨u16, g24, hf⟩ := hf
    refine gx_cast C g24 gz_492 q587 dX1_undo_26 ?_
    replace hf := gx_bs hf
    obtain ⟨h17, g23, hf⟩ := hf
    refine gx_putv C g23 gz_85 gz_86 (gx_narrow_r rfl _).1 (gx_narrow_r rfl _).2 q896 dX1_undo_29 ?_
    refine gx_aload_n C dX1_undo_32 0 rfl ?_
    replace hf := gx_bs hf
    obtain ⟨r18, g22, hf⟩ := hf
    refine gx_gr C g22 gz_88 q898 dX1_undo_33 ?_
    replace hf := gx_bs hf
    obtain ⟨a19, rfl, hf⟩ := hf
    replace hf := gx_bs hf
    obtain ⟨x21, g20, hf⟩ := hf
    refine gx_callV (st := []) C (w_J17_size hlt g20) (is_J17_size g20) gz_115 rfl (lw_V q1635 q1636 q1637 q145 q1638) gz_291 (by decide) rfl rfl (gx_catn (Nat.le_of_ble_eq_true rfl)) dX1_undo_36 ?_
    obtain ⟨rfl, rfl⟩ := Prod.mk.inj (Option.some.inj hf)
    exact gx_ret (gx_iret C dX1_undo_39)
  · refine gx_xcallS (st := []) C (w_X1_requireElement hlt g6) (lw_S q2573 q2574 q121 q2575) gz_493 (by decide) rfl rfl (gx_catn (Nat.le_of_ble_eq_true rfl)) dX1_undo_15 (gx_k2r ?_)
    obtain ⟨rfl, rfl⟩ := Prod.mk.inj (Option.some.inj hf)
    exact gx_out C hx
theorem le_X1_undo_b15 {D : gx_D} {r : Int32 ⊕ (String × Nat)} {hz : HX} {h : HX} {v0 : Nat} {s0 : Bool} (hf : f_X1_undo_b15 D h v0 s0 = some (r, hz)) : gx_le h hz := by
  unfold f_X1_undo_b15 at hf
  replace hf := gx_bxs hf
  rcases hf with ⟨u10, h7, g6, hf⟩ | ⟨E8, q9, h7, g6, hf⟩
  · refine (le_X1_requireElement g6).tr ?_
    replace hf := gx_bs hf
    obtain ⟨r11, g25, hf⟩ := hf
    replace hf := gx_bs hf
    obtain ⟨a12, rfl, hf⟩ := hf
    replace hf := gx_b2s hf
    obtain ⟨r14, h15, g13, hf⟩ := hf
    refine (le_J17_removeLast g13).tr ?_
    replace hf := gx_bs hf
    obtain ⟨u16, g24, hf⟩ := hf
    replace hf := gx_bs hf
    obtain ⟨h17, g23, hf⟩ := hf
    refine (hx_le_pv g23).tr ?_
    replace hf := gx_bs hf
    obtain ⟨r18, g22, hf⟩ := hf
    replace hf := gx_bs hf
    obtain ⟨a19, rfl, hf⟩ := hf
    replace hf := gx_bs hf
    obtain ⟨x21, g20, hf⟩ := hf
    obtain ⟨rfl, rfl⟩ := Prod.mk.inj (Option.some.inj hf)
    exact gx_le.rf
  · refine (le_X1_requireElement g6).tr ?_
    obtain ⟨rfl, rfl⟩ := Prod.mk.inj (Option.some.inj hf)
    exact gx_le.rf
def f_X1_undo (D : gx_D) (h : HX) (a0 : Nat) : Option ((Int32 ⊕ (String × Nat)) × HX) :=
  (hx_is h a0 [9]).bind fun _ =>
  (hx_gr h a0 [9] 8).bind fun r1 =>
  r1.bind fun a2 =>
  (f_J17_isEmpty D h a2).bind fun b4 =>
  if b4 = true then
  f_X1_undo_b15 D h a0 false
  else
  f_X1_undo_b15 D h a0 true
theorem is_X1_undo {D : gx_D} {h : HX} {a0 : Nat} {z} (hf : f_X1_undo D h a0 = some z) : gx_isC h a0 [9] := by
  unfold f_X1_undo at hf
  obtain ⟨_, g, -⟩ := gx_bs hf
  exact hx_is_of g
theorem w_X1_undo_b {l : Launch} (hlt : l.stackTraces = false) {p : Program} {e : Env} {R : Room} {s : State} {m : MethodId} {args : Array Value} {below : List Frame} {meth : Method} {c : Code} {D : gx_D} {h0 : HX} {r : Int32 ⊕ (String × Nat)} {hz : HX} (C : gx_Ctx p R s m args meth c "ContractMachine" cX1_undo 1 (some .int) 7 109 D h0 hz) (hx : ∀ x ∈ c.exceptionTable.toList, False) {a0 : Nat} (hf : f_X1_undo D h0 a0 = some (r, hz)) : gx_G p l e R s m args below meth c D h0 hz 1 (gx_MQX below args s D h0 hz (gx_xi r)) 0 [(0, (va_rf (some a0)))] [] h0 := by
  unfold f_X1_undo at hf
  replace hf := gx_bs hf
  obtain ⟨_, -, hf⟩ := hf
  refine gx_aload_n C dX1_undo_0 0 rfl ?_
  replace hf := gx_bs hf
  obtain ⟨r1, g26, hf⟩ := hf
  refine gx_gr C g26 gz_88 q898 dX1_undo_1 ?_
  replace hf := gx_bs hf
  obtain ⟨a2, rfl, hf⟩ := hf
  replace hf := gx_bs hf
  obtain ⟨b4, g3, hf⟩ := hf
  refine gx_callV (st := []) C (w_J17_isEmpty hlt g3) (is_J17_isEmpty g3) gz_115 rfl (lw_V q2569 q2570 q2571 q145 q2572) gz_490 (by decide) rfl rfl (gx_catn (Nat.le_of_ble_eq_true rfl)) dX1_undo_4 ?_
  replace hf := gx_ite hf
  rcases hf with ⟨c5, hf⟩ | ⟨c5, hf⟩
  · refine gx_ifz_ne_t (tgt := 14) C dX1_undo_7 rfl c5 ?_
    refine gx_iconst (v := 0) C dX1_undo_14 rfl ?_
    refine gx_sub [0] rfl ?_
    exact w_X1_undo_b15 hlt C hx hf
  · refine gx_ifz_ne_f (tgt := 14) C dX1_undo_7 rfl c5 ?_
    refine gx_iconst (v := 1) C dX1_undo_10 rfl ?_
    refine gx_goto (tgt := 15) C dX1_undo_11 rfl ?_
    refine gx_sub [0] rfl ?_
    exact w_X1_undo_b15 hlt C hx hf
theorem le_X1_undo {D : gx_D} {r : Int32 ⊕ (String × Nat)} {hz : HX} {h : HX} {a0 : Nat} (hf : f_X1_undo D h a0 = some (r, hz)) : gx_le h hz := by
  unfold f_X1_undo at hf
  replace hf := gx_bs hf
  obtain ⟨_, -, hf⟩ := hf
  replace hf := gx_bs hf
  obtain ⟨r1, g26, hf⟩ := hf
  replace hf := gx_bs hf
  obtain ⟨a2, rfl, hf⟩ := hf
  replace hf := gx_bs hf
  obtain ⟨b4, g3, hf⟩ := hf
  replace hf := gx_ite hf
  rcases hf with ⟨c5, hf⟩ | ⟨c5, hf⟩
  · exact le_X1_undo_b15 hf
  · exact le_X1_undo_b15 hf
theorem w_X1_undo {l : Launch} (hlt : l.stackTraces = false) {D : gx_D} {h : HX} {a0 : Nat} {r : Int32 ⊕ (String × Nat)} {hz : HX} (hf : f_X1_undo D h a0 = some (r, hz)) : gx_MetX l yX1_undo (ws_ yX1_undo cX1_undo 1 (some .int)) 7 109 D [(va_rf (some a0))] h (gx_xi r) hz :=
  gx_ofGX gz_26 (by simp only [gx_lsr, gx_lsi, gx_lsj, gx_ls0]; decide) (le_X1_undo hf) (fun p e R s m args below meth c C hn hx => by
    simp only [gx_lar, gx_lai, gx_laj, gx_la0, Nat.reduceAdd]
    exact w_X1_undo_b hlt C hx hf)
def f_X1_restoreState_b12 (D : gx_D) (h : HX) (v0 : Nat) (s0 : Bool) : Option ((Int32 ⊕ (String × Nat)) × HX) :=
  gx_bx (f_X1_requireElement D h s0) (fun u7 h4 =>
  (hx_gr h4 v0 [9] 7).bind fun r8 =>
  r8.bind fun a9 =>
  gx_b2 (f_X4_twin D h4 a9) fun r11 h12 =>
  (hx_pr h12 v0 [9] 6 r11).bind fun h13 =>
  (hx_gr h13 v0 [9] 8).bind fun r14 =>
  r14.bind fun a15 =>
  (f_J17_clear D h13 a15).bind fun h17 =>
  (hx_gr h17 v0 [9] 6).bind fun r18 =>
  r18.bind fun a19 =>
  (f_X4_state D h17 a19).bind fun x21 =>
  some (.inl x21, h17)) fun E5 q6 h4 =>
  some (.inr (E5, q6), h4)
theorem w_X1_restoreState_b12 {l : Launch} (hlt : l.stackTraces = false) {p : Program} {e : Env} {R : Room} {s : State} {m : MethodId} {args : Array Value} {below : List Frame} {meth : Method} {c : Code} {D : gx_D} {h0 : HX} {r : Int32 ⊕ (String × Nat)} {hz : HX} (C : gx_Ctx p R s m args meth c "ContractMachine" cX1_restoreState 1 (some .int) 7 129 D h0 hz) (hx : ∀ x ∈ c.exceptionTable.toList, False)  {h : HX} {v0 : Nat} {s0 : Bool} (hf : f_X1_restoreState_b12 D h v0 s0 = some (r, hz)) : gx_G p l e R s m args below meth c D h0 hz 1 (gx_MQX below args s D h0 hz (gx_xi r)) 12 [(0, (va_rf (some v0)))] [(.int (b2i s0))] h := by
  unfold f_X1_restoreState_b12 at hf
  replace hf := gx_bxs hf
  rcases hf with ⟨u7, h4, g3, hf⟩ | ⟨E5, q6, h4, g3, hf⟩
  · refine gx_xcallS (st := []) C (w_X1_requireElement hlt g3) (lw_S q2573 q2574 q121 q2575) gz_493 (by decide) rfl rfl (gx_catn (Nat.le_of_ble_eq_true rfl)) dX1_restoreState_12 (gx_k2l ?_)
    refine gx_aload_n C dX1_restoreState_15 0 rfl ?_
    refine gx_aload_n C dX1_restoreState_16 0 rfl ?_
    replace hf := gx_bs hf
    obtain ⟨r8, g25, hf⟩ := hf
    refine gx_gr C g25 gz_268 q897 dX1_restoreState_17 ?_
    replace hf := gx_bs hf
    obtain ⟨a9, rfl, hf⟩ := hf
    replace hf := gx_b2s hf
    obtain ⟨r11, h12, g10, hf⟩ := hf
    refine gx_callV (st := [(va_rf (some v0))]) C (w_X4_twin hlt g10) (is_X4_twin g10) gz_13 rfl (lw_V q1709 q1710 q1711 q144 q1712) gz_294 (by decide) rfl rfl (gx_catn (Nat.le_of_ble_eq_true rfl)) dX1_restoreState_20 ?_
    replace hf := gx_bs hf
    obtain ⟨h13, g24, hf⟩ := hf
    refine gx_putv C g24 gz_85 gz_86 (gx_narrow_r rfl _).1 (gx_narrow_r rfl _).2 q896 dX1_restoreState_23 ?_
    refine gx_aload_n C dX1_restoreState_26 0 rfl ?_
    replace hf := gx_bs hf
    obtain ⟨r14, g23, hf⟩ := hf
    refine gx_gr C g23 gz_88 q898 dX1_restoreState_27 ?_
    replace hf := gx_bs hf
    obtain ⟨a15, rfl, hf⟩ := hf
    replace hf := gx_bs hf
    obtain ⟨h17, g16, hf⟩ := hf
    refine gx_callV (st := []) C (w_J17_clear hlt g16) (is_J17_clear g16) gz_115 rfl (lw_V q1473 q1474 q1475 q145 q1476) gz_267 (by decide) rfl rfl (gx_catn (Nat.le_of_ble_eq_true rfl)) dX1_restoreState_30 ?_
    refine gx_aload_n C dX1_restoreState_33 0 rfl ?_
    replace hf := gx_bs hf
    obtain ⟨r18, g22, hf⟩ := hf
    refine gx_gr C g22 gz_85 q896 dX1_restoreState_34 ?_
    replace hf := gx_bs hf
    obtain ⟨a19, rfl, hf⟩ := hf
    replace hf := gx_bs hf
    obtain ⟨x21, g20, hf⟩ := hf
    refine gx_callV (st := []) C (w_X4_state hlt g20) (is_X4_state g20) gz_13 rfl (lw_V q1909 q878 q879 q144 q880) gz_68 (by decide) rfl rfl (gx_catn (Nat.le_of_ble_eq_true rfl)) dX1_restoreState_37 ?_
    obtain ⟨rfl, rfl⟩ := Prod.mk.inj (Option.some.inj hf)
    exact gx_ret (gx_iret C dX1_restoreState_40)
  · refine gx_xcallS (st := []) C (w_X1_requireElement hlt g3) (lw_S q2573 q2574 q121 q2575) gz_493 (by decide) rfl rfl (gx_catn (Nat.le_of_ble_eq_true rfl)) dX1_restoreState_12 (gx_k2r ?_)
    obtain ⟨rfl, rfl⟩ := Prod.mk.inj (Option.some.inj hf)
    exact gx_out C hx
theorem le_X1_restoreState_b12 {D : gx_D} {r : Int32 ⊕ (String × Nat)} {hz : HX} {h : HX} {v0 : Nat} {s0 : Bool} (hf : f_X1_restoreState_b12 D h v0 s0 = some (r, hz)) : gx_le h hz := by
  unfold f_X1_restoreState_b12 at hf
  replace hf := gx_bxs hf
  rcases hf with ⟨u7, h4, g3, hf⟩ | ⟨E5, q6, h4, g3, hf⟩
  · refine (le_X1_requireElement g3).tr ?_
    replace hf := gx_bs hf
    obtain ⟨r8, g25, hf⟩ := hf
    replace hf := gx_bs hf
    obtain ⟨a9, rfl, hf⟩ := hf
    replace hf := gx_b2s hf
    obtain ⟨r11, h12, g10, hf⟩ := hf
    refine (le_X4_twin g10).tr ?_
    replace hf := gx_bs hf
    obtain ⟨h13, g24, hf⟩ := hf
    refine (hx_le_pv g24).tr ?_
    replace hf := gx_bs hf
    obtain ⟨r14, g23, hf⟩ := hf
    replace hf := gx_bs hf
    obtain ⟨a15, rfl, hf⟩ := hf
    replace hf := gx_bs hf
    obtain ⟨h17, g16, hf⟩ := hf
    refine (le_J17_clear g16).tr ?_
    replace hf := gx_bs hf
    obtain ⟨r18, g22, hf⟩ := hf
    replace hf := gx_bs hf
    obtain ⟨a19, rfl, hf⟩ := hf
    replace hf := gx_bs hf
    obtain ⟨x21, g20, hf⟩ := hf
    obtain ⟨rfl, rfl⟩ := Prod.mk.inj (Option.some.inj hf)
    exact gx_le.rf
  · refine (le_X1_requireElement g3).tr ?_
    obtain ⟨rfl, rfl⟩ := Prod.mk.inj (Option.some.inj hf)
    exact gx_le.rf
def f_X1_restoreState (D : gx_D) (h : HX) (a0 : Nat) : Option ((Int32 ⊕ (String × Nat)) × HX) :=
  (hx_is h a0 [9]).bind fun _ =>
  (hx_gr h a0 [9] 7).bind fun r1 =>
  gx_on r1 (
  f_X1_restoreState_b12 D h a0 false) fun a2 =>
  f_X1_restoreState_b12 D h a0 true
theorem is_X1_restoreState {D : gx_D} {h : HX} {a0 : Nat} {z} (hf : f_X1_restoreState D h a0 = some z) : gx_isC h a0 [9] := by
  unfold f_X1_restoreState at hf
  obtain ⟨_, g, -⟩ := gx_bs hf
  exact hx_is_of g
theorem w_X1_restoreState_b {l : Launch} (hlt : l.stackTraces = false) {p : Program} {e : Env} {R : Room} {s : State} {m : MethodId} {args : Array Value} {below : List Frame} {meth : Method} {c : Code} {D : gx_D} {h0 : HX} {r : Int32 ⊕ (String × Nat)} {hz : HX} (C : gx_Ctx p R s m args meth c "ContractMachine" cX1_restoreState 1 (some .int) 7 129 D h0 hz) (hx : ∀ x ∈ c.exceptionTable.toList, False) {a0 : Nat} (hf : f_X1_restoreState D h0 a0 = some (r, hz)) : gx_G p l e R s m args below meth c D h0 hz 1 (gx_MQX below args s D h0 hz (gx_xi r)) 0 [(0, (va_rf (some a0)))] [] h0 := by
  unfold f_X1_restoreState at hf
  replace hf := gx_bs hf
  obtain ⟨_, -, hf⟩ := hf
  refine gx_aload_n C dX1_restoreState_0 0 rfl ?_
  replace hf := gx_bs hf
  obtain ⟨r1, g26, hf⟩ := hf
  refine gx_gr C g26 gz_268 q897 dX1_restoreState_1 ?_
  rcases r1 with _ | a2
  · replace hf := gx_on_n hf
    refine gx_ifnull_t (tgt := 11) C dX1_restoreState_4 rfl ?_
    refine gx_iconst (v := 0) C dX1_restoreState_11 rfl ?_
    refine gx_sub [0] rfl ?_
    exact w_X1_restoreState_b12 hlt C hx hf
  · replace hf := gx_on_s hf
    refine gx_ifnull_f C dX1_restoreState_4 ?_
    refine gx_iconst (v := 1) C dX1_restoreState_7 rfl ?_
    refine gx_goto (tgt := 12) C dX1_restoreState_8 rfl ?_
    refine gx_sub [0] rfl ?_
    exact w_X1_restoreState_b12 hlt C hx hf
theorem le_X1_restoreState {D : gx_D} {r : Int32 ⊕ (String × Nat)} {hz : HX} {h : HX} {a0 : Nat} (hf : f_X1_restoreState D h a0 = some (r, hz)) : gx_le h hz := by
  unfold f_X1_restoreState at hf
  replace hf := gx_bs hf
  obtain ⟨_, -, hf⟩ := hf
  replace hf := gx_bs hf
  obtain ⟨r1, g26, hf⟩ := hf
  rcases r1 with _ | a2
  · replace hf := gx_on_n hf
    exact le_X1_restoreState_b12 hf
  · replace hf := gx_on_s hf
    exact le_X1_restoreState_b12 hf
theorem w_X1_restoreState {l : Launch} (hlt : l.stackTraces = false) {D : gx_D} {h : HX} {a0 : Nat} {r : Int32 ⊕ (String × Nat)} {hz : HX} (hf : f_X1_restoreState D h a0 = some (r, hz)) : gx_MetX l yX1_restoreState (ws_ yX1_restoreState cX1_restoreState 1 (some .int)) 7 129 D [(va_rf (some a0))] h (gx_xi r) hz :=
  gx_ofGX gz_26 (by simp only [gx_lsr, gx_lsi, gx_lsj, gx_ls0]; decide) (le_X1_restoreState hf) (fun p e R s m args below meth c C hn hx => by
    simp only [gx_lar, gx_lai, gx_laj, gx_la0, Nat.reduceAdd]
    exact w_X1_restoreState_b hlt C hx hf)
