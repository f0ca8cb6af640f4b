/-! walks of the model's methods (printed by gen/run.py) -/
set_option maxRecDepth 100000
def f_X9_acts (D : gx_D) (b : HX) (o : Nat) (h : MS) (p1 : Int32) (p2 : Int32) (p3 : Int32) : Option MS :=
  (ms_ai h 0 (3 : Int32)).bind fun x1 =>
  (ms_si h 0 (((93 : Int32) + ((9 : Int32) * (x1 - (1 : Int32)))) + (6 : Int32)) p1).bind fun h2 =>
  (ms_si h2 0 (((93 : Int32) + ((9 : Int32) * (x1 - (1 : Int32)))) + (7 : Int32)) p2).bind fun h3 =>
  (ms_si h3 0 (((93 : Int32) + ((9 : Int32) * (x1 - (1 : Int32)))) + (8 : Int32)) p3).bind fun h4 =>
  some h4
theorem w_X9_acts_b {l : Launch} (hlt : l.stackTraces = false) {p : Program} {e : Env} {R : Room} {s : State} {m : MethodId} {args : Array Value} {below : List Frame} {meth : Method} {c : Code} {D : gx_D} {b : HX} {o : Nat} {h0 : MS} {hz : MS} (C : gx_Ctx p R s m args meth c "ContractMachineModel" cX9_acts 5 none 1 24 D (mh b o h0) (mh b o hz)) (hx : meth.name = "acts") {p1 : Int32} {p2 : Int32} {p3 : Int32} (hf : f_X9_acts D b o h0 p1 p2 p3 = some hz) : gx_G p l e R s m args below meth c D (mh b o h0) (mh b o hz) 5 (gx_MQ below args s D (mh b o h0) (mh b o hz) none) 0 [(0, (va_rf (some o))), (1, (.int p1)), (2, (.int p2)), (3, (.int p3))] [] (mh b o h0) := by
  unfold f_X9_acts at hf
  refine gx_bipush (v := 93) C dX9_acts_0 rfl ?_
  refine gx_bipush (v := 9) C dX9_acts_2 rfl ?_
  refine gx_aload_n C dX9_acts_4 0 rfl ?_
  refine gx_gr C (mh_gr (k := 0) rfl) gz_494 q2634 dX9_acts_5 ?_
  refine gx_iconst (v := 3) C dX9_acts_8 rfl ?_
  replace hf := gx_bs hf
  obtain ⟨x1, g8, hf⟩ := hf
  refine gx_iald C (mh_ai g8) dX9_acts_9 ?_
  refine gx_iconst (v := 1) C dX9_acts_10 rfl ?_
  refine gx_isub C dX9_acts_11 ?_
  refine gx_imul C dX9_acts_12 ?_
  refine gx_iadd C dX9_acts_13 ?_
  refine gx_ist C dX9_acts_14 (by decide) [0, 1, 2, 3]  rfl (gx_okn rfl rfl (gx_okn rfl rfl (gx_okn rfl rfl (gx_okr rfl gx_catv_i gx_ok0)))) ?_
  refine gx_aload_n C dX9_acts_16 1 rfl ?_
  refine gx_gr C (mh_gr (k := 0) rfl) gz_494 q2634 dX9_acts_17 ?_
  refine gx_iload C dX9_acts_20 0 rfl ?_
  refine gx_bipush (v := 6) C dX9_acts_22 rfl ?_
  refine gx_iadd C dX9_acts_24 ?_
  refine gx_iload_n C dX9_acts_25 2 rfl ?_
  replace hf := gx_bs hf
  obtain ⟨h2, g7, hf⟩ := hf
  refine gx_iast C (mh_si g7) dX9_acts_26 ?_
  refine gx_aload_n C dX9_acts_27 1 rfl ?_
  refine gx_gr C (mh_gr (k := 0) rfl) gz_494 q2634 dX9_acts_28 ?_
  refine gx_iload C dX9_acts_31 0 rfl ?_
  refine gx_bipush (v := 7) C dX9_acts_33 rfl ?_
  refine gx_iadd C dX9_acts_35 ?_
  refine gx_iload_n C dX9_acts_36 3 rfl ?_
  replace hf := gx_bs hf
  obtain ⟨h3, g6, hf⟩ := hf
  refine gx_iast C (mh_si g6) dX9_acts_37 ?_
  refine gx_aload_n C dX9_acts_38 1 rfl ?_
  refine gx_gr C (mh_gr (k := 0) rfl) gz_494 q2634 dX9_acts_39 ?_
  refine gx_iload C dX9_acts_42 0 rfl ?_
  refine gx_bipush (v := 8) C dX9_acts_44 rfl ?_
  refine gx_iadd C dX9_acts_46 ?_
  refine gx_iload_n C dX9_acts_47 4 rfl ?_
  replace hf := gx_bs hf
  obtain ⟨h4, g5, hf⟩ := hf
  refine gx_iast C (mh_si g5) dX9_acts_48 ?_
  obtain rfl := Option.some.inj hf
  exact gx_vret C dX9_acts_49
theorem w_X9_acts {l : Launch} (hlt : l.stackTraces = false) {D : gx_D} {b : HX} {o : Nat} {h : MS} {p1 : Int32} {p2 : Int32} {p3 : Int32} {hz : MS} (hf : f_X9_acts D b o h p1 p2 p3 = some hz) : gx_Met l yX9_acts cX9_acts 5 none 1 24 D [(va_rf (some o)), (.int p1), (.int p2), (.int p3)] (mh b o h) none (mh b o hz) :=
  gx_ofG gz_495 (by simp only [gx_lsr, gx_lsi, gx_lsj, gx_ls0]; decide) mh_le (fun p e R s m args below meth c C hx => by
    simp only [gx_lar, gx_lai, gx_laj, gx_la0, Nat.reduceAdd]
    exact w_X9_acts_b hlt C hx hf)
def f_X9_begins_b2 (D : gx_D) (b : HX) (o : Nat) : Nat → MS → Int32 → Option MS
  | 0, _, _ => none
  | n + 1, h, v1 =>
  if (504 : Int32) ≤ v1 then
  some h
  else
  (ms_si h 0 v1 (0 : Int32)).bind fun h2 =>
  (f_X9_begins_b2 D b o n) h2 ((v1 + (1 : Int32)))
theorem w_X9_begins_b2 {l : Launch} (hlt : l.stackTraces = false) {p : Program} {e : Env} {R : Room} {s : State} {m : MethodId} {args : Array Value} {below : List Frame} {meth : Method} {c : Code} {D : gx_D} {b : HX} {o : Nat} {h0 : MS} {hz : MS} (C : gx_Ctx p R s m args meth c "ContractMachineModel" cX9_begins 2 none 1 24 D (mh b o h0) (mh b o hz)) (hx : meth.name = "begins")  : ∀ (n : Nat) ⦃h : MS⦄ ⦃v1 : Int32⦄, f_X9_begins_b2 D b o n h v1 = some hz → gx_G p l e R s m args below meth c D (mh b o h0) (mh b o hz) 2 (gx_MQ below args s D (mh b o h0) (mh b o hz) none) 2 [(0, (va_rf (some o))), (1, (.int v1))] [] (mh b o h) := by
  intro n
  induction n with
  | zero => intro h v1 hf; unfold f_X9_begins_b2 at hf; cases hf
  | succ n wk2 =>
    intro h v1 hf
    unfold f_X9_begins_b2 at hf
    refine gx_iload_n C dX9_begins_2 1 rfl ?_
    refine gx_sipush (v := 504) C dX9_begins_3 rfl ?_
    replace hf := gx_ite hf
    rcases hf with ⟨c1, hf⟩ | ⟨c1, hf⟩
    · refine gx_icmp_ge_t (tgt := 22) C dX9_begins_6 rfl c1 ?_
      obtain rfl := Option.some.inj hf
      exact gx_vret C dX9_begins_22
    · refine gx_icmp_ge_f (tgt := 22) C dX9_begins_6 rfl c1 ?_
      refine gx_aload_n C dX9_begins_9 0 rfl ?_
      refine gx_gr C (mh_gr (k := 0) rfl) gz_494 q2634 dX9_begins_10 ?_
      refine gx_iload_n C dX9_begins_13 1 rfl ?_
      refine gx_iconst (v := 0) C dX9_begins_14 rfl ?_
      replace hf := gx_bs hf
      obtain ⟨h2, g3, hf⟩ := hf
      refine gx_iast C (mh_si g3) dX9_begins_15 ?_
      refine gx_inc (v := 1) C dX9_begins_16 1 rfl rfl (by decide) [0] rfl (gx_okr rfl gx_catv_r gx_ok0) ?_
      refine gx_goto (tgt := 2) C dX9_begins_19 rfl ?_
      refine gx_sub [1, 0] rfl ?_
      exact wk2 hf
def f_X9_begins (D : gx_D) (b : HX) (o : Nat) (h : MS) : Option MS :=
  f_X9_begins_b2 D b o gx_fuel h ((0 : Int32))
theorem w_X9_begins_b {l : Launch} (hlt : l.stackTraces = false) {p : Program} {e : Env} {R : Room} {s : State} {m : MethodId} {args : Array Value} {below : List Frame} {meth : Method} {c : Code} {D : gx_D} {b : HX} {o : Nat} {h0 : MS} {hz : MS} (C : gx_Ctx p R s m args meth c "ContractMachineModel" cX9_begins 2 none 1 24 D (mh b o h0) (mh b o hz)) (hx : meth.name = "begins") (hf : f_X9_begins D b o h0 = some hz) : gx_G p l e R s m args below meth c D (mh b o h0) (mh b o hz) 2 (gx_MQ below args s D (mh b o h0) (mh b o hz) none) 0 [(0, (va_rf (some o)))] [] (mh b o h0) := by
  unfold f_X9_begins at hf
  refine gx_iconst (v := 0) C dX9_begins_0 rfl ?_
  refine gx_istn C dX9_begins_1 1 rfl (by decide) [0]  rfl (gx_okr rfl gx_catv_r gx_ok0) ?_
  refine gx_sub [1, 0] rfl ?_
  exact w_X9_begins_b2 hlt C hx gx_fuel hf
theorem w_X9_begins {l : Launch} (hlt : l.stackTraces = false) {D : gx_D} {b : HX} {o : Nat} {h : MS} {hz : MS} (hf : f_X9_begins D b o h = some hz) : gx_Met l yX9_begins cX9_begins 2 none 1 24 D [(va_rf (some o))] (mh b o h) none (mh b o hz) :=
  gx_ofG gz_495 (by simp only [gx_lsr, gx_lsi, gx_lsj, gx_ls0]; decide) mh_le (fun p e R s m args below meth c C hx => by
    simp only [gx_lar, gx_lai, gx_laj, gx_la0, Nat.reduceAdd]
    exact w_X9_begins_b hlt C hx hf)
def f_X9_guards (D : gx_D) (b : HX) (o : Nat) (h : MS) (p1 : Int32) (p2 : Int32) (p3 : Int32) : Option MS :=
  (ms_ai h 0 (3 : Int32)).bind fun x1 =>
  (ms_si h 0 (((93 : Int32) + ((9 : Int32) * (x1 - (1 : Int32)))) + (3 : Int32)) p1).bind fun h2 =>
  (ms_si h2 0 (((93 : Int32) + ((9 : Int32) * (x1 - (1 : Int32)))) + (4 : Int32)) p2).bind fun h3 =>
  (ms_si h3 0 (((93 : Int32) + ((9 : Int32) * (x1 - (1 : Int32)))) + (5 : Int32)) p3).bind fun h4 =>
  some h4
theorem w_X9_guards_b {l : Launch} (hlt : l.stackTraces = false) {p : Program} {e : Env} {R : Room} {s : State} {m : MethodId} {args : Array Value} {below : List Frame} {meth : Method} {c : Code} {D : gx_D} {b : HX} {o : Nat} {h0 : MS} {hz : MS} (C : gx_Ctx p R s m args meth c "ContractMachineModel" cX9_guards 5 none 1 24 D (mh b o h0) (mh b o hz)) (hx : meth.name = "guards") {p1 : Int32} {p2 : Int32} {p3 : Int32} (hf : f_X9_guards D b o h0 p1 p2 p3 = some hz) : gx_G p l e R s m args below meth c D (mh b o h0) (mh b o hz) 5 (gx_MQ below args s D (mh b o h0) (mh b o hz) none) 0 [(0, (va_rf (some o))), (1, (.int p1)), (2, (.int p2)), (3, (.int p3))] [] (mh b o h0) := by
  unfold f_X9_guards at hf
  refine gx_bipush (v := 93) C dX9_guards_0 rfl ?_
  refine gx_bipush (v := 9) C dX9_guards_2 rfl ?_
  refine gx_aload_n C dX9_guards_4 0 rfl ?_
  refine gx_gr C (mh_gr (k := 0) rfl) gz_494 q2634 dX9_guards_5 ?_
  refine gx_iconst (v := 3) C dX9_guards_8 rfl ?_
  replace hf := gx_bs hf
  obtain ⟨x1, g8, hf⟩ := hf
  refine gx_iald C (mh_ai g8) dX9_guards_9 ?_
  refine gx_iconst (v := 1) C dX9_guards_10 rfl ?_
  refine gx_isub C dX9_guards_11 ?_
  refine gx_imul C dX9_guards_12 ?_
  refine gx_iadd C dX9_guards_13 ?_
  refine gx_ist C dX9_guards_14 (by decide) [0, 1, 2, 3]  rfl (gx_okn rfl rfl (gx_okn rfl rfl (gx_okn rfl rfl (gx_okr rfl gx_catv_i gx_ok0)))) ?_
  refine gx_aload_n C dX9_guards_16 1 rfl ?_
  refine gx_gr C (mh_gr (k := 0) rfl) gz_494 q2634 dX9_guards_17 ?_
  refine gx_iload C dX9_guards_20 0 rfl ?_
  refine gx_iconst (v := 3) C dX9_guards_22 rfl ?_
  refine gx_iadd C dX9_guards_23 ?_
  refine gx_iload_n C dX9_guards_24 2 rfl ?_
  replace hf := gx_bs hf
  obtain ⟨h2, g7, hf⟩ := hf
  refine gx_iast C (mh_si g7) dX9_guards_25 ?_
  refine gx_aload_n C dX9_guards_26 1 rfl ?_
  refine gx_gr C (mh_gr (k := 0) rfl) gz_494 q2634 dX9_guards_27 ?_
  refine gx_iload C dX9_guards_30 0 rfl ?_
  refine gx_iconst (v := 4) C dX9_guards_32 rfl ?_
  refine gx_iadd C dX9_guards_33 ?_
  refine gx_iload_n C dX9_guards_34 3 rfl ?_
  replace hf := gx_bs hf
  obtain ⟨h3, g6, hf⟩ := hf
  refine gx_iast C (mh_si g6) dX9_guards_35 ?_
  refine gx_aload_n C dX9_guards_36 1 rfl ?_
  refine gx_gr C (mh_gr (k := 0) rfl) gz_494 q2634 dX9_guards_37 ?_
  refine gx_iload C dX9_guards_40 0 rfl ?_
  refine gx_iconst (v := 5) C dX9_guards_42 rfl ?_
  refine gx_iadd C dX9_guards_43 ?_
  refine gx_iload_n C dX9_guards_44 4 rfl ?_
  replace hf := gx_bs hf
  obtain ⟨h4, g5, hf⟩ := hf
  refine gx_iast C (mh_si g5) dX9_guards_45 ?_
  obtain rfl := Option.some.inj hf
  exact gx_vret C dX9_guards_46
theorem w_X9_guards {l : Launch} (hlt : l.stackTraces = false) {D : gx_D} {b : HX} {o : Nat} {h : MS} {p1 : Int32} {p2 : Int32} {p3 : Int32} {hz : MS} (hf : f_X9_guards D b o h p1 p2 p3 = some hz) : gx_Met l yX9_guards cX9_guards 5 none 1 24 D [(va_rf (some o)), (.int p1), (.int p2), (.int p3)] (mh b o h) none (mh b o hz) :=
  gx_ofG gz_495 (by simp only [gx_lsr, gx_lsi, gx_lsj, gx_ls0]; decide) mh_le (fun p e R s m args below meth c C hx => by
    simp only [gx_lar, gx_lai, gx_laj, gx_la0, Nat.reduceAdd]
    exact w_X9_guards_b hlt C hx hf)
def f_X9_keeps (D : gx_D) (b : HX) (o : Nat) (h : MS) (p1 : Int32) (p2 : Int32) (p3 : Int32) (p4 : Int32) : Option ((Int32) × MS) :=
  (ms_ai h 0 (4 : Int32)).bind fun x1 =>
  (ms_si h 0 (((309 : Int32) + ((4 : Int32) * x1)) + (0 : Int32)) p1).bind fun h2 =>
  (ms_si h2 0 (((309 : Int32) + ((4 : Int32) * x1)) + (1 : Int32)) p2).bind fun h3 =>
  (ms_si h3 0 (((309 : Int32) + ((4 : Int32) * x1)) + (2 : Int32)) p3).bind fun h4 =>
  (ms_si h4 0 (((309 : Int32) + ((4 : Int32) * x1)) + (3 : Int32)) p4).bind fun h5 =>
  (ms_ai h5 0 (4 : Int32)).bind fun x6 =>
  (ms_si h5 0 (4 : Int32) (x6 + (1 : Int32))).bind fun h7 =>
  (ms_ai h7 0 (4 : Int32)).bind fun x8 =>
  some ((x8 - (1 : Int32)), h7)
theorem w_X9_keeps_b {l : Launch} (hlt : l.stackTraces = false) {p : Program} {e : Env} {R : Room} {s : State} {m : MethodId} {args : Array Value} {below : List Frame} {meth : Method} {c : Code} {D : gx_D} {b : HX} {o : Nat} {h0 : MS} {r : Int32} {hz : MS} (C : gx_Ctx p R s m args meth c "ContractMachineModel" cX9_keeps 6 (some .int) 1 24 D (mh b o h0) (mh b o hz)) (hx : meth.name = "keeps") {p1 : Int32} {p2 : Int32} {p3 : Int32} {p4 : Int32} (hf : f_X9_keeps D b o h0 p1 p2 p3 p4 = some (r, hz)) : gx_G p l e R s m args below meth c D (mh b o h0) (mh b o hz) 6 (gx_MQ below args s D (mh b o h0) (mh b o hz) (some (.int r))) 0 [(0, (va_rf (some o))), (1, (.int p1)), (2, (.int p2)), (3, (.int p3)), (4, (.int p4))] [] (mh b o h0) := by
  unfold f_X9_keeps at hf
  refine gx_sipush (v := 309) C dX9_keeps_0 rfl ?_
  refine gx_iconst (v := 4) C dX9_keeps_3 rfl ?_
  refine gx_aload_n C dX9_keeps_4 0 rfl ?_
  refine gx_gr C (mh_gr (k := 0) rfl) gz_494 q2634 dX9_keeps_5 ?_
  refine gx_iconst (v := 4) C dX9_keeps_8 rfl ?_
  replace hf := gx_bs hf
  obtain ⟨x1, g16, hf⟩ := hf
  refine gx_iald C (mh_ai g16) dX9_keeps_9 ?_
  refine gx_imul C dX9_keeps_10 ?_
  refine gx_iadd C dX9_keeps_11 ?_
  refine gx_ist C dX9_keeps_12 (by decide) [0, 1, 2, 3, 4]  rfl (gx_okn rfl rfl (gx_okn rfl rfl (gx_okn rfl rfl (gx_okn rfl rfl (gx_okr rfl gx_catv_i gx_ok0))))) ?_
  refine gx_aload_n C dX9_keeps_14 1 rfl ?_
  refine gx_gr C (mh_gr (k := 0) rfl) gz_494 q2634 dX9_keeps_15 ?_
  refine gx_iload C dX9_keeps_18 0 rfl ?_
  refine gx_iconst (v := 0) C dX9_keeps_20 rfl ?_
  refine gx_iadd C dX9_keeps_21 ?_
  refine gx_iload_n C dX9_keeps_22 2 rfl ?_
  replace hf := gx_bs hf
  obtain ⟨h2, g15, hf⟩ := hf
  refine gx_iast C (mh_si g15) dX9_keeps_23 ?_
  refine gx_aload_n C dX9_keeps_24 1 rfl ?_
  refine gx_gr C (mh_gr (k := 0) rfl) gz_494 q2634 dX9_keeps_25 ?_
  refine gx_iload C dX9_keeps_28 0 rfl ?_
  refine gx_iconst (v := 1) C dX9_keeps_30 rfl ?_
  refine gx_iadd C dX9_keeps_31 ?_
  refine gx_iload_n C dX9_keeps_32 3 rfl ?_
  replace hf := gx_bs hf
  obtain ⟨h3, g14, hf⟩ := hf
  refine gx_iast C (mh_si g14) dX9_keeps_33 ?_
  refine gx_aload_n C dX9_keeps_34 1 rfl ?_
  refine gx_gr C (mh_gr (k := 0) rfl) gz_494 q2634 dX9_keeps_35 ?_
  refine gx_iload C dX9_keeps_38 0 rfl ?_
  refine gx_iconst (v := 2) C dX9_keeps_40 rfl ?_
  refine gx_iadd C dX9_keeps_41 ?_
  refine gx_iload_n C dX9_keeps_42 4 rfl ?_
  replace hf := gx_bs hf
  obtain ⟨h4, g13, hf⟩ := hf
  refine gx_iast C (mh_si g13) dX9_keeps_43 ?_
  refine gx_aload_n C dX9_keeps_44 1 rfl ?_
  refine gx_gr C (mh_gr (k := 0) rfl) gz_494 q2634 dX9_keeps_45 ?_
  refine gx_iload C dX9_keeps_48 0 rfl ?_
  refine gx_iconst (v := 3) C dX9_keeps_50 rfl ?_
  refine gx_iadd C dX9_keeps_51 ?_
  refine gx_iload C dX9_keeps_52 5 rfl ?_
  replace hf := gx_bs hf
  obtain ⟨h5, g12, hf⟩ := hf
  refine gx_iast C (mh_si g12) dX9_keeps_54 ?_
  refine gx_aload_n C dX9_keeps_55 1 rfl ?_
  refine gx_gr C (mh_gr (k := 0) rfl) gz_494 q2634 dX9_keeps_56 ?_
  refine gx_iconst (v := 4) C dX9_keeps_59 rfl ?_
  refine gx_dup2 C dX9_keeps_60 rfl rfl ?_
  replace hf := gx_bs hf
  obtain ⟨x6, g11, hf⟩ := hf
  refine gx_iald C (mh_ai g11) dX9_keeps_61 ?_
  refine gx_iconst (v := 1) C dX9_keeps_62 rfl ?_
  refine gx_iadd C dX9_keeps_63 ?_
  replace hf := gx_bs hf
  obtain ⟨h7, g10, hf⟩ := hf
  refine gx_iast C (mh_si g10) dX9_keeps_64 ?_
  refine gx_aload_n C dX9_keeps_65 1 rfl ?_
  refine gx_gr C (mh_gr (k := 0) rfl) gz_494 q2634 dX9_keeps_66 ?_
  refine gx_iconst (v := 4) C dX9_keeps_69 rfl ?_
  replace hf := gx_bs hf
  obtain ⟨x8, g9, hf⟩ := hf
  refine gx_iald C (mh_ai g9) dX9_keeps_70 ?_
  refine gx_iconst (v := 1) C dX9_keeps_71 rfl ?_
  refine gx_isub C dX9_keeps_72 ?_
  obtain ⟨rfl, rfl⟩ := Prod.mk.inj (Option.some.inj hf)
  exact gx_iret C dX9_keeps_73
theorem w_X9_keeps {l : Launch} (hlt : l.stackTraces = false) {D : gx_D} {b : HX} {o : Nat} {h : MS} {p1 : Int32} {p2 : Int32} {p3 : Int32} {p4 : Int32} {r : Int32} {hz : MS} (hf : f_X9_keeps D b o h p1 p2 p3 p4 = some (r, hz)) : gx_Met l yX9_keeps cX9_keeps 6 (some .int) 1 24 D [(va_rf (some o)), (.int p1), (.int p2), (.int p3), (.int p4)] (mh b o h) (some (.int r)) (mh b o hz) :=
  gx_ofG gz_495 (by simp only [gx_lsr, gx_lsi, gx_lsj, gx_ls0]; decide) mh_le (fun p e R s m args below meth c C hx => by
    simp only [gx_lar, gx_lai, gx_laj, gx_la0, Nat.reduceAdd]
    exact w_X9_keeps_b hlt C hx hf)
def f_X9_leads (D : gx_D) (b : HX) (o : Nat) (h : MS) (p1 : Int32) (p2 : Int32) (p3 : Int32) : Option MS :=
  (ms_ai h 0 (3 : Int32)).bind fun x1 =>
  (ms_si h 0 (((93 : Int32) + ((9 : Int32) * x1)) + (0 : Int32)) p1).bind fun h2 =>
  (ms_si h2 0 (((93 : Int32) + ((9 : Int32) * x1)) + (1 : Int32)) p2).bind fun h3 =>
  (ms_si h3 0 (((93 : Int32) + ((9 : Int32) * x1)) + (2 : Int32)) p3).bind fun h4 =>
  (ms_si h4 0 (((93 : Int32) + ((9 : Int32) * x1)) + (3 : Int32)) (-1 : Int32)).bind fun h5 =>
  (ms_si h5 0 (((93 : Int32) + ((9 : Int32) * x1)) + (6 : Int32)) (-1 : Int32)).bind fun h6 =>
  (ms_ai h6 0 (3 : Int32)).bind fun x7 =>
  (ms_si h6 0 (3 : Int32) (x7 + (1 : Int32))).bind fun h8 =>
  some h8
theorem w_X9_leads_b {l : Launch} (hlt : l.stackTraces = false) {p : Program} {e : Env} {R : Room} {s : State} {m : MethodId} {args : Array Value} {below : List Frame} {meth : Method} {c : Code} {D : gx_D} {b : HX} {o : Nat} {h0 : MS} {hz : MS} (C : gx_Ctx p R s m args meth c "ContractMachineModel" cX9_leads 5 none 1 24 D (mh b o h0) (mh b o hz)) (hx : meth.name = "leads") {p1 : Int32} {p2 : Int32} {p3 : Int32} (hf : f_X9_leads D b o h0 p1 p2 p3 = some hz) : gx_G p l e R s m args below meth c D (mh b o h0) (mh b o hz) 5 (gx_MQ below args s D (mh b o h0) (mh b o hz) none) 0 [(0, (va_rf (some o))), (1, (.int p1)), (2, (.int p2)), (3, (.int p3))] [] (mh b o h0) := by
  unfold f_X9_leads at hf
  refine gx_bipush (v := 93) C dX9_leads_0 rfl ?_
  refine gx_bipush (v := 9) C dX9_leads_2 rfl ?_
  refine gx_aload_n C dX9_leads_4 0 rfl ?_
  refine gx_gr C (mh_gr (k := 0) rfl) gz_494 q2634 dX9_leads_5 ?_
  refine gx_iconst (v := 3) C dX9_leads_8 rfl ?_
  replace hf := gx_bs hf
  obtain ⟨x1, g16, hf⟩ := hf
  refine gx_iald C (mh_ai g16) dX9_leads_9 ?_
  refine gx_imul C dX9_leads_10 ?_
  refine gx_iadd C dX9_leads_11 ?_
  refine gx_ist C dX9_leads_12 (by decide) [0, 1, 2, 3]  rfl (gx_okn rfl rfl (gx_okn rfl rfl (gx_okn rfl rfl (gx_okr rfl gx_catv_i gx_ok0)))) ?_
  refine gx_aload_n C dX9_leads_14 1 rfl ?_
  refine gx_gr C (mh_gr (k := 0) rfl) gz_494 q2634 dX9_leads_15 ?_
  refine gx_iload C dX9_leads_18 0 rfl ?_
  refine gx_iconst (v := 0) C dX9_leads_20 rfl ?_
  refine gx_iadd C dX9_leads_21 ?_
  refine gx_iload_n C dX9_leads_22 2 rfl ?_
  replace hf := gx_bs hf
  obtain ⟨h2, g15, hf⟩ := hf
  refine gx_iast C (mh_si g15) dX9_leads_23 ?_
  refine gx_aload_n C dX9_leads_24 1 rfl ?_
  refine gx_gr C (mh_gr (k := 0) rfl) gz_494 q2634 dX9_leads_25 ?_
  refine gx_iload C dX9_leads_28 0 rfl ?_
  refine gx_iconst (v := 1) C dX9_leads_30 rfl ?_
  refine gx_iadd C dX9_leads_31 ?_
  refine gx_iload_n C dX9_leads_32 3 rfl ?_
  replace hf := gx_bs hf
  obtain ⟨h3, g14, hf⟩ := hf
  refine gx_iast C (mh_si g14) dX9_leads_33 ?_
  refine gx_aload_n C dX9_leads_34 1 rfl ?_
  refine gx_gr C (mh_gr (k := 0) rfl) gz_494 q2634 dX9_leads_35 ?_
  refine gx_iload C dX9_leads_38 0 rfl ?_
  refine gx_iconst (v := 2) C dX9_leads_40 rfl ?_
  refine gx_iadd C dX9_leads_41 ?_
  refine gx_iload_n C dX9_leads_42 4 rfl ?_
  replace hf := gx_bs hf
  obtain ⟨h4, g13, hf⟩ := hf
  refine gx_iast C (mh_si g13) dX9_leads_43 ?_
  refine gx_aload_n C dX9_leads_44 1 rfl ?_
  refine gx_gr C (mh_gr (k := 0) rfl) gz_494 q2634 dX9_leads_45 ?_
  refine gx_iload C dX9_leads_48 0 rfl ?_
  refine gx_iconst (v := 3) C dX9_leads_50 rfl ?_
  refine gx_iadd C dX9_leads_51 ?_
  refine gx_iconst (v := -1) C dX9_leads_52 rfl ?_
  replace hf := gx_bs hf
  obtain ⟨h5, g12, hf⟩ := hf
  refine gx_iast C (mh_si g12) dX9_leads_53 ?_
  refine gx_aload_n C dX9_leads_54 1 rfl ?_
  refine gx_gr C (mh_gr (k := 0) rfl) gz_494 q2634 dX9_leads_55 ?_
  refine gx_iload C dX9_leads_58 0 rfl ?_
  refine gx_bipush (v := 6) C dX9_leads_60 rfl ?_
  refine gx_iadd C dX9_leads_62 ?_
  refine gx_iconst (v := -1) C dX9_leads_63 rfl ?_
  replace hf := gx_bs hf
  obtain ⟨h6, g11, hf⟩ := hf
  refine gx_iast C (mh_si g11) dX9_leads_64 ?_
  refine gx_aload_n C dX9_leads_65 1 rfl ?_
  refine gx_gr C (mh_gr (k := 0) rfl) gz_494 q2634 dX9_leads_66 ?_
  refine gx_iconst (v := 3) C dX9_leads_69 rfl ?_
  refine gx_dup2 C dX9_leads_70 rfl rfl ?_
  replace hf := gx_bs hf
  obtain ⟨x7, g10, hf⟩ := hf
  refine gx_iald C (mh_ai g10) dX9_leads_71 ?_
  refine gx_iconst (v := 1) C dX9_leads_72 rfl ?_
  refine gx_iadd C dX9_leads_73 ?_
  replace hf := gx_bs hf
  obtain ⟨h8, g9, hf⟩ := hf
  refine gx_iast C (mh_si g9) dX9_leads_74 ?_
  obtain rfl := Option.some.inj hf
  exact gx_vret C dX9_leads_75
theorem w_X9_leads {l : Launch} (hlt : l.stackTraces = false) {D : gx_D} {b : HX} {o : Nat} {h : MS} {p1 : Int32} {p2 : Int32} {p3 : Int32} {hz : MS} (hf : f_X9_leads D b o h p1 p2 p3 = some hz) : gx_Met l yX9_leads cX9_leads 5 none 1 24 D [(va_rf (some o)), (.int p1), (.int p2), (.int p3)] (mh b o h) none (mh b o hz) :=
  gx_ofG gz_495 (by simp only [gx_lsr, gx_lsi, gx_lsj, gx_ls0]; decide) mh_le (fun p e R s m args below meth c C hx => by
    simp only [gx_lar, gx_lai, gx_laj, gx_la0, Nat.reduceAdd]
    exact w_X9_leads_b hlt C hx hf)
def f_X9_names_b15 (D : gx_D) (b : HX) (o : Nat) (h : MS) (v1 : Int32) (v2 : Int32) (v3 : Int32) (v4 : Int32) (v5 : Int32) (v6 : Int32) (s0 : Int32) (s1 : Int32) (s2 : Nat) : Option MS :=
  (ms_si h s2 s1 s0).bind fun h2 =>
  (ms_si h2 0 (v1 + (1 : Int32)) v2).bind fun h3 =>
  (ms_si h3 0 (v1 + (2 : Int32)) v3).bind fun h4 =>
  (ms_si h4 0 (v1 + (3 : Int32)) v4).bind fun h5 =>
  (ms_si h5 0 (v1 + (4 : Int32)) v5).bind fun h6 =>
  (ms_si h6 0 (v1 + (5 : Int32)) v6).bind fun h7 =>
  some h7
theorem w_X9_names_b15 {l : Launch} (hlt : l.stackTraces = false) {p : Program} {e : Env} {R : Room} {s : State} {m : MethodId} {args : Array Value} {below : List Frame} {meth : Method} {c : Code} {D : gx_D} {b : HX} {o : Nat} {h0 : MS} {hz : MS} (C : gx_Ctx p R s m args meth c "ContractMachineModel" cX9_names 7 none 1 24 D (mh b o h0) (mh b o hz)) (hx : meth.name = "names")  {h : MS} {v1 : Int32} {v2 : Int32} {v3 : Int32} {v4 : Int32} {v5 : Int32} {v6 : Int32} {s0 : Int32} {s1 : Int32} {s2 : Nat} (hf : f_X9_names_b15 D b o h v1 v2 v3 v4 v5 v6 s0 s1 s2 = some hz) : gx_G p l e R s m args below meth c D (mh b o h0) (mh b o hz) 7 (gx_MQ below args s D (mh b o h0) (mh b o hz) none) 15 [(0, (va_rf (some o))), (1, (.int v1)), (2, (.int v2)), (3, (.int v3)), (4, (.int v4)), (5, (.int v5)), (6, (.int v6))] [(.int s0), (.int s1), (va_rf (some (o + 1 + s2)))] (mh b o h) := by
  unfold f_X9_names_b15 at hf
  replace hf := gx_bs hf
  obtain ⟨h2, g13, hf⟩ := hf
  refine gx_iast C (mh_si g13) dX9_names_15 ?_
  refine gx_aload_n C dX9_names_16 0 rfl ?_
  refine gx_gr C (mh_gr (k := 0) rfl) gz_494 q2634 dX9_names_17 ?_
  refine gx_iload_n C dX9_names_20 1 rfl ?_
  refine gx_iconst (v := 1) C dX9_names_21 rfl ?_
  refine gx_iadd C dX9_names_22 ?_
  refine gx_iload_n C dX9_names_23 2 rfl ?_
  replace hf := gx_bs hf
  obtain ⟨h3, g12, hf⟩ := hf
  refine gx_iast C (mh_si g12) dX9_names_24 ?_
  refine gx_aload_n C dX9_names_25 0 rfl ?_
  refine gx_gr C (mh_gr (k := 0) rfl) gz_494 q2634 dX9_names_26 ?_
  refine gx_iload_n C dX9_names_29 1 rfl ?_
  refine gx_iconst (v := 2) C dX9_names_30 rfl ?_
  refine gx_iadd C dX9_names_31 ?_
  refine gx_iload_n C dX9_names_32 3 rfl ?_
  replace hf := gx_bs hf
  obtain ⟨h4, g11, hf⟩ := hf
  refine gx_iast C (mh_si g11) dX9_names_33 ?_
  refine gx_aload_n C dX9_names_34 0 rfl ?_
  refine gx_gr C (mh_gr (k := 0) rfl) gz_494 q2634 dX9_names_35 ?_
  refine gx_iload_n C dX9_names_38 1 rfl ?_
  refine gx_iconst (v := 3) C dX9_names_39 rfl ?_
  refine gx_iadd C dX9_names_40 ?_
  refine gx_iload C dX9_names_41 4 rfl ?_
  replace hf := gx_bs hf
  obtain ⟨h5, g10, hf⟩ := hf
  refine gx_iast C (mh_si g10) dX9_names_43 ?_
  refine gx_aload_n C dX9_names_44 0 rfl ?_
  refine gx_gr C (mh_gr (k := 0) rfl) gz_494 q2634 dX9_names_45 ?_
  refine gx_iload_n C dX9_names_48 1 rfl ?_
  refine gx_iconst (v := 4) C dX9_names_49 rfl ?_
  refine gx_iadd C dX9_names_50 ?_
  refine gx_iload C dX9_names_51 5 rfl ?_
  replace hf := gx_bs hf
  obtain ⟨h6, g9, hf⟩ := hf
  refine gx_iast C (mh_si g9) dX9_names_53 ?_
  refine gx_aload_n C dX9_names_54 0 rfl ?_
  refine gx_gr C (mh_gr (k := 0) rfl) gz_494 q2634 dX9_names_55 ?_
  refine gx_iload_n C dX9_names_58 1 rfl ?_
  refine gx_iconst (v := 5) C dX9_names_59 rfl ?_
  refine gx_iadd C dX9_names_60 ?_
  refine gx_iload C dX9_names_61 6 rfl ?_
  replace hf := gx_bs hf
  obtain ⟨h7, g8, hf⟩ := hf
  refine gx_iast C (mh_si g8) dX9_names_63 ?_
  obtain rfl := Option.some.inj hf
  exact gx_vret C dX9_names_64
def f_X9_names (D : gx_D) (b : HX) (o : Nat) (h : MS) (p1 : Int32) (p2 : Int32) (p3 : Int32) (p4 : Int32) (p5 : Int32) (p6 : Int32) : Option MS :=
  if p6 = 0 then
  f_X9_names_b15 D b o h p1 p2 p3 p4 p5 p6 ((4 : Int32)) p1 0
  else
  f_X9_names_b15 D b o h p1 p2 p3 p4 p5 p6 ((5 : Int32)) p1 0
theorem w_X9_names_b {l : Launch} (hlt : l.stackTraces = false) {p : Program} {e : Env} {R : Room} {s : State} {m : MethodId} {args : Array Value} {below : List Frame} {meth : Method} {c : Code} {D : gx_D} {b : HX} {o : Nat} {h0 : MS} {hz : MS} (C : gx_Ctx p R s m args meth c "ContractMachineModel" cX9_names 7 none 1 24 D (mh b o h0) (mh b o hz)) (hx : meth.name = "names") {p1 : Int32} {p2 : Int32} {p3 : Int32} {p4 : Int32} {p5 : Int32} {p6 : Int32} (hf : f_X9_names D b o h0 p1 p2 p3 p4 p5 p6 = some hz) : gx_G p l e R s m args below meth c D (mh b o h0) (mh b o hz) 7 (gx_MQ below args s D (mh b o h0) (mh b o hz) none) 0 [(0, (va_rf (some o))), (1, (.int p1)), (2, (.int p2)), (3, (.int p3)), (4, (.int p4)), (5, (.int p5)), (6, (.int p6))] [] (mh b o h0) := by
  unfold f_X9_names at hf
  refine gx_aload_n C dX9_names_0 0 rfl ?_
  refine gx_gr C (mh_gr (k := 0) rfl) gz_494 q2634 dX9_names_1 ?_
  refine gx_iload_n C dX9_names_4 1 rfl ?_
  refine gx_iload C dX9_names_5 6 rfl ?_
  replace hf := gx_ite hf
  rcases hf with ⟨c1, hf⟩ | ⟨c1, hf⟩
  · refine gx_if_ne_f (tgt := 14) C dX9_names_7 rfl c1 ?_
    refine gx_iconst (v := 4) C dX9_names_10 rfl ?_
    refine gx_goto (tgt := 15) C dX9_names_11 rfl ?_
    refine gx_sub [0, 1, 2, 3, 4, 5, 6] rfl ?_
    exact w_X9_names_b15 hlt C hx hf
  · refine gx_if_ne_t (tgt := 14) C dX9_names_7 rfl c1 ?_
    refine gx_iconst (v := 5) C dX9_names_14 rfl ?_
    refine gx_sub [0, 1, 2, 3, 4, 5, 6] rfl ?_
    exact w_X9_names_b15 hlt C hx hf
theorem w_X9_names {l : Launch} (hlt : l.stackTraces = false) {D : gx_D} {b : HX} {o : Nat} {h : MS} {p1 : Int32} {p2 : Int32} {p3 : Int32} {p4 : Int32} {p5 : Int32} {p6 : Int32} {hz : MS} (hf : f_X9_names D b o h p1 p2 p3 p4 p5 p6 = some hz) : gx_Met l yX9_names cX9_names 7 none 1 24 D [(va_rf (some o)), (.int p1), (.int p2), (.int p3), (.int p4), (.int p5), (.int p6)] (mh b o h) none (mh b o hz) :=
  gx_ofG gz_495 (by simp only [gx_lsr, gx_lsi, gx_lsj, gx_ls0]; decide) mh_le (fun p e R s m args below meth c C hx => by
    simp only [gx_lar, gx_lai, gx_laj, gx_la0, Nat.reduceAdd]
    exact w_X9_names_b hlt C hx hf)
def f_X9_goesToStart_b38 (D : gx_D) (b : HX) (o : Nat) (h : MS) : Option MS :=
  (ms_si h 0 (18 : Int32) (0 : Int32)).bind fun h3 =>
  some h3
theorem w_X9_goesToStart_b38 {l : Launch} (hlt : l.stackTraces = false) {p : Program} {e : Env} {R : Room} {s : State} {m : MethodId} {args : Array Value} {below : List Frame} {meth : Method} {c : Code} {D : gx_D} {b : HX} {o : Nat} {h0 : MS} {hz : MS} (C : gx_Ctx p R s m args meth c "ContractMachineModel" cX9_goesToStart 2 none 1 24 D (mh b o h0) (mh b o hz)) (hx : meth.name = "goesToStart")  {h : MS} (hf : f_X9_goesToStart_b38 D b o h = some hz) : gx_G p l e R s m args below meth c D (mh b o h0) (mh b o hz) 2 (gx_MQ below args s D (mh b o h0) (mh b o hz) none) 38 [(0, (va_rf (some o)))] [] (mh b o h) := by
  unfold f_X9_goesToStart_b38 at hf
  refine gx_aload_n C dX9_goesToStart_38 0 rfl ?_
  refine gx_gr C (mh_gr (k := 0) rfl) gz_494 q2634 dX9_goesToStart_39 ?_
  refine gx_bipush (v := 18) C dX9_goesToStart_42 rfl ?_
  refine gx_iconst (v := 0) C dX9_goesToStart_44 rfl ?_
  replace hf := gx_bs hf
  obtain ⟨h3, g4, hf⟩ := hf
  refine gx_iast C (mh_si g4) dX9_goesToStart_45 ?_
  obtain rfl := Option.some.inj hf
  exact gx_vret C dX9_goesToStart_46
def f_X9_goesToStart_b9 (D : gx_D) (b : HX) (o : Nat) : Nat → MS → Int32 → Option MS
  | 0, _, _ => none
  | n + 1, h, v1 =>
  if (3 : Int32) ≤ v1 then
  f_X9_goesToStart_b38 D b o h
  else
  (ms_ai h 0 ((9 : Int32) + v1)).bind fun x5 =>
  (ms_si h 0 ((6 : Int32) + v1) x5).bind fun h6 =>
  (f_X9_goesToStart_b9 D b o n) h6 ((v1 + (1 : Int32)))
theorem w_X9_goesToStart_b9 {l : Launch} (hlt : l.stackTraces = false) {p : Program} {e : Env} {R : Room} {s : State} {m : MethodId} {args : Array Value} {below : List Frame} {meth : Method} {c : Code} {D : gx_D} {b : HX} {o : Nat} {h0 : MS} {hz : MS} (C : gx_Ctx p R s m args meth c "ContractMachineModel" cX9_goesToStart 2 none 1 24 D (mh b o h0) (mh b o hz)) (hx : meth.name = "goesToStart")  : ∀ (n : Nat) ⦃h : MS⦄ ⦃v1 : Int32⦄, f_X9_goesToStart_b9 D b o n h v1 = some hz → gx_G p l e R s m args below meth c D (mh b o h0) (mh b o hz) 2 (gx_MQ below args s D (mh b o h0) (mh b o hz) none) 9 [(0, (va_rf (some o))), (1, (.int v1))] [] (mh b o h) := by
  intro n
  induction n with
  | zero => intro h v1 hf; unfold f_X9_goesToStart_b9 at hf; cases hf
  | succ n wk9 =>
    intro h v1 hf
    unfold f_X9_goesToStart_b9 at hf
    refine gx_iload_n C dX9_goesToStart_9 1 rfl ?_
    refine gx_iconst (v := 3) C dX9_goesToStart_10 rfl ?_
    replace hf := gx_ite hf
    rcases hf with ⟨c2, hf⟩ | ⟨c2, hf⟩
    · refine gx_icmp_ge_t (tgt := 38) C dX9_goesToStart_11 rfl c2 ?_
      refine gx_sub [0] rfl ?_
      exact w_X9_goesToStart_b38 hlt C hx hf
    · refine gx_icmp_ge_f (tgt := 38) C dX9_goesToStart_11 rfl c2 ?_
      refine gx_aload_n C dX9_goesToStart_14 0 rfl ?_
      refine gx_gr C (mh_gr (k := 0) rfl) gz_494 q2634 dX9_goesToStart_15 ?_
      refine gx_bipush (v := 6) C dX9_goesToStart_18 rfl ?_
      refine gx_iload_n C dX9_goesToStart_20 1 rfl ?_
      refine gx_iadd C dX9_goesToStart_21 ?_
      refine gx_aload_n C dX9_goesToStart_22 0 rfl ?_
      refine gx_gr C (mh_gr (k := 0) rfl) gz_494 q2634 dX9_goesToStart_23 ?_
      refine gx_bipush (v := 9) C dX9_goesToStart_26 rfl ?_
      refine gx_iload_n C dX9_goesToStart_28 1 rfl ?_
      refine gx_iadd C dX9_goesToStart_29 ?_
      replace hf := gx_bs hf
      obtain ⟨x5, g8, hf⟩ := hf
      refine gx_iald C (mh_ai g8) dX9_goesToStart_30 ?_
      replace hf := gx_bs hf
      obtain ⟨h6, g7, hf⟩ := hf
      refine gx_iast C (mh_si g7) dX9_goesToStart_31 ?_
      refine gx_inc (v := 1) C dX9_goesToStart_32 1 rfl rfl (by decide) [0] rfl (gx_okr rfl gx_catv_r gx_ok0) ?_
      refine gx_goto (tgt := 9) C dX9_goesToStart_35 rfl ?_
      refine gx_sub [1, 0] rfl ?_
      exact wk9 hf
def f_X9_goesToStart (D : gx_D) (b : HX) (o : Nat) (h : MS) : Option MS :=
  (ms_si h 0 (5 : Int32) (0 : Int32)).bind fun h1 =>
  f_X9_goesToStart_b9 D b o gx_fuel h1 ((0 : Int32))
theorem w_X9_goesToStart_b {l : Launch} (hlt : l.stackTraces = false) {p : Program} {e : Env} {R : Room} {s : State} {m : MethodId} {args : Array Value} {below : List Frame} {meth : Method} {c : Code} {D : gx_D} {b : HX} {o : Nat} {h0 : MS} {hz : MS} (C : gx_Ctx p R s m args meth c "ContractMachineModel" cX9_goesToStart 2 none 1 24 D (mh b o h0) (mh b o hz)) (hx : meth.name = "goesToStart") (hf : f_X9_goesToStart D b o h0 = some hz) : gx_G p l e R s m args below meth c D (mh b o h0) (mh b o hz) 2 (gx_MQ below args s D (mh b o h0) (mh b o hz) none) 0 [(0, (va_rf (some o)))] [] (mh b o h0) := by
  unfold f_X9_goesToStart at hf
  refine gx_aload_n C dX9_goesToStart_0 0 rfl ?_
  refine gx_gr C (mh_gr (k := 0) rfl) gz_494 q2634 dX9_goesToStart_1 ?_
  refine gx_iconst (v := 5) C dX9_goesToStart_4 rfl ?_
  refine gx_iconst (v := 0) C dX9_goesToStart_5 rfl ?_
  replace hf := gx_bs hf
  obtain ⟨h1, g9, hf⟩ := hf
  refine gx_iast C (mh_si g9) dX9_goesToStart_6 ?_
  refine gx_iconst (v := 0) C dX9_goesToStart_7 rfl ?_
  refine gx_istn C dX9_goesToStart_8 1 rfl (by decide) [0]  rfl (gx_okr rfl gx_catv_r gx_ok0) ?_
  refine gx_sub [1, 0] rfl ?_
  exact w_X9_goesToStart_b9 hlt C hx gx_fuel hf
theorem w_X9_goesToStart {l : Launch} (hlt : l.stackTraces = false) {D : gx_D} {b : HX} {o : Nat} {h : MS} {hz : MS} (hf : f_X9_goesToStart D b o h = some hz) : gx_Met l yX9_goesToStart cX9_goesToStart 2 none 1 24 D [(va_rf (some o))] (mh b o h) none (mh b o hz) :=
  gx_ofG gz_495 (by simp only [gx_lsr, gx_lsi, gx_lsj, gx_ls0]; decide) mh_le (fun p e R s m args below meth c C hx => by
    simp only [gx_lar, gx_lai, gx_laj, gx_la0, Nat.reduceAdd]
    exact w_X9_goesToStart_b hlt C hx hf)
def f_X9_starts (D : gx_D) (b : HX) (o : Nat) (h : MS) : Option MS :=
  (f_X9_goesToStart D b o h).bind fun h2 =>
  (ms_si h2 0 (59 : Int32) (1 : Int32)).bind fun h3 =>
  some h3
theorem w_X9_starts_b {l : Launch} (hlt : l.stackTraces = false) {p : Program} {e : Env} {R : Room} {s : State} {m : MethodId} {args : Array Value} {below : List Frame} {meth : Method} {c : Code} {D : gx_D} {b : HX} {o : Nat} {h0 : MS} {hz : MS} (C : gx_Ctx p R s m args meth c "ContractMachineModel" cX9_starts 1 none 2 45 D (mh b o h0) (mh b o hz)) (hx : meth.name = "starts") (hf : f_X9_starts D b o h0 = some hz) : gx_G p l e R s m args below meth c D (mh b o h0) (mh b o hz) 1 (gx_MQ below args s D (mh b o h0) (mh b o hz) none) 0 [(0, (va_rf (some o)))] [] (mh b o h0) := by
  unfold f_X9_starts at hf
  refine gx_aload_n C dX9_starts_0 0 rfl ?_
  replace hf := gx_bs hf
  obtain ⟨h2, g1, hf⟩ := hf
  refine gx_callV (st := []) C (w_X9_goesToStart hlt g1) mh_is gz_497 rfl (lw_V q2630 q2632 qs58 q151 q2633) gz_496 (by decide) rfl rfl (gx_catn (Nat.le_of_ble_eq_true rfl)) dX9_starts_1 ?_
  refine gx_aload_n C dX9_starts_4 0 rfl ?_
  refine gx_gr C (mh_gr (k := 0) rfl) gz_494 q2634 dX9_starts_5 ?_
  refine gx_bipush (v := 59) C dX9_starts_8 rfl ?_
  refine gx_iconst (v := 1) C dX9_starts_10 rfl ?_
  replace hf := gx_bs hf
  obtain ⟨h3, g4, hf⟩ := hf
  refine gx_iast C (mh_si g4) dX9_starts_11 ?_
  obtain rfl := Option.some.inj hf
  exact gx_vret C dX9_starts_12
theorem w_X9_starts {l : Launch} (hlt : l.stackTraces = false) {D : gx_D} {b : HX} {o : Nat} {h : MS} {hz : MS} (hf : f_X9_starts D b o h = some hz) : gx_Met l yX9_starts cX9_starts 1 none 2 45 D [(va_rf (some o))] (mh b o h) none (mh b o hz) :=
  gx_ofG gz_495 (by simp only [gx_lsr, gx_lsi, gx_lsj, gx_ls0]; decide) mh_le (fun p e R s m args below meth c C hx => by
    simp only [gx_lar, gx_lai, gx_laj, gx_la0, Nat.reduceAdd]
    exact w_X9_starts_b hlt C hx hf)
def f_X9_init (D : gx_D) (h : HX) (a0 : Nat) : Option HX :=
  gx_b2 (hx_newa h 0 (504 : Int32) (fun _ => .inl fun _ => 0)) fun a1 h2 =>
  (hx_pr h2 a0 [31] 0 (some a1)).bind fun h3 =>
  gx_b2 (hx_newa h3 0 (504 : Int32) (fun _ => .inl fun _ => 0)) fun a4 h5 =>
  (hx_pr h5 a0 [31] 1 (some a4)).bind fun h6 =>
  gx_b2 (hx_newa h6 0 (504 : Int32) (fun _ => .inl fun _ => 0)) fun a7 h8 =>
  (hx_pr h8 a0 [31] 2 (some a7)).bind fun h9 =>
  gx_b2 (hx_newa h9 0 (4032 : Int32) (fun _ => .inl fun _ => 0)) fun a10 h11 =>
  (hx_pr h11 a0 [31] 3 (some a10)).bind fun h12 =>
  gx_b2 (hx_newa h12 0 (10000 : Int32) (fun _ => .inl fun _ => 0)) fun a13 h14 =>
  (hx_pr h14 a0 [31] 9 (some a13)).bind fun h15 =>
  gx_b2 (hx_newa h15 0 (10000 : Int32) (fun _ => .inl fun _ => 0)) fun a16 h17 =>
  (hx_pr h17 a0 [31] 10 (some a16)).bind fun h18 =>
  gx_b2 (hx_newa h18 0 (700 : Int32) (fun _ => .inl fun _ => 0)) fun a19 h20 =>
  (hx_pr h20 a0 [31] 12 (some a19)).bind fun h21 =>
  (hx_pi h21 a0 [31] 15 (-1 : Int32)).bind fun h22 =>
  gx_b2 (hx_newa h22 0 (9 : Int32) (fun _ => .inl fun _ => 0)) fun a23 h24 =>
  (hx_pr h24 a0 [31] 23 (some a23)).bind fun h25 =>
  gx_b2 (hx_newa h25 0 (31 : Int32) (fun _ => .inl fun _ => 0)) fun a26 h27 =>
  (hx_pr h27 a0 [31] 24 (some a26)).bind fun h28 =>
  gx_b2 (hx_newa h28 0 (62 : Int32) (fun _ => .inl fun _ => 0)) fun a29 h30 =>
  (hx_pr h30 a0 [31] 25 (some a29)).bind fun h31 =>
  gx_b2 (hx_newa h31 3 (10000 : Int32) (fun _ => .inl fun _ => 0)) fun a32 h33 =>
  (hx_pr h33 a0 [31] 27 (some a32)).bind fun h34 =>
  gx_b2 (hx_newa h34 0 (10000 : Int32) (fun _ => .inl fun _ => 0)) fun a35 h36 =>
  (hx_pr h36 a0 [31] 28 (some a35)).bind fun h37 =>
  gx_b2 (hx_newa h37 0 (60 : Int32) (fun _ => .inl fun _ => 0)) fun a38 h39 =>
  (hx_pr h39 a0 [31] 29 (some a38)).bind fun h40 =>
  (mh_of h40 a0).bind fun s41 =>
  (f_X9_begins D h40 a0 s41).bind fun h44 =>
  (f_X9_names D h40 a0 h44 (357 : Int32) (105 : Int32) (100 : Int32) (108 : Int32) (101 : Int32) (0 : Int32)).bind fun h46 =>
  (f_X9_names D h40 a0 h46 (364 : Int32) (98 : Int32) (117 : Int32) (115 : Int32) (121 : Int32) (0 : Int32)).bind fun h48 =>
  (f_X9_names D h40 a0 h48 (371 : Int32) (102 : Int32) (117 : Int32) (108 : Int32) (108 : Int32) (0 : Int32)).bind fun h50 =>
  (f_X9_names D h40 a0 h50 (427 : Int32) (99 : Int32) (111 : Int32) (105 : Int32) (110 : Int32) (0 : Int32)).bind fun h52 =>
  (f_X9_names D h40 a0 h52 (434 : Int32) (112 : Int32) (117 : Int32) (115 : Int32) (104 : Int32) (0 : Int32)).bind fun h54 =>
  (f_X9_names D h40 a0 h54 (441 : Int32) (116 : Int32) (97 : Int32) (107 : Int32) (101 : Int32) (0 : Int32)).bind fun h56 =>
  (f_X9_names D h40 a0 h56 (483 : Int32) (99 : Int32) (111 : Int32) (105 : Int32) (110 : Int32) (115 : Int32)).bind fun h58 =>
  (f_X9_names D h40 a0 h58 (490 : Int32) (99 : Int32) (117 : Int32) (112 : Int32) (115 : Int32) (0 : Int32)).bind fun h60 =>
  (ms_si h60 0 (0 : Int32) (3 : Int32)).bind fun h61 =>
  (ms_si h61 0 (1 : Int32) (3 : Int32)).bind fun h62 =>
  (ms_si h62 0 (2 : Int32) (2 : Int32)).bind fun h63 =>
  (ms_si h63 0 (10 : Int32) (3 : Int32)).bind fun h64 =>
  (f_X9_leads D h40 a0 h64 (0 : Int32) (0 : Int32) (1 : Int32)).bind fun h66 =>
  (f_X9_acts D h40 a0 h66 (0 : Int32) (0 : Int32) (1 : Int32)).bind fun h68 =>
  (f_X9_leads D h40 a0 h68 (1 : Int32) (0 : Int32) (2 : Int32)).bind fun h70 =>
  (f_X9_guards D h40 a0 h70 (0 : Int32) (5 : Int32) (2 : Int32)).bind fun h72 =>
  (f_X9_acts D h40 a0 h72 (0 : Int32) (0 : Int32) (1 : Int32)).bind fun h74 =>
  (f_X9_leads D h40 a0 h74 (1 : Int32) (0 : Int32) (1 : Int32)).bind fun h76 =>
  (f_X9_acts D h40 a0 h76 (0 : Int32) (0 : Int32) (1 : Int32)).bind fun h78 =>
  (f_X9_leads D h40 a0 h78 (1 : Int32) (1 : Int32) (0 : Int32)).bind fun h80 =>
  (f_X9_guards D h40 a0 h80 (0 : Int32) (4 : Int32) (2 : Int32)).bind fun h82 =>
  (f_X9_acts D h40 a0 h82 (1 : Int32) (1 : Int32) (1 : Int32)).bind fun h84 =>
  (f_X9_leads D h40 a0 h84 (2 : Int32) (1 : Int32) (0 : Int32)).bind fun h86 =>
  (f_X9_acts D h40 a0 h86 (0 : Int32) (2 : Int32) (0 : Int32)).bind fun h88 =>
  (f_X9_leads D h40 a0 h88 (0 : Int32) (2 : Int32) (0 : Int32)).bind fun h90 =>
  (f_X9_acts D h40 a0 h90 (0 : Int32) (1 : Int32) (1 : Int32)).bind fun h92 =>
  gx_b2 (f_X9_keeps D h40 a0 h92 (-1 : Int32) (0 : Int32) (1 : Int32) (5 : Int32)) fun x94 h95 =>
  gx_b2 (f_X9_keeps D h40 a0 h95 (0 : Int32) (1 : Int32) (4 : Int32) (1 : Int32)) fun x97 h98 =>
  (f_X9_starts D h40 a0 h98).bind fun h100 =>
  some ((mh h40 a0 h100))
theorem w_X9_init_b {l : Launch} (hlt : l.stackTraces = false) {p : Program} {e : Env} {R : Room} {s : State} {m : MethodId} {args : Array Value} {below : List Frame} {meth : Method} {c : Code} {D : gx_D} {h0 : HX} {hz : HX} (C : gx_Ctx p R s m args meth c "ContractMachineModel" cX9_init 1 none 3 65 D h0 hz) (hx : meth.name = "<init>") {a0 : Nat} (hf : f_X9_init D h0 a0 = some hz) : gx_G p l e R s m args below meth c D h0 hz 1 (gx_MQ below args s D h0 hz none) 0 [(0, (va_rf (some a0)))] [] h0 := by
  unfold f_X9_init at hf
  refine gx_aload_n C dX9_init_0 0 rfl ?_
  refine gx_objInit (st := []) C q2601 q188 q189 (by decide) (by decide) dX9_init_1 ?_
  refine gx_aload_n C dX9_init_4 0 rfl ?_
  refine gx_sipush (v := 504) C dX9_init_5 rfl ?_
  replace hf := gx_b2s hf
  obtain ⟨a1, h2, g131, hf⟩ := hf
  refine gx_newarr_int C g131 q640 dX9_init_8 ?_
  replace hf := gx_bs hf
  obtain ⟨h3, g130, hf⟩ := hf
  refine gx_putvF C hx g130 gz_494 gz_59 (gx_narrow_r rfl _).1 (gx_narrow_r rfl _).2 q2634 dX9_init_10 ?_
  refine gx_aload_n C dX9_init_13 0 rfl ?_
  refine gx_sipush (v := 504) C dX9_init_14 rfl ?_
  replace hf := gx_b2s hf
  obtain ⟨a4, h5, g129, hf⟩ := hf
  refine gx_newarr_int C g129 q640 dX9_init_17 ?_
  replace hf := gx_bs hf
  obtain ⟨h6, g128, hf⟩ := hf
  refine gx_putvF C hx g128 gz_498 gz_59 (gx_narrow_r rfl _).1 (gx_narrow_r rfl _).2 q2635 dX9_init_19 ?_
  refine gx_aload_n C dX9_init_22 0 rfl ?_
  refine gx_sipush (v := 504) C dX9_init_23 rfl ?_
  replace hf := gx_b2s hf
  obtain ⟨a7, h8, g127, hf⟩ := hf
  refine gx_newarr_int C g127 q640 dX9_init_26 ?_
  replace hf := gx_bs hf
  obtain ⟨h9, g126, hf⟩ := hf
  refine gx_putvF C hx g126 gz_499 gz_59 (gx_narrow_r rfl _).1 (gx_narrow_r rfl _).2 q2636 dX9_init_28 ?_
  refine gx_aload_n C dX9_init_31 0 rfl ?_
  refine gx_sipush (v := 4032) C dX9_init_32 rfl ?_
  replace hf := gx_b2s hf
  obtain ⟨a10, h11, g125, hf⟩ := hf
  refine gx_newarr_int C g125 q640 dX9_init_35 ?_
  replace hf := gx_bs hf
  obtain ⟨h12, g124, hf⟩ := hf
  refine gx_putvF C hx g124 gz_500 gz_59 (gx_narrow_r rfl _).1 (gx_narrow_r rfl _).2 q2637 dX9_init_37 ?_
  refine gx_aload_n C dX9_init_40 0 rfl ?_
  refine gx_sipush (v := 10000) C dX9_init_41 rfl ?_
  replace hf := gx_b2s hf
  obtain ⟨a13, h14, g123, hf⟩ := hf
  refine gx_newarr_int C g123 q640 dX9_init_44 ?_
  replace hf := gx_bs hf
  obtain ⟨h15, g122, hf⟩ := hf
  refine gx_putvF C hx g122 gz_501 gz_59 (gx_narrow_r rfl _).1 (gx_narrow_r rfl _).2 q2643 dX9_init_46 ?_
  refine gx_aload_n C dX9_init_49 0 rfl ?_
  refine gx_sipush (v := 10000) C dX9_init_50 rfl ?_
  replace hf := gx_b2s hf
  obtain ⟨a16, h17, g121, hf⟩ := hf
  refine gx_newarr_int C g121 q640 dX9_init_53 ?_
  replace hf := gx_bs hf
  obtain ⟨h18, g120, hf⟩ := hf
  refine gx_putvF C hx g120 gz_502 gz_59 (gx_narrow_r rfl _).1 (gx_narrow_r rfl _).2 q2644 dX9_init_55 ?_
  refine gx_aload_n C dX9_init_58 0 rfl ?_
  refine gx_sipush (v := 700) C dX9_init_59 rfl ?_
  replace hf := gx_b2s hf
  obtain ⟨a19, h20, g119, hf⟩ := hf
  refine gx_newarr_int C g119 q640 dX9_init_62 ?_
  replace hf := gx_bs hf
  obtain ⟨h21, g118, hf⟩ := hf
  refine gx_putvF C hx g118 gz_503 gz_59 (gx_narrow_r rfl _).1 (gx_narrow_r rfl _).2 q2646 dX9_init_64 ?_
  refine gx_aload_n C dX9_init_67 0 rfl ?_
  refine gx_iconst (v := -1) C dX9_init_68 rfl ?_
  replace hf := gx_bs hf
  obtain ⟨h22, g117, hf⟩ := hf
  refine gx_putv C g117 gz_504 gz_1 rfl rfl q2649 dX9_init_69 ?_
  refine gx_aload_n C dX9_init_72 0 rfl ?_
  refine gx_bipush (v := 9) C dX9_init_73 rfl ?_
  replace hf := gx_b2s hf
  obtain ⟨a23, h24, g116, hf⟩ := hf
  refine gx_newarr_int C g116 q640 dX9_init_75 ?_
  replace hf := gx_bs hf
  obtain ⟨h25, g115, hf⟩ := hf
  refine gx_putvF C hx g115 gz_505 gz_59 (gx_narrow_r rfl _).1 (gx_narrow_r rfl _).2 q2657 dX9_init_77 ?_
  refine gx_aload_n C dX9_init_80 0 rfl ?_
  refine gx_bipush (v := 31) C dX9_init_81 rfl ?_
  replace hf := gx_b2s hf
  obtain ⟨a26, h27, g114, hf⟩ := hf
  refine gx_newarr_int C g114 q640 dX9_init_83 ?_
  replace hf := gx_bs hf
  obtain ⟨h28, g113, hf⟩ := hf
  refine gx_putvF C hx g113 gz_506 gz_59 (gx_narrow_r rfl _).1 (gx_narrow_r rfl _).2 q2658 dX9_init_85 ?_
  refine gx_aload_n C dX9_init_88 0 rfl ?_
  refine gx_bipush (v := 62) C dX9_init_89 rfl ?_
  replace hf := gx_b2s hf
  obtain ⟨a29, h30, g112, hf⟩ := hf
  refine gx_newarr_int C g112 q640 dX9_init_91 ?_
  replace hf := gx_bs hf
  obtain ⟨h31, g111, hf⟩ := hf
  refine gx_putvF C hx g111 gz_507 gz_59 (gx_narrow_r rfl _).1 (gx_narrow_r rfl _).2 q2659 dX9_init_93 ?_
  refine gx_aload_n C dX9_init_96 0 rfl ?_
  refine gx_sipush (v := 10000) C dX9_init_97 rfl ?_
  replace hf := gx_b2s hf
  obtain ⟨a32, h33, g110, hf⟩ := hf
  refine gx_newarr_boolean C g110 q2728 dX9_init_100 ?_
  replace hf := gx_bs hf
  obtain ⟨h34, g109, hf⟩ := hf
  refine gx_putvF C hx g109 gz_508 gz_509 (gx_narrow_r rfl _).1 (gx_narrow_r rfl _).2 q2661 dX9_init_102 ?_
  refine gx_aload_n C dX9_init_105 0 rfl ?_
  refine gx_sipush (v := 10000) C dX9_init_106 rfl ?_
  replace hf := gx_b2s hf
  obtain ⟨a35, h36, g108, hf⟩ := hf
  refine gx_newarr_int C g108 q640 dX9_init_109 ?_
  replace hf := gx_bs hf
  obtain ⟨h37, g107, hf⟩ := hf
  refine gx_putvF C hx g107 gz_510 gz_59 (gx_narrow_r rfl _).1 (gx_narrow_r rfl _).2 q2662 dX9_init_111 ?_
  refine gx_aload_n C dX9_init_114 0 rfl ?_
  refine gx_bipush (v := 60) C dX9_init_115 rfl ?_
  replace hf := gx_b2s hf
  obtain ⟨a38, h39, g106, hf⟩ := hf
  refine gx_newarr_int C g106 q640 dX9_init_117 ?_
  replace hf := gx_bs hf
  obtain ⟨h40, g105, hf⟩ := hf
  refine gx_putvF C hx g105 gz_511 gz_59 (gx_narrow_r rfl _).1 (gx_narrow_r rfl _).2 q2663 dX9_init_119 ?_
  refine gx_aload_n C dX9_init_122 0 rfl ?_
  replace hf := gx_bs hf
  obtain ⟨s41, g42, hf⟩ := hf
  refine gx_heq (mh_of_ok g42) ?_
  replace hf := gx_bs hf
  obtain ⟨h44, g43, hf⟩ := hf
  refine gx_callV (st := []) C (w_X9_begins hlt g43) mh_is gz_497 rfl (lw_V q2602 q2604 qs51 q151 q2605) gz_512 (by decide) rfl rfl (gx_catn (Nat.le_of_ble_eq_true rfl)) dX9_init_123 ?_
  refine gx_aload_n C dX9_init_126 0 rfl ?_
  refine gx_sipush (v := 357) C dX9_init_127 rfl ?_
  refine gx_bipush (v := 105) C dX9_init_130 rfl ?_
  refine gx_bipush (v := 100) C dX9_init_132 rfl ?_
  refine gx_bipush (v := 108) C dX9_init_134 rfl ?_
  refine gx_bipush (v := 101) C dX9_init_136 rfl ?_
  refine gx_iconst (v := 0) C dX9_init_138 rfl ?_
  replace hf := gx_bs hf
  obtain ⟨h46, g45, hf⟩ := hf
  refine gx_callV (st := []) C (w_X9_names hlt g45) mh_is gz_497 rfl (lw_V q2606 q2608 qs52 q151 q2609) gz_513 (by decide) rfl rfl (gx_catn (Nat.le_of_ble_eq_true rfl)) dX9_init_139 ?_
  refine gx_aload_n C dX9_init_142 0 rfl ?_
  refine gx_sipush (v := 364) C dX9_init_143 rfl ?_
  refine gx_bipush (v := 98) C dX9_init_146 rfl ?_
  refine gx_bipush (v := 117) C dX9_init_148 rfl ?_
  refine gx_bipush (v := 115) C dX9_init_150 rfl ?_
  refine gx_bipush (v := 121) C dX9_init_152 rfl ?_
  refine gx_iconst (v := 0) C dX9_init_154 rfl ?_
  replace hf := gx_bs hf
  obtain ⟨h48, g47, hf⟩ := hf
  refine gx_callV (st := []) C (w_X9_names hlt g47) mh_is gz_497 rfl (lw_V q2606 q2608 qs52 q151 q2609) gz_513 (by decide) rfl rfl (gx_catn (Nat.le_of_ble_eq_true rfl)) dX9_init_155 ?_
  refine gx_aload_n C dX9_init_158 0 rfl ?_
  refine gx_sipush (v := 371) C dX9_init_159 rfl ?_
  refine gx_bipush (v := 102) C dX9_init_162 rfl ?_
  refine gx_bipush (v := 117) C dX9_init_164 rfl ?_
  refine gx_bipush (v := 108) C dX9_init_166 rfl ?_
  refine gx_bipush (v := 108) C dX9_init_168 rfl ?_
  refine gx_iconst (v := 0) C dX9_init_170 rfl ?_
  replace hf := gx_bs hf
  obtain ⟨h50, g49, hf⟩ := hf
  refine gx_callV (st := []) C (w_X9_names hlt g49) mh_is gz_497 rfl (lw_V q2606 q2608 qs52 q151 q2609) gz_513 (by decide) rfl rfl (gx_catn (Nat.le_of_ble_eq_true rfl)) dX9_init_171 ?_
  refine gx_aload_n C dX9_init_174 0 rfl ?_
  refine gx_sipush (v := 427) C dX9_init_175 rfl ?_
  refine gx_bipush (v := 99) C dX9_init_178 rfl ?_
  refine gx_bipush (v := 111) C dX9_init_180 rfl ?_
  refine gx_bipush (v := 105) C dX9_init_182 rfl ?_
  refine gx_bipush (v := 110) C dX9_init_184 rfl ?_
  refine gx_iconst (v := 0) C dX9_init_186 rfl ?_
  replace hf := gx_bs hf
  obtain ⟨h52, g51, hf⟩ := hf
  refine gx_callV (st := []) C (w_X9_names hlt g51) mh_is gz_497 rfl (lw_V q2606 q2608 qs52 q151 q2609) gz_513 (by decide) rfl rfl (gx_catn (Nat.le_of_ble_eq_true rfl)) dX9_init_187 ?_
  refine gx_aload_n C dX9_init_190 0 rfl ?_
  refine gx_sipush (v := 434) C dX9_init_191 rfl ?_
  refine gx_bipush (v := 112) C dX9_init_194 rfl ?_
  refine gx_bipush (v := 117) C dX9_init_196 rfl ?_
  refine gx_bipush (v := 115) C dX9_init_198 rfl ?_
  refine gx_bipush (v := 104) C dX9_init_200 rfl ?_
  refine gx_iconst (v := 0) C dX9_init_202 rfl ?_
  replace hf := gx_bs hf
  obtain ⟨h54, g53, hf⟩ := hf
  refine gx_callV (st := []) C (w_X9_names hlt g53) mh_is gz_497 rfl (lw_V q2606 q2608 qs52 q151 q2609) gz_513 (by decide) rfl rfl (gx_catn (Nat.le_of_ble_eq_true rfl)) dX9_init_203 ?_
  refine gx_aload_n C dX9_init_206 0 rfl ?_
  refine gx_sipush (v := 441) C dX9_init_207 rfl ?_
  refine gx_bipush (v := 116) C dX9_init_210 rfl ?_
  refine gx_bipush (v := 97) C dX9_init_212 rfl ?_
  refine gx_bipush (v := 107) C dX9_init_214 rfl ?_
  refine gx_bipush (v := 101) C dX9_init_216 rfl ?_
  refine gx_iconst (v := 0) C dX9_init_218 rfl ?_
  replace hf := gx_bs hf
  obtain ⟨h56, g55, hf⟩ := hf
  refine gx_callV (st := []) C (w_X9_names hlt g55) mh_is gz_497 rfl (lw_V q2606 q2608 qs52 q151 q2609) gz_513 (by decide) rfl rfl (gx_catn (Nat.le_of_ble_eq_true rfl)) dX9_init_219 ?_
  refine gx_aload_n C dX9_init_222 0 rfl ?_
  refine gx_sipush (v := 483) C dX9_init_223 rfl ?_
  refine gx_bipush (v := 99) C dX9_init_226 rfl ?_
  refine gx_bipush (v := 111) C dX9_init_228 rfl ?_
  refine gx_bipush (v := 105) C dX9_init_230 rfl ?_
  refine gx_bipush (v := 110) C dX9_init_232 rfl ?_
  refine gx_bipush (v := 115) C dX9_init_234 rfl ?_
  replace hf := gx_bs hf
  obtain ⟨h58, g57, hf⟩ := hf
  refine gx_callV (st := []) C (w_X9_names hlt g57) mh_is gz_497 rfl (lw_V q2606 q2608 qs52 q151 q2609) gz_513 (by decide) rfl rfl (gx_catn (Nat.le_of_ble_eq_true rfl)) dX9_init_236 ?_
  refine gx_aload_n C dX9_init_239 0 rfl ?_
  refine gx_sipush (v := 490) C dX9_init_240 rfl ?_
  refine gx_bipush (v := 99) C dX9_init_243 rfl ?_
  refine gx_bipush (v := 117) C dX9_init_245 rfl ?_
  refine gx_bipush (v := 112) C dX9_init_247 rfl ?_
  refine gx_bipush (v := 115) C dX9_init_249 rfl ?_
  refine gx_iconst (v := 0) C dX9_init_251 rfl ?_
  replace hf := gx_bs hf
  obtain ⟨h60, g59, hf⟩ := hf
  refine gx_callV (st := []) C (w_X9_names hlt g59) mh_is gz_497 rfl (lw_V q2606 q2608 qs52 q151 q2609) gz_513 (by decide) rfl rfl (gx_catn (Nat.le_of_ble_eq_true rfl)) dX9_init_252 ?_
  refine gx_aload_n C dX9_init_255 0 rfl ?_
  refine gx_gr C (mh_gr (k := 0) rfl) gz_494 q2634 dX9_init_256 ?_
  refine gx_iconst (v := 0) C dX9_init_259 rfl ?_
  refine gx_iconst (v := 3) C dX9_init_260 rfl ?_
  replace hf := gx_bs hf
  obtain ⟨h61, g104, hf⟩ := hf
  refine gx_iast C (mh_si g104) dX9_init_261 ?_
  refine gx_aload_n C dX9_init_262 0 rfl ?_
  refine gx_gr C (mh_gr (k := 0) rfl) gz_494 q2634 dX9_init_263 ?_
  refine gx_iconst (v := 1) C dX9_init_266 rfl ?_
  refine gx_iconst (v := 3) C dX9_init_267 rfl ?_
  replace hf := gx_bs hf
  obtain ⟨h62, g103, hf⟩ := hf
  refine gx_iast C (mh_si g103) dX9_init_268 ?_
  refine gx_aload_n C dX9_init_269 0 rfl ?_
  refine gx_gr C (mh_gr (k := 0) rfl) gz_494 q2634 dX9_init_270 ?_
  refine gx_iconst (v := 2) C dX9_init_273 rfl ?_
  refine gx_iconst (v := 2) C dX9_init_274 rfl ?_
  replace hf := gx_bs hf
  obtain ⟨h63, g102, hf⟩ := hf
  refine gx_iast C (mh_si g102) dX9_init_275 ?_
  refine gx_aload_n C dX9_init_276 0 rfl ?_
  refine gx_gr C (mh_gr (k := 0) rfl) gz_494 q2634 dX9_init_277 ?_
  refine gx_bipush (v := 10) C dX9_init_280 rfl ?_
  refine gx_iconst (v := 3) C dX9_init_282 rfl ?_
  replace hf := gx_bs hf
  obtain ⟨h64, g101, hf⟩ := hf
  refine gx_iast C (mh_si g101) dX9_init_283 ?_
  refine gx_aload_n C dX9_init_284 0 rfl ?_
  refine gx_iconst (v := 0) C dX9_init_285 rfl ?_
  refine gx_iconst (v := 0) C dX9_init_286 rfl ?_
  refine gx_iconst (v := 1) C dX9_init_287 rfl ?_
  replace hf := gx_bs hf
  obtain ⟨h66, g65, hf⟩ := hf
  refine gx_callV (st := []) C (w_X9_leads hlt g65) mh_is gz_497 rfl (lw_V q2610 q2612 qs53 q151 q2613) gz_514 (by decide) rfl rfl (gx_catn (Nat.le_of_ble_eq_true rfl)) dX9_init_288 ?_
  refine gx_aload_n C dX9_init_291 0 rfl ?_
  refine gx_iconst (v := 0) C dX9_init_292 rfl ?_
  refine gx_iconst (v := 0) C dX9_init_293 rfl ?_
  refine gx_iconst (v := 1) C dX9_init_294 rfl ?_
  replace hf := gx_bs hf
  obtain ⟨h68, g67, hf⟩ := hf
  refine gx_callV (st := []) C (w_X9_acts hlt g67) mh_is gz_497 rfl (lw_V q2614 q2616 qs54 q151 q2617) gz_515 (by decide) rfl rfl (gx_catn (Nat.le_of_ble_eq_true rfl)) dX9_init_295 ?_
  refine gx_aload_n C dX9_init_298 0 rfl ?_
  refine gx_iconst (v := 1) C dX9_init_299 rfl ?_
  refine gx_iconst (v := 0) C dX9_init_300 rfl ?_
  refine gx_iconst (v := 2) C dX9_init_301 rfl ?_
  replace hf := gx_bs hf
  obtain ⟨h70, g69, hf⟩ := hf
  refine gx_callV (st := []) C (w_X9_leads hlt g69) mh_is gz_497 rfl (lw_V q2610 q2612 qs53 q151 q2613) gz_514 (by decide) rfl rfl (gx_catn (Nat.le_of_ble_eq_true rfl)) dX9_init_302 ?_
  refine gx_aload_n C dX9_init_305 0 rfl ?_
  refine gx_iconst (v := 0) C dX9_init_306 rfl ?_
  refine gx_iconst (v := 5) C dX9_init_307 rfl ?_
  refine gx_iconst (v := 2) C dX9_init_308 rfl ?_
  replace hf := gx_bs hf
  obtain ⟨h72, g71, hf⟩ := hf
  refine gx_callV (st := []) C (w_X9_guards hlt g71) mh_is gz_497 rfl (lw_V q2618 q2620 qs55 q151 q2621) gz_516 (by decide) rfl rfl (gx_catn (Nat.le_of_ble_eq_true rfl)) dX9_init_309 ?_
  refine gx_aload_n C dX9_init_312 0 rfl ?_
  refine gx_iconst (v := 0) C dX9_init_313 rfl ?_
  refine gx_iconst (v := 0) C dX9_init_314 rfl ?_
  refine gx_iconst (v := 1) C dX9_init_315 rfl ?_
  replace hf := gx_bs hf
  obtain ⟨h74, g73, hf⟩ := hf
  refine gx_callV (st := []) C (w_X9_acts hlt g73) mh_is gz_497 rfl (lw_V q2614 q2616 qs54 q151 q2617) gz_515 (by decide) rfl rfl (gx_catn (Nat.le_of_ble_eq_true rfl)) dX9_init_316 ?_
  refine gx_aload_n C dX9_init_319 0 rfl ?_
  refine gx_iconst (v := 1) C dX9_init_320 rfl ?_
  refine gx_iconst (v := 0) C dX9_init_321 rfl ?_
  refine gx_iconst (v := 1) C dX9_init_322 rfl ?_
  replace hf := gx_bs hf
  obtain ⟨h76, g75, hf⟩ := hf
  refine gx_callV (st := []) C (w_X9_leads hlt g75) mh_is gz_497 rfl (lw_V q2610 q2612 qs53 q151 q2613) gz_514 (by decide) rfl rfl (gx_catn (Nat.le_of_ble_eq_true rfl)) dX9_init_323 ?_
  refine gx_aload_n C dX9_init_326 0 rfl ?_
  refine gx_iconst (v := 0) C dX9_init_327 rfl ?_
  refine gx_iconst (v := 0) C dX9_init_328 rfl ?_
  refine gx_iconst (v := 1) C dX9_init_329 rfl ?_
  replace hf := gx_bs hf
  obtain ⟨h78, g77, hf⟩ := hf
  refine gx_callV (st := []) C (w_X9_acts hlt g77) mh_is gz_497 rfl (lw_V q2614 q2616 qs54 q151 q2617) gz_515 (by decide) rfl rfl (gx_catn (Nat.le_of_ble_eq_true rfl)) dX9_init_330 ?_
  refine gx_aload_n C dX9_init_333 0 rfl ?_
  refine gx_iconst (v := 1) C dX9_init_334 rfl ?_
  refine gx_iconst (v := 1) C dX9_init_335 rfl ?_
  refine gx_iconst (v := 0) C dX9_init_336 rfl ?_
  replace hf := gx_bs hf
  obtain ⟨h80, g79, hf⟩ := hf
  refine gx_callV (st := []) C (w_X9_leads hlt g79) mh_is gz_497 rfl (lw_V q2610 q2612 qs53 q151 q2613) gz_514 (by decide) rfl rfl (gx_catn (Nat.le_of_ble_eq_true rfl)) dX9_init_337 ?_
  refine gx_aload_n C dX9_init_340 0 rfl ?_
  refine gx_iconst (v := 0) C dX9_init_341 rfl ?_
  refine gx_iconst (v := 4) C dX9_init_342 rfl ?_
  refine gx_iconst (v := 2) C dX9_init_343 rfl ?_
  replace hf := gx_bs hf
  obtain ⟨h82, g81, hf⟩ := hf
  refine gx_callV (st := []) C (w_X9_guards hlt g81) mh_is gz_497 rfl (lw_V q2618 q2620 qs55 q151 q2621) gz_516 (by decide) rfl rfl (gx_catn (Nat.le_of_ble_eq_true rfl)) dX9_init_344 ?_
  refine gx_aload_n C dX9_init_347 0 rfl ?_
  refine gx_iconst (v := 1) C dX9_init_348 rfl ?_
  refine gx_iconst (v := 1) C dX9_init_349 rfl ?_
  refine gx_iconst (v := 1) C dX9_init_350 rfl ?_
  replace hf := gx_bs hf
  obtain ⟨h84, g83, hf⟩ := hf
  refine gx_callV (st := []) C (w_X9_acts hlt g83) mh_is gz_497 rfl (lw_V q2614 q2616 qs54 q151 q2617) gz_515 (by decide) rfl rfl (gx_catn (Nat.le_of_ble_eq_true rfl)) dX9_init_351 ?_
  refine gx_aload_n C dX9_init_354 0 rfl ?_
  refine gx_iconst (v := 2) C dX9_init_355 rfl ?_
  refine gx_iconst (v := 1) C dX9_init_356 rfl ?_
  refine gx_iconst (v := 0) C dX9_init_357 rfl ?_
  replace hf := gx_bs hf
  obtain ⟨h86, g85, hf⟩ := hf
  refine gx_callV (st := []) C (w_X9_leads hlt g85) mh_is gz_497 rfl (lw_V q2610 q2612 qs53 q151 q2613) gz_514 (by decide) rfl rfl (gx_catn (Nat.le_of_ble_eq_true rfl)) dX9_init_358 ?_
  refine gx_aload_n C dX9_init_361 0 rfl ?_
  refine gx_iconst (v := 0) C dX9_init_362 rfl ?_
  refine gx_iconst (v := 2) C dX9_init_363 rfl ?_
  refine gx_iconst (v := 0) C dX9_init_364 rfl ?_
  replace hf := gx_bs hf
  obtain ⟨h88, g87, hf⟩ := hf
  refine gx_callV (st := []) C (w_X9_acts hlt g87) mh_is gz_497 rfl (lw_V q2614 q2616 qs54 q151 q2617) gz_515 (by decide) rfl rfl (gx_catn (Nat.le_of_ble_eq_true rfl)) dX9_init_365 ?_
  refine gx_aload_n C dX9_init_368 0 rfl ?_
  refine gx_iconst (v := 0) C dX9_init_369 rfl ?_
  refine gx_iconst (v := 2) C dX9_init_370 rfl ?_
  refine gx_iconst (v := 0) C dX9_init_371 rfl ?_
  replace hf := gx_bs hf
  obtain ⟨h90, g89, hf⟩ := hf
  refine gx_callV (st := []) C (w_X9_leads hlt g89) mh_is gz_497 rfl (lw_V q2610 q2612 qs53 q151 q2613) gz_514 (by decide) rfl rfl (gx_catn (Nat.le_of_ble_eq_true rfl)) dX9_init_372 ?_
  refine gx_aload_n C dX9_init_375 0 rfl ?_
  refine gx_iconst (v := 0) C dX9_init_376 rfl ?_
  refine gx_iconst (v := 1) C dX9_init_377 rfl ?_
  refine gx_iconst (v := 1) C dX9_init_378 rfl ?_
  replace hf := gx_bs hf
  obtain ⟨h92, g91, hf⟩ := hf
  refine gx_callV (st := []) C (w_X9_acts hlt g91) mh_is gz_497 rfl (lw_V q2614 q2616 qs54 q151 q2617) gz_515 (by decide) rfl rfl (gx_catn (Nat.le_of_ble_eq_true rfl)) dX9_init_379 ?_
  refine gx_aload_n C dX9_init_382 0 rfl ?_
  refine gx_iconst (v := -1) C dX9_init_383 rfl ?_
  refine gx_iconst (v := 0) C dX9_init_384 rfl ?_
  refine gx_iconst (v := 1) C dX9_init_385 rfl ?_
  refine gx_iconst (v := 5) C dX9_init_386 rfl ?_
  replace hf := gx_b2s hf
  obtain ⟨x94, h95, g93, hf⟩ := hf
  refine gx_callV (st := []) C (w_X9_keeps hlt g93) mh_is gz_497 rfl (lw_V q2622 q2624 qs56 q151 q2625) gz_517 (by decide) rfl rfl (gx_catn (Nat.le_of_ble_eq_true rfl)) dX9_init_387 ?_
  refine gx_pop C dX9_init_390 rfl ?_
  refine gx_aload_n C dX9_init_391 0 rfl ?_
  refine gx_iconst (v := 0) C dX9_init_392 rfl ?_
  refine gx_iconst (v := 1) C dX9_init_393 rfl ?_
  refine gx_iconst (v := 4) C dX9_init_394 rfl ?_
  refine gx_iconst (v := 1) C dX9_init_395 rfl ?_
  replace hf := gx_b2s hf
  obtain ⟨x97, h98, g96, hf⟩ := hf
  refine gx_callV (st := []) C (w_X9_keeps hlt g96) mh_is gz_497 rfl (lw_V q2622 q2624 qs56 q151 q2625) gz_517 (by decide) rfl rfl (gx_catn (Nat.le_of_ble_eq_true rfl)) dX9_init_396 ?_
  refine gx_pop C dX9_init_399 rfl ?_
  refine gx_aload_n C dX9_init_400 0 rfl ?_
  replace hf := gx_bs hf
  obtain ⟨h100, g99, hf⟩ := hf
  refine gx_callV (st := []) C (w_X9_starts hlt g99) mh_is gz_497 rfl (lw_V q2626 q2628 qs57 q151 q2629) gz_518 (by decide) rfl rfl (gx_catn (Nat.le_of_ble_eq_true rfl)) dX9_init_401 ?_
  obtain rfl := Option.some.inj hf
  exact gx_vret C dX9_init_404
theorem le_X9_init {D : gx_D} {hz : HX} {h : HX} {a0 : Nat} (hf : f_X9_init D h a0 = some hz) : gx_le h hz := by
  unfold f_X9_init at hf
  replace hf := gx_b2s hf
  obtain ⟨a1, h2, g131, hf⟩ := hf
  refine (hx_le_newa g131).tr ?_
  replace hf := gx_bs hf
  obtain ⟨h3, g130, hf⟩ := hf
  refine (hx_le_pv g130).tr ?_
  replace hf := gx_b2s hf
  obtain ⟨a4, h5, g129, hf⟩ := hf
  refine (hx_le_newa g129).tr ?_
  replace hf := gx_bs hf
  obtain ⟨h6, g128, hf⟩ := hf
  refine (hx_le_pv g128).tr ?_
  replace hf := gx_b2s hf
  obtain ⟨a7, h8, g127, hf⟩ := hf
  refine (hx_le_newa g127).tr ?_
  replace hf := gx_bs hf
  obtain ⟨h9, g126, hf⟩ := hf
  refine (hx_le_pv g126).tr ?_
  replace hf := gx_b2s hf
  obtain ⟨a10, h11, g125, hf⟩ := hf
  refine (hx_le_newa g125).tr ?_
  replace hf := gx_bs hf
  obtain ⟨h12, g124, hf⟩ := hf
  refine (hx_le_pv g124).tr ?_
  replace hf := gx_b2s hf
  obtain ⟨a13, h14, g123, hf⟩ := hf
  refine (hx_le_newa g123).tr ?_
  replace hf := gx_bs hf
  obtain ⟨h15, g122, hf⟩ := hf
  refine (hx_le_pv g122).tr ?_
  replace hf := gx_b2s hf
  obtain ⟨a16, h17, g121, hf⟩ := hf
  refine (hx_le_newa g121).tr ?_
  replace hf := gx_bs hf
  obtain ⟨h18, g120, hf⟩ := hf
  refine (hx_le_pv g120).tr ?_
  replace hf := gx_b2s hf
  obtain ⟨a19, h20, g119, hf⟩ := hf
  refine (hx_le_newa g119).tr ?_
  replace hf := gx_bs hf
  obtain ⟨h21, g118, hf⟩ := hf
  refine (hx_le_pv g118).tr ?_
  replace hf := gx_bs hf
  obtain ⟨h22, g117, hf⟩ := hf
  refine (hx_le_pv g117).tr ?_
  replace hf := gx_b2s hf
  obtain ⟨a23, h24, g116, hf⟩ := hf
  refine (hx_le_newa g116).tr ?_
  replace hf := gx_bs hf
  obtain ⟨h25, g115, hf⟩ := hf
  refine (hx_le_pv g115).tr ?_
  replace hf := gx_b2s hf
  obtain ⟨a26, h27, g114, hf⟩ := hf
  refine (hx_le_newa g114).tr ?_
  replace hf := gx_bs hf
  obtain ⟨h28, g113, hf⟩ := hf
  refine (hx_le_pv g113).tr ?_
  replace hf := gx_b2s hf
  obtain ⟨a29, h30, g112, hf⟩ := hf
  refine (hx_le_newa g112).tr ?_
  replace hf := gx_bs hf
  obtain ⟨h31, g111, hf⟩ := hf
  refine (hx_le_pv g111).tr ?_
  replace hf := gx_b2s hf
  obtain ⟨a32, h33, g110, hf⟩ := hf
  refine (hx_le_newa g110).tr ?_
  replace hf := gx_bs hf
  obtain ⟨h34, g109, hf⟩ := hf
  refine (hx_le_pv g109).tr ?_
  replace hf := gx_b2s hf
  obtain ⟨a35, h36, g108, hf⟩ := hf
  refine (hx_le_newa g108).tr ?_
  replace hf := gx_bs hf
  obtain ⟨h37, g107, hf⟩ := hf
  refine (hx_le_pv g107).tr ?_
  replace hf := gx_b2s hf
  obtain ⟨a38, h39, g106, hf⟩ := hf
  refine (hx_le_newa g106).tr ?_
  replace hf := gx_bs hf
  obtain ⟨h40, g105, hf⟩ := hf
  refine (hx_le_pv g105).tr ?_
  replace hf := gx_bs hf
  obtain ⟨s41, g42, hf⟩ := hf
  replace hf := gx_bs hf
  obtain ⟨h44, g43, hf⟩ := hf
  replace hf := gx_bs hf
  obtain ⟨h46, g45, hf⟩ := hf
  replace hf := gx_bs hf
  obtain ⟨h48, g47, hf⟩ := hf
  replace hf := gx_bs hf
  obtain ⟨h50, g49, hf⟩ := hf
  replace hf := gx_bs hf
  obtain ⟨h52, g51, hf⟩ := hf
  replace hf := gx_bs hf
  obtain ⟨h54, g53, hf⟩ := hf
  replace hf := gx_bs hf
  obtain ⟨h56, g55, hf⟩ := hf
  replace hf := gx_bs hf
  obtain ⟨h58, g57, hf⟩ := hf
  replace hf := gx_bs hf
  obtain ⟨h60, g59, hf⟩ := hf
  replace hf := gx_bs hf
  obtain ⟨h61, g104, hf⟩ := hf
  replace hf := gx_bs hf
  obtain ⟨h62, g103, hf⟩ := hf
  replace hf := gx_bs hf
  obtain ⟨h63, g102, hf⟩ := hf
  replace hf := gx_bs hf
  obtain ⟨h64, g101, hf⟩ := hf
  replace hf := gx_bs hf
  obtain ⟨h66, g65, hf⟩ := hf
  replace hf := gx_bs hf
  obtain ⟨h68, g67, hf⟩ := hf
  replace hf := gx_bs hf
  obtain ⟨h70, g69, hf⟩ := hf
  replace hf := gx_bs hf
  obtain ⟨h72, g71, hf⟩ := hf
  replace hf := gx_bs hf
  obtain ⟨h74, g73, hf⟩ := hf
  replace hf := gx_bs hf
  obtain ⟨h76, g75, hf⟩ := hf
  replace hf := gx_bs hf
  obtain ⟨h78, g77, hf⟩ := hf
  replace hf := gx_bs hf
  obtain ⟨h80, g79, hf⟩ := hf
  replace hf := gx_bs hf
  obtain ⟨h82, g81, hf⟩ := hf
  replace hf := gx_bs hf
  obtain ⟨h84, g83, hf⟩ := hf
  replace hf := gx_bs hf
  obtain ⟨h86, g85, hf⟩ := hf
  replace hf := gx_bs hf
  obtain ⟨h88, g87, hf⟩ := hf
  replace hf := gx_bs hf
  obtain ⟨h90, g89, hf⟩ := hf
  replace hf := gx_bs hf
  obtain ⟨h92, g91, hf⟩ := hf
  replace hf := gx_b2s hf
  obtain ⟨x94, h95, g93, hf⟩ := hf
  replace hf := gx_b2s hf
  obtain ⟨x97, h98, g96, hf⟩ := hf
  replace hf := gx_bs hf
  obtain ⟨h100, g99, hf⟩ := hf
  obtain rfl := Option.some.inj hf
  exact mh_le9 (mh_of_ok g42)
theorem w_X9_init {l : Launch} (hlt : l.stackTraces = false) {D : gx_D} {h : HX} {a0 : Nat} {hz : HX} (hf : f_X9_init D h a0 = some hz) : gx_Met l yX9_init cX9_init 1 none 3 65 D [(va_rf (some a0))] h none hz :=
  gx_ofG gz_495 (by simp only [gx_lsr, gx_lsi, gx_lsj, gx_ls0]; decide) (le_X9_init hf) (fun p e R s m args below meth c C hx => by
    simp only [gx_lar, gx_lai, gx_laj, gx_la0, Nat.reduceAdd]
    exact w_X9_init_b hlt C hx hf)
def f_X9_thrown (D : gx_D) (b : HX) (o : Nat) (h : MS) : Option Int32 :=
  some ((h.1 6))
theorem w_X9_thrown_b {l : Launch} (hlt : l.stackTraces = false) {p : Program} {e : Env} {R : Room} {s : State} {m : MethodId} {args : Array Value} {below : List Frame} {meth : Method} {c : Code} {D : gx_D} {b : HX} {o : Nat} {h0 : MS} {r : Int32} (C : gx_Ctx p R s m args meth c "ContractMachineModel" cX9_thrown 1 (some .int) 1 24 D (mh b o h0) (mh b o h0)) (hx : meth.name = "thrown") (hf : f_X9_thrown D b o h0 = some r) : gx_G p l e R s m args below meth c D (mh b o h0) (mh b o h0) 1 (gx_MQ below args s D (mh b o h0) (mh b o h0) (some (.int r))) 0 [(0, (va_rf (some o)))] [] (mh b o h0) := by
  unfold f_X9_thrown at hf
  refine gx_aload_n C dX9_thrown_0 0 rfl ?_
  refine gx_gi C (mh_gi (k := 6) rfl) gz_519 q2640 dX9_thrown_1 ?_
  obtain rfl := Option.some.inj hf
  exact gx_iret C dX9_thrown_4
theorem w_X9_thrown {l : Launch} (hlt : l.stackTraces = false) {D : gx_D} {b : HX} {o : Nat} {h : MS} {r : Int32} (hf : f_X9_thrown D b o h = some r) : gx_Met l yX9_thrown cX9_thrown 1 (some .int) 1 24 D [(va_rf (some o))] (mh b o h) (some (.int r)) (mh b o h) :=
  gx_ofG gz_495 (by simp only [gx_lsr, gx_lsi, gx_lsj, gx_ls0]; decide) gx_le.rf (fun p e R s m args below meth c C hx => by
    simp only [gx_lar, gx_lai, gx_laj, gx_la0, Nat.reduceAdd]
    exact w_X9_thrown_b hlt C hx hf)
def f_X9_appendWord_b3 (D : gx_D) (b : HX) (o : Nat) : Nat → MS → Int32 → Int32 → Option MS
  | 0, _, _, _ => none
  | n + 1, h, v1, v2 =>
  if v2 < 0 then
  some h
  else
  (ms_si h 6 (h.1 13) ((v1 >>> (v2 &&& 31)) &&& (255 : Int32))).bind fun h2 =>
  (ms_pf h2 13 ((h2.1 13) + (1 : Int32))).bind fun h3 =>
  (f_X9_appendWord_b3 D b o n) h3 v1 ((v2 + (-8 : Int32)))
theorem w_X9_appendWord_b3 {l : Launch} (hlt : l.stackTraces = false) {p : Program} {e : Env} {R : Room} {s : State} {m : MethodId} {args : Array Value} {below : List Frame} {meth : Method} {c : Code} {D : gx_D} {b : HX} {o : Nat} {h0 : MS} {hz : MS} (C : gx_Ctx p R s m args meth c "ContractMachineModel" cX9_appendWord 3 none 1 24 D (mh b o h0) (mh b o hz)) (hx : meth.name = "appendWord")  : ∀ (n : Nat) ⦃h : MS⦄ ⦃v1 : Int32⦄ ⦃v2 : Int32⦄, f_X9_appendWord_b3 D b o n h v1 v2 = some hz → gx_G p l e R s m args below meth c D (mh b o h0) (mh b o hz) 3 (gx_MQ below args s D (mh b o h0) (mh b o hz) none) 3 [(0, (va_rf (some o))), (1, (.int v1)), (2, (.int v2))] [] (mh b o h) := by
  intro n
  induction n with
  | zero => intro h v1 v2 hf; unfold f_X9_appendWord_b3 at hf; cases hf
  | succ n wk3 =>
    intro h v1 v2 hf
    unfold f_X9_appendWord_b3 at hf
    refine gx_iload_n C dX9_appendWord_3 2 rfl ?_
    replace hf := gx_ite hf
    rcases hf with ⟨c1, hf⟩ | ⟨c1, hf⟩
    · refine gx_if_lt_t (tgt := 39) C dX9_appendWord_4 rfl c1 ?_
      obtain rfl := Option.some.inj hf
      exact gx_vret C dX9_appendWord_39
    · refine gx_if_lt_f (tgt := 39) C dX9_appendWord_4 rfl c1 ?_
      refine gx_aload_n C dX9_appendWord_7 0 rfl ?_
      refine gx_gr C (mh_gr (k := 12) rfl) gz_503 q2646 dX9_appendWord_8 ?_
      refine gx_aload_n C dX9_appendWord_11 0 rfl ?_
      refine gx_gi C (mh_gi (k := 13) rfl) gz_520 q2647 dX9_appendWord_12 ?_
      refine gx_iload_n C dX9_appendWord_15 1 rfl ?_
      refine gx_iload_n C dX9_appendWord_16 2 rfl ?_
      refine gx_ishr C dX9_appendWord_17 ?_
      refine gx_sipush (v := 255) C dX9_appendWord_18 rfl ?_
      refine gx_iand C dX9_appendWord_21 ?_
      replace hf := gx_bs hf
      obtain ⟨h2, g5, hf⟩ := hf
      refine gx_iast C (mh_si g5) dX9_appendWord_22 ?_
      refine gx_aload_n C dX9_appendWord_23 0 rfl ?_
      refine gx_dup C dX9_appendWord_24 rfl ?_
      refine gx_gi C (mh_gi (k := 13) rfl) gz_520 q2647 dX9_appendWord_25 ?_
      refine gx_iconst (v := 1) C dX9_appendWord_28 rfl ?_
      refine gx_iadd C dX9_appendWord_29 ?_
      replace hf := gx_bs hf
      obtain ⟨h3, g4, hf⟩ := hf
      refine gx_putv C (mh_pg (by decide) (fun _ _ => mh_p13) g4) gz_520 gz_1 rfl rfl q2647 dX9_appendWord_30 ?_
      refine gx_inc (v := -8) C dX9_appendWord_33 2 rfl rfl (by decide) [0, 1] rfl (gx_okn rfl rfl (gx_okr rfl gx_catv_i gx_ok0)) ?_
      refine gx_goto (tgt := 3) C dX9_appendWord_36 rfl ?_
      refine gx_sub [1, 2, 0] rfl ?_
      exact wk3 hf
def f_X9_appendWord (D : gx_D) (b : HX) (o : Nat) (h : MS) (p1 : Int32) : Option MS :=
  f_X9_appendWord_b3 D b o gx_fuel h p1 ((24 : Int32))
theorem w_X9_appendWord_b {l : Launch} (hlt : l.stackTraces = false) {p : Program} {e : Env} {R : Room} {s : State} {m : MethodId} {args : Array Value} {below : List Frame} {meth : Method} {c : Code} {D : gx_D} {b : HX} {o : Nat} {h0 : MS} {hz : MS} (C : gx_Ctx p R s m args meth c "ContractMachineModel" cX9_appendWord 3 none 1 24 D (mh b o h0) (mh b o hz)) (hx : meth.name = "appendWord") {p1 : Int32} (hf : f_X9_appendWord D b o h0 p1 = some hz) : gx_G p l e R s m args below meth c D (mh b o h0) (mh b o hz) 3 (gx_MQ below args s D (mh b o h0) (mh b o hz) none) 0 [(0, (va_rf (some o))), (1, (.int p1))] [] (mh b o h0) := by
  unfold f_X9_appendWord at hf
  refine gx_bipush (v := 24) C dX9_appendWord_0 rfl ?_
  refine gx_istn C dX9_appendWord_2 2 rfl (by decide) [0, 1]  rfl (gx_okn rfl rfl (gx_okr rfl gx_catv_i gx_ok0)) ?_
  refine gx_sub [1, 2, 0] rfl ?_
  exact w_X9_appendWord_b3 hlt C hx gx_fuel hf
theorem w_X9_appendWord {l : Launch} (hlt : l.stackTraces = false) {D : gx_D} {b : HX} {o : Nat} {h : MS} {p1 : Int32} {hz : MS} (hf : f_X9_appendWord D b o h p1 = some hz) : gx_Met l yX9_appendWord cX9_appendWord 3 none 1 24 D [(va_rf (some o)), (.int p1)] (mh b o h) none (mh b o hz) :=
  gx_ofG gz_495 (by simp only [gx_lsr, gx_lsi, gx_lsj, gx_ls0]; decide) mh_le (fun p e R s m args below meth c C hx => by
    simp only [gx_lar, gx_lai, gx_laj, gx_la0, Nat.reduceAdd]
    exact w_X9_appendWord_b hlt C hx hf)
def f_X9_appendInput (D : gx_D) (b : HX) (o : Nat) (h : MS) (p1 : Int32) (p2 : Int32) (p3 : Int32) (p4 : Int32) (p5 : Int32) : Option ((Int32) × MS) :=
  (ms_pf h 6 (0 : Int32)).bind fun h1 =>
  if ((h1.1 13) + (20 : Int32)) ≤ (700 : Int32) then
  (f_X9_appendWord D b o h1 p1).bind fun h4 =>
  (f_X9_appendWord D b o h4 p2).bind fun h6 =>
  (f_X9_appendWord D b o h6 p3).bind fun h8 =>
  (f_X9_appendWord D b o h8 p4).bind fun h10 =>
  (f_X9_appendWord D b o h10 p5).bind fun h12 =>
  some ((h12.1 13), h12)
  else
  some ((-1 : Int32), h1)
theorem w_X9_appendInput_b {l : Launch} (hlt : l.stackTraces = false) {p : Program} {e : Env} {R : Room} {s : State} {m : MethodId} {args : Array Value} {below : List Frame} {meth : Method} {c : Code} {D : gx_D} {b : HX} {o : Nat} {h0 : MS} {r : Int32} {hz : MS} (C : gx_Ctx p R s m args meth c "ContractMachineModel" cX9_appendInput 6 (some .int) 2 46 D (mh b o h0) (mh b o hz)) (hx : meth.name = "appendInput") {p1 : Int32} {p2 : Int32} {p3 : Int32} {p4 : Int32} {p5 : Int32} (hf : f_X9_appendInput D b o h0 p1 p2 p3 p4 p5 = some (r, hz)) : gx_G p l e R s m args below meth c D (mh b o h0) (mh b o hz) 6 (gx_MQ below args s D (mh b o h0) (mh b o hz) (some (.int r))) 0 [(0, (va_rf (some o))), (1, (.int p1)), (2, (.int p2)), (3, (.int p3)), (4, (.int p4)), (5, (.int p5))] [] (mh b o h0) := by
  unfold f_X9_appendInput at hf
  refine gx_aload_n C dX9_appendInput_0 0 rfl ?_
  refine gx_iconst (v := 0) C dX9_appendInput_1 rfl ?_
  replace hf := gx_bs hf
  obtain ⟨h1, g13, hf⟩ := hf
  refine gx_putv C (mh_pg (by decide) (fun _ _ => mh_p6) g13) gz_519 gz_1 rfl rfl q2640 dX9_appendInput_2 ?_
  refine gx_aload_n C dX9_appendInput_5 0 rfl ?_
  refine gx_gi C (mh_gi (k := 13) rfl) gz_520 q2647 dX9_appendInput_6 ?_
  refine gx_bipush (v := 20) C dX9_appendInput_9 rfl ?_
  refine gx_iadd C dX9_appendInput_11 ?_
  refine gx_sipush (v := 700) C dX9_appendInput_12 rfl ?_
  replace hf := gx_ite hf
  rcases hf with ⟨c2, hf⟩ | ⟨c2, hf⟩
  · refine gx_icmp_le_t (tgt := 20) C dX9_appendInput_15 rfl c2 ?_
    refine gx_aload_n C dX9_appendInput_20 0 rfl ?_
    refine gx_iload_n C dX9_appendInput_21 1 rfl ?_
    replace hf := gx_bs hf
    obtain ⟨h4, g3, hf⟩ := hf
    refine gx_callV (st := []) C (w_X9_appendWord hlt g3) mh_is gz_497 rfl (lw_V q2737 q2739 qs59 q151 q2740) gz_521 (by decide) rfl rfl (gx_catn (Nat.le_of_ble_eq_true rfl)) dX9_appendInput_22 ?_
    refine gx_aload_n C dX9_appendInput_25 0 rfl ?_
    refine gx_iload_n C dX9_appendInput_26 2 rfl ?_
    replace hf := gx_bs hf
    obtain ⟨h6, g5, hf⟩ := hf
    refine gx_callV (st := []) C (w_X9_appendWord hlt g5) mh_is gz_497 rfl (lw_V q2737 q2739 qs59 q151 q2740) gz_521 (by decide) rfl rfl (gx_catn (Nat.le_of_ble_eq_true rfl)) dX9_appendInput_27 ?_
    refine gx_aload_n C dX9_appendInput_30 0 rfl ?_
    refine gx_iload_n C dX9_appendInput_31 3 rfl ?_
    replace hf := gx_bs hf
    obtain ⟨h8, g7, hf⟩ := hf
    refine gx_callV (st := []) C (w_X9_appendWord hlt g7) mh_is gz_497 rfl (lw_V q2737 q2739 qs59 q151 q2740) gz_521 (by decide) rfl rfl (gx_catn (Nat.le_of_ble_eq_true rfl)) dX9_appendInput_32 ?_
    refine gx_aload_n C dX9_appendInput_35 0 rfl ?_
    refine gx_iload C dX9_appendInput_36 4 rfl ?_
    replace hf := gx_bs hf
    obtain ⟨h10, g9, hf⟩ := hf
    refine gx_callV (st := []) C (w_X9_appendWord hlt g9) mh_is gz_497 rfl (lw_V q2737 q2739 qs59 q151 q2740) gz_521 (by decide) rfl rfl (gx_catn (Nat.le_of_ble_eq_true rfl)) dX9_appendInput_38 ?_
    refine gx_aload_n C dX9_appendInput_41 0 rfl ?_
    refine gx_iload C dX9_appendInput_42 5 rfl ?_
    replace hf := gx_bs hf
    obtain ⟨h12, g11, hf⟩ := hf
    refine gx_callV (st := []) C (w_X9_appendWord hlt g11) mh_is gz_497 rfl (lw_V q2737 q2739 qs59 q151 q2740) gz_521 (by decide) rfl rfl (gx_catn (Nat.le_of_ble_eq_true rfl)) dX9_appendInput_44 ?_
    refine gx_aload_n C dX9_appendInput_47 0 rfl ?_
    refine gx_gi C (mh_gi (k := 13) rfl) gz_520 q2647 dX9_appendInput_48 ?_
    obtain ⟨rfl, rfl⟩ := Prod.mk.inj (Option.some.inj hf)
    exact gx_iret C dX9_appendInput_51
  · refine gx_icmp_le_f (tgt := 20) C dX9_appendInput_15 rfl c2 ?_
    refine gx_iconst (v := -1) C dX9_appendInput_18 rfl ?_
    obtain ⟨rfl, rfl⟩ := Prod.mk.inj (Option.some.inj hf)
    exact gx_iret C dX9_appendInput_19
theorem w_X9_appendInput {l : Launch} (hlt : l.stackTraces = false) {D : gx_D} {b : HX} {o : Nat} {h : MS} {p1 : Int32} {p2 : Int32} {p3 : Int32} {p4 : Int32} {p5 : Int32} {r : Int32} {hz : MS} (hf : f_X9_appendInput D b o h p1 p2 p3 p4 p5 = some (r, hz)) : gx_Met l yX9_appendInput cX9_appendInput 6 (some .int) 2 46 D [(va_rf (some o)), (.int p1), (.int p2), (.int p3), (.int p4), (.int p5)] (mh b o h) (some (.int r)) (mh b o hz) :=
  gx_ofG gz_495 (by simp only [gx_lsr, gx_lsi, gx_lsj, gx_ls0]; decide) mh_le (fun p e R s m args below meth c C hx => by
    simp only [gx_lar, gx_lai, gx_laj, gx_la0, Nat.reduceAdd]
    exact w_X9_appendInput_b hlt C hx hf)
def f_X9_inRange (D : gx_D) (b : HX) (o : Nat) (h : MS) (p0 : Int32) (p1 : Int32) (p2 : Int32) : Option Bool :=
  if p0 < p1 then
  some false
  else
  if p2 < p0 then
  some false
  else
  some true
theorem w_X9_inRange_b {l : Launch} (hlt : l.stackTraces = false) {p : Program} {e : Env} {R : Room} {s : State} {m : MethodId} {args : Array Value} {below : List Frame} {meth : Method} {c : Code} {D : gx_D} {b : HX} {o : Nat} {h0 : MS} {r : Bool} (C : gx_Ctx p R s m args meth c "ContractMachineModel" cX9_inRange 3 (some .boolean) 1 24 D (mh b o h0) (mh b o h0)) (hx : meth.name = "inRange") {p0 : Int32} {p1 : Int32} {p2 : Int32} (hf : f_X9_inRange D b o h0 p0 p1 p2 = some r) : gx_G p l e R s m args below meth c D (mh b o h0) (mh b o h0) 3 (gx_MQ below args s D (mh b o h0) (mh b o h0) (some (.int (b2i r)))) 0 [(0, (.int p0)), (1, (.int p1)), (2, (.int p2))] [] (mh b o h0) := by
  unfold f_X9_inRange at hf
  refine gx_iload_n C dX9_inRange_0 0 rfl ?_
  refine gx_iload_n C dX9_inRange_1 1 rfl ?_
  replace hf := gx_ite hf
  rcases hf with ⟨c1, hf⟩ | ⟨c1, hf⟩
  · refine gx_icmp_lt_t (tgt := 14) C dX9_inRange_2 rfl c1 ?_
    refine gx_iconst (v := 0) C dX9_inRange_14 rfl ?_
    obtain rfl := Option.some.inj hf
    exact gx_zret (b := false) C dX9_inRange_15
  · refine gx_icmp_lt_f (tgt := 14) C dX9_inRange_2 rfl c1 ?_
    refine gx_iload_n C dX9_inRange_5 0 rfl ?_
    refine gx_iload_n C dX9_inRange_6 2 rfl ?_
    replace hf := gx_ite hf
    rcases hf with ⟨c2, hf⟩ | ⟨c2, hf⟩
    · refine gx_icmp_gt_t (tgt := 14) C dX9_inRange_7 rfl c2 ?_
      refine gx_iconst (v := 0) C dX9_inRange_14 rfl ?_
      obtain rfl := Option.some.inj hf
      exact gx_zret (b := false) C dX9_inRange_15
    · refine gx_icmp_gt_f (tgt := 14) C dX9_inRange_7 rfl c2 ?_
      refine gx_iconst (v := 1) C dX9_inRange_10 rfl ?_
      refine gx_goto (tgt := 15) C dX9_inRange_11 rfl ?_
      obtain rfl := Option.some.inj hf
      exact gx_zret (b := true) C dX9_inRange_15
theorem w_X9_inRange {l : Launch} (hlt : l.stackTraces = false) {D : gx_D} {b : HX} {o : Nat} {h : MS} {p0 : Int32} {p1 : Int32} {p2 : Int32} {r : Bool} (hf : f_X9_inRange D b o h p0 p1 p2 = some r) : gx_Met l yX9_inRange cX9_inRange 3 (some .boolean) 1 24 D [(.int p0), (.int p1), (.int p2)] (mh b o h) (some (.int (b2i r))) (mh b o h) :=
  gx_ofG gz_495 (by simp only [gx_lsr, gx_lsi, gx_lsj, gx_ls0]; decide) gx_le.rf (fun p e R s m args below meth c C hx => by
    simp only [gx_lar, gx_lai, gx_laj, gx_la0, Nat.reduceAdd]
    exact w_X9_inRange_b hlt C hx hf)
def f_X9_truncateInput (D : gx_D) (b : HX) (o : Nat) (h : MS) (p1 : Int32) : Option ((Bool) × MS) :=
  (ms_pf h 6 (0 : Int32)).bind fun h1 =>
  (f_X9_inRange D b o h1 p1 (0 : Int32) (h1.1 13)).bind fun b3 =>
  if b3 = true then
  (ms_pf h1 13 p1).bind fun h5 =>
  some (true, h5)
  else
  some (false, h1)
theorem w_X9_truncateInput_b {l : Launch} (hlt : l.stackTraces = false) {p : Program} {e : Env} {R : Room} {s : State} {m : MethodId} {args : Array Value} {below : List Frame} {meth : Method} {c : Code} {D : gx_D} {b : HX} {o : Nat} {h0 : MS} {r : Bool} {hz : MS} (C : gx_Ctx p R s m args meth c "ContractMachineModel" cX9_truncateInput 2 (some .boolean) 2 46 D (mh b o h0) (mh b o hz)) (hx : meth.name = "truncateInput") {p1 : Int32} (hf : f_X9_truncateInput D b o h0 p1 = some (r, hz)) : gx_G p l e R s m args below meth c D (mh b o h0) (mh b o hz) 2 (gx_MQ below args s D (mh b o h0) (mh b o hz) (some (.int (b2i r)))) 0 [(0, (va_rf (some o))), (1, (.int p1))] [] (mh b o h0) := by
  unfold f_X9_truncateInput at hf
  refine gx_aload_n C dX9_truncateInput_0 0 rfl ?_
  refine gx_iconst (v := 0) C dX9_truncateInput_1 rfl ?_
  replace hf := gx_bs hf
  obtain ⟨h1, g7, hf⟩ := hf
  refine gx_putv C (mh_pg (by decide) (fun _ _ => mh_p6) g7) gz_519 gz_1 rfl rfl q2640 dX9_truncateInput_2 ?_
  refine gx_iload_n C dX9_truncateInput_5 1 rfl ?_
  refine gx_iconst (v := 0) C dX9_truncateInput_6 rfl ?_
  refine gx_aload_n C dX9_truncateInput_7 0 rfl ?_
  refine gx_gi C (mh_gi (k := 13) rfl) gz_520 q2647 dX9_truncateInput_8 ?_
  replace hf := gx_bs hf
  obtain ⟨b3, g2, hf⟩ := hf
  refine gx_callS (st := []) C (w_X9_inRange hlt g2) (lw_S q2745 q2746 q151 q2747) gz_522 (by decide) rfl rfl (gx_catn (Nat.le_of_ble_eq_true rfl)) dX9_truncateInput_11 ?_
  replace hf := gx_ite hf
  rcases hf with ⟨c4, hf⟩ | ⟨c4, hf⟩
  · refine gx_ifz_ne_t (tgt := 19) C dX9_truncateInput_14 rfl c4 ?_
    refine gx_aload_n C dX9_truncateInput_19 0 rfl ?_
    refine gx_iload_n C dX9_truncateInput_20 1 rfl ?_
    replace hf := gx_bs hf
    obtain ⟨h5, g6, hf⟩ := hf
    refine gx_putv C (mh_pg (by decide) (fun _ _ => mh_p13) g6) gz_520 gz_1 rfl rfl q2647 dX9_truncateInput_21 ?_
    refine gx_iconst (v := 1) C dX9_truncateInput_24 rfl ?_
    obtain ⟨rfl, rfl⟩ := Prod.mk.inj (Option.some.inj hf)
    exact gx_zret (b := true) C dX9_truncateInput_25
  · refine gx_ifz_ne_f (tgt := 19) C dX9_truncateInput_14 rfl c4 ?_
    refine gx_iconst (v := 0) C dX9_truncateInput_17 rfl ?_
    obtain ⟨rfl, rfl⟩ := Prod.mk.inj (Option.some.inj hf)
    exact gx_zret (b := false) C dX9_truncateInput_18
theorem w_X9_truncateInput {l : Launch} (hlt : l.stackTraces = false) {D : gx_D} {b : HX} {o : Nat} {h : MS} {p1 : Int32} {r : Bool} {hz : MS} (hf : f_X9_truncateInput D b o h p1 = some (r, hz)) : gx_Met l yX9_truncateInput cX9_truncateInput 2 (some .boolean) 2 46 D [(va_rf (some o)), (.int p1)] (mh b o h) (some (.int (b2i r))) (mh b o hz) :=
  gx_ofG gz_495 (by simp only [gx_lsr, gx_lsi, gx_lsj, gx_ls0]; decide) mh_le (fun p e R s m args below meth c C hx => by
    simp only [gx_lar, gx_lai, gx_laj, gx_la0, Nat.reduceAdd]
    exact w_X9_truncateInput_b hlt C hx hf)
def f_X9_copies_b3 (D : gx_D) (b : HX) (o : Nat) : Nat → MS → Nat → Int32 → Nat → Int32 → Int32 → Option MS
  | 0, _, _, _, _, _, _ => none
  | n + 1, h, v0, v1, v2, v3, v4 =>
  if (504 : Int32) ≤ v4 then
  some h
  else
  (ms_ai h v0 (v1 + v4)).bind fun x2 =>
  (ms_si h v2 (v3 + v4) x2).bind fun h3 =>
  (f_X9_copies_b3 D b o n) h3 v0 v1 v2 v3 ((v4 + (1 : Int32)))
theorem w_X9_copies_b3 {l : Launch} (hlt : l.stackTraces = false) {p : Program} {e : Env} {R : Room} {s : State} {m : MethodId} {args : Array Value} {below : List Frame} {meth : Method} {c : Code} {D : gx_D} {b : HX} {o : Nat} {h0 : MS} {hz : MS} (C : gx_Ctx p R s m args meth c "ContractMachineModel" cX9_copies 5 none 1 24 D (mh b o h0) (mh b o hz)) (hx : meth.name = "copies")  : ∀ (n : Nat) ⦃h : MS⦄ ⦃v0 : Nat⦄ ⦃v1 : Int32⦄ ⦃v2 : Nat⦄ ⦃v3 : Int32⦄ ⦃v4 : Int32⦄, f_X9_copies_b3 D b o n h v0 v1 v2 v3 v4 = some hz → gx_G p l e R s m args below meth c D (mh b o h0) (mh b o hz) 5 (gx_MQ below args s D (mh b o h0) (mh b o hz) none) 3 [(0, (va_rf (some (o + 1 + v0)))), (1, (.int v1)), (2, (va_rf (some (o + 1 + v2)))), (3, (.int v3)), (4, (.int v4))] [] (mh b o h) := by
  intro n
  induction n with
  | zero => intro h v0 v1 v2 v3 v4 hf; unfold f_X9_copies_b3 at hf; cases hf
  | succ n wk3 =>
    intro h v0 v1 v2 v3 v4 hf
    unfold f_X9_copies_b3 at hf
    refine gx_iload C dX9_copies_3 4 rfl ?_
    refine gx_sipush (v := 504) C dX9_copies_5 rfl ?_
    replace hf := gx_ite hf
    rcases hf with ⟨c1, hf⟩ | ⟨c1, hf⟩
    · refine gx_icmp_ge_t (tgt := 29) C dX9_copies_8 rfl c1 ?_
      obtain rfl := Option.some.inj hf
      exact gx_vret C dX9_copies_29
    · refine gx_icmp_ge_f (tgt := 29) C dX9_copies_8 rfl c1 ?_
      refine gx_aload_n C dX9_copies_11 2 rfl ?_
      refine gx_iload_n C dX9_copies_12 3 rfl ?_
      refine gx_iload C dX9_copies_13 4 rfl ?_
      refine gx_iadd C dX9_copies_15 ?_
      refine gx_aload_n C dX9_copies_16 0 rfl ?_
      refine gx_iload_n C dX9_copies_17 1 rfl ?_
      refine gx_iload C dX9_copies_18 4 rfl ?_
      refine gx_iadd C dX9_copies_20 ?_
      replace hf := gx_bs hf
      obtain ⟨x2, g5, hf⟩ := hf
      refine gx_iald C (mh_ai g5) dX9_copies_21 ?_
      replace hf := gx_bs hf
      obtain ⟨h3, g4, hf⟩ := hf
      refine gx_iast C (mh_si g4) dX9_copies_22 ?_
      refine gx_inc (v := 1) C dX9_copies_23 4 rfl rfl (by decide) [0, 1, 2, 3] rfl (gx_okn rfl rfl (gx_okn rfl rfl (gx_okn rfl rfl (gx_okr rfl gx_catv_i gx_ok0)))) ?_
      refine gx_goto (tgt := 3) C dX9_copies_26 rfl ?_
      refine gx_sub [1, 2, 3, 4, 0] rfl ?_
      exact wk3 hf
def f_X9_copies (D : gx_D) (b : HX) (o : Nat) (h : MS) (p0 : Nat) (p1 : Int32) (p2 : Nat) (p3 : Int32) : Option MS :=
  f_X9_copies_b3 D b o gx_fuel h p0 p1 p2 p3 ((0 : Int32))
theorem w_X9_copies_b {l : Launch} (hlt : l.stackTraces = false) {p : Program} {e : Env} {R : Room} {s : State} {m : MethodId} {args : Array Value} {below : List Frame} {meth : Method} {c : Code} {D : gx_D} {b : HX} {o : Nat} {h0 : MS} {hz : MS} (C : gx_Ctx p R s m args meth c "ContractMachineModel" cX9_copies 5 none 1 24 D (mh b o h0) (mh b o hz)) (hx : meth.name = "copies") {p0 : Nat} {p1 : Int32} {p2 : Nat} {p3 : Int32} (hf : f_X9_copies D b o h0 p0 p1 p2 p3 = some hz) : gx_G p l e R s m args below meth c D (mh b o h0) (mh b o hz) 5 (gx_MQ below args s D (mh b o h0) (mh b o hz) none) 0 [(0, (va_rf (some (o + 1 + p0)))), (1, (.int p1)), (2, (va_rf (some (o + 1 + p2)))), (3, (.int p3))] [] (mh b o h0) := by
  unfold f_X9_copies at hf
  refine gx_iconst (v := 0) C dX9_copies_0 rfl ?_
  refine gx_ist C dX9_copies_1 (by decide) [0, 1, 2, 3]  rfl (gx_okn rfl rfl (gx_okn rfl rfl (gx_okn rfl rfl (gx_okr rfl gx_catv_i gx_ok0)))) ?_
  refine gx_sub [1, 2, 3, 4, 0] rfl ?_
  exact w_X9_copies_b3 hlt C hx gx_fuel hf
theorem w_X9_copies {l : Launch} (hlt : l.stackTraces = false) {D : gx_D} {b : HX} {o : Nat} {h : MS} {p0 : Nat} {p1 : Int32} {p2 : Nat} {p3 : Int32} {hz : MS} (hf : f_X9_copies D b o h p0 p1 p2 p3 = some hz) : gx_Met l yX9_copies cX9_copies 5 none 1 24 D [(va_rf (some (o + 1 + p0))), (.int p1), (va_rf (some (o + 1 + p2))), (.int p3)] (mh b o h) none (mh b o hz) :=
  gx_ofG gz_495 (by simp only [gx_lsr, gx_lsi, gx_lsj, gx_ls0]; decide) mh_le (fun p e R s m args below meth c C hx => by
    simp only [gx_lar, gx_lai, gx_laj, gx_la0, Nat.reduceAdd]
    exact w_X9_copies_b hlt C hx hf)
def f_X9_endsText (D : gx_D) (b : HX) (o : Nat) (h : MS) : Option MS :=
  (ms_pf h 13 (0 : Int32)).bind fun h1 =>
  (ms_pf h1 14 (h1.1 16)).bind fun h2 =>
  (ms_pf h2 15 (h2.1 17)).bind fun h3 =>
  some h3
theorem w_X9_endsText_b {l : Launch} (hlt : l.stackTraces = false) {p : Program} {e : Env} {R : Room} {s : State} {m : MethodId} {args : Array Value} {below : List Frame} {meth : Method} {c : Code} {D : gx_D} {b : HX} {o : Nat} {h0 : MS} {hz : MS} (C : gx_Ctx p R s m args meth c "ContractMachineModel" cX9_endsText 1 none 1 24 D (mh b o h0) (mh b o hz)) (hx : meth.name = "endsText") (hf : f_X9_endsText D b o h0 = some hz) : gx_G p l e R s m args below meth c D (mh b o h0) (mh b o hz) 1 (gx_MQ below args s D (mh b o h0) (mh b o hz) none) 0 [(0, (va_rf (some o)))] [] (mh b o h0) := by
  unfold f_X9_endsText at hf
  refine gx_aload_n C dX9_endsText_0 0 rfl ?_
  refine gx_iconst (v := 0) C dX9_endsText_1 rfl ?_
  replace hf := gx_bs hf
  obtain ⟨h1, g6, hf⟩ := hf
  refine gx_putv C (mh_pg (by decide) (fun _ _ => mh_p13) g6) gz_520 gz_1 rfl rfl q2647 dX9_endsText_2 ?_
  refine gx_aload_n C dX9_endsText_5 0 rfl ?_
  refine gx_aload_n C dX9_endsText_6 0 rfl ?_
  refine gx_gi C (mh_gi (k := 16) rfl) gz_523 q2650 dX9_endsText_7 ?_
  replace hf := gx_bs hf
  obtain ⟨h2, g5, hf⟩ := hf
  refine gx_putv C (mh_pg (by decide) (fun _ _ => mh_p14) g5) gz_524 gz_1 rfl rfl q2648 dX9_endsText_10 ?_
  refine gx_aload_n C dX9_endsText_13 0 rfl ?_
  refine gx_aload_n C dX9_endsText_14 0 rfl ?_
  refine gx_gi C (mh_gi (k := 17) rfl) gz_525 q2651 dX9_endsText_15 ?_
  replace hf := gx_bs hf
  obtain ⟨h3, g4, hf⟩ := hf
  refine gx_putv C (mh_pg (by decide) (fun _ _ => mh_p15) g4) gz_504 gz_1 rfl rfl q2649 dX9_endsText_18 ?_
  obtain rfl := Option.some.inj hf
  exact gx_vret C dX9_endsText_21
theorem w_X9_endsText {l : Launch} (hlt : l.stackTraces = false) {D : gx_D} {b : HX} {o : Nat} {h : MS} {hz : MS} (hf : f_X9_endsText D b o h = some hz) : gx_Met l yX9_endsText cX9_endsText 1 none 1 24 D [(va_rf (some o))] (mh b o h) none (mh b o hz) :=
  gx_ofG gz_495 (by simp only [gx_lsr, gx_lsi, gx_lsj, gx_ls0]; decide) mh_le (fun p e R s m args below meth c C hx => by
    simp only [gx_lar, gx_lai, gx_laj, gx_la0, Nat.reduceAdd]
    exact w_X9_endsText_b hlt C hx hf)
def f_X9_failsAt (D : gx_D) (b : HX) (o : Nat) (h : MS) (p1 : Int32) : Option ((Bool) × MS) :=
  if (h.1 16) = 0 then
  (ms_pf h 16 p1).bind fun h2 =>
  (ms_pf h2 17 (h2.1 19)).bind fun h3 =>
  some (false, h3)
  else
  some (false, h)
theorem w_X9_failsAt_b {l : Launch} (hlt : l.stackTraces = false) {p : Program} {e : Env} {R : Room} {s : State} {m : MethodId} {args : Array Value} {below : List Frame} {meth : Method} {c : Code} {D : gx_D} {b : HX} {o : Nat} {h0 : MS} {r : Bool} {hz : MS} (C : gx_Ctx p R s m args meth c "ContractMachineModel" cX9_failsAt 2 (some .boolean) 1 24 D (mh b o h0) (mh b o hz)) (hx : meth.name = "failsAt") {p1 : Int32} (hf : f_X9_failsAt D b o h0 p1 = some (r, hz)) : gx_G p l e R s m args below meth c D (mh b o h0) (mh b o hz) 2 (gx_MQ below args s D (mh b o h0) (mh b o hz) (some (.int (b2i r)))) 0 [(0, (va_rf (some o))), (1, (.int p1))] [] (mh b o h0) := by
  unfold f_X9_failsAt at hf
  refine gx_aload_n C dX9_failsAt_0 0 rfl ?_
  refine gx_gi C (mh_gi (k := 16) rfl) gz_523 q2650 dX9_failsAt_1 ?_
  replace hf := gx_ite hf
  rcases hf with ⟨c1, hf⟩ | ⟨c1, hf⟩
  · refine gx_if_ne_f (tgt := 20) C dX9_failsAt_4 rfl c1 ?_
    refine gx_aload_n C dX9_failsAt_7 0 rfl ?_
    refine gx_iload_n C dX9_failsAt_8 1 rfl ?_
    replace hf := gx_bs hf
    obtain ⟨h2, g5, hf⟩ := hf
    refine gx_putv C (mh_pg (by decide) (fun _ _ => mh_p16) g5) gz_523 gz_1 rfl rfl q2650 dX9_failsAt_9 ?_
    refine gx_aload_n C dX9_failsAt_12 0 rfl ?_
    refine gx_aload_n C dX9_failsAt_13 0 rfl ?_
    refine gx_gi C (mh_gi (k := 19) rfl) gz_526 q2653 dX9_failsAt_14 ?_
    replace hf := gx_bs hf
    obtain ⟨h3, g4, hf⟩ := hf
    refine gx_putv C (mh_pg (by decide) (fun _ _ => mh_p17) g4) gz_525 gz_1 rfl rfl q2651 dX9_failsAt_17 ?_
    refine gx_iconst (v := 0) C dX9_failsAt_20 rfl ?_
    obtain ⟨rfl, rfl⟩ := Prod.mk.inj (Option.some.inj hf)
    exact gx_zret (b := false) C dX9_failsAt_21
  · refine gx_if_ne_t (tgt := 20) C dX9_failsAt_4 rfl c1 ?_
    refine gx_iconst (v := 0) C dX9_failsAt_20 rfl ?_
    obtain ⟨rfl, rfl⟩ := Prod.mk.inj (Option.some.inj hf)
    exact gx_zret (b := false) C dX9_failsAt_21
theorem w_X9_failsAt {l : Launch} (hlt : l.stackTraces = false) {D : gx_D} {b : HX} {o : Nat} {h : MS} {p1 : Int32} {r : Bool} {hz : MS} (hf : f_X9_failsAt D b o h p1 = some (r, hz)) : gx_Met l yX9_failsAt cX9_failsAt 2 (some .boolean) 1 24 D [(va_rf (some o)), (.int p1)] (mh b o h) (some (.int (b2i r))) (mh b o hz) :=
  gx_ofG gz_495 (by simp only [gx_lsr, gx_lsi, gx_lsj, gx_ls0]; decide) mh_le (fun p e R s m args below meth c C hx => by
    simp only [gx_lar, gx_lai, gx_laj, gx_la0, Nat.reduceAdd]
    exact w_X9_failsAt_b hlt C hx hf)
def f_X9_holds (D : gx_D) (b : HX) (o : Nat) (h : MS) (p0 : Int32) (p1 : Int32) (p2 : Int32) : Option Bool :=
  if p1 = (0 : Int32) then
  if p2 ≤ p0 then
  some false
  else
  some true
  else
  if p1 = (1 : Int32) then
  if p2 < p0 then
  some false
  else
  some true
  else
  if p1 = (2 : Int32) then
  if p0 = p2 then
  some true
  else
  some false
  else
  if p1 = (3 : Int32) then
  if p0 = p2 then
  some false
  else
  some true
  else
  if p1 = (4 : Int32) then
  if p0 < p2 then
  some false
  else
  some true
  else
  if p1 < (0 : Int32) ∨ (4 : Int32) < p1 then
  if p0 ≤ p2 then
  some false
  else
  some true
  else none
theorem w_X9_holds_b {l : Launch} (hlt : l.stackTraces = false) {p : Program} {e : Env} {R : Room} {s : State} {m : MethodId} {args : Array Value} {below : List Frame} {meth : Method} {c : Code} {D : gx_D} {b : HX} {o : Nat} {h0 : MS} {r : Bool} (C : gx_Ctx p R s m args meth c "ContractMachineModel" cX9_holds 3 (some .boolean) 1 24 D (mh b o h0) (mh b o h0)) (hx : meth.name = "holds") {p0 : Int32} {p1 : Int32} {p2 : Int32} (hf : f_X9_holds D b o h0 p0 p1 p2 = some r) : gx_G p l e R s m args below meth c D (mh b o h0) (mh b o h0) 3 (gx_MQ below args s D (mh b o h0) (mh b o h0) (some (.int (b2i r)))) 0 [(0, (.int p0)), (1, (.int p1)), (2, (.int p2))] [] (mh b o h0) := by
  unfold f_X9_holds at hf
  refine gx_iload_n C dX9_holds_0 1 rfl ?_
  replace hf := gx_ite hf
  rcases hf with ⟨c1, hf⟩ | ⟨c1, hf⟩
  · refine gx_tswIn (tgt := 36) C dX9_holds_1 (by rw [c1]; decide) (by rw [c1]; decide) (off := 35) (by rw [c1]; rfl) rfl ?_
    refine gx_iload_n C dX9_holds_36 0 rfl ?_
    refine gx_iload_n C dX9_holds_37 2 rfl ?_
    replace hf := gx_ite hf
    rcases hf with ⟨c2, hf⟩ | ⟨c2, hf⟩
    · refine gx_icmp_ge_t (tgt := 45) C dX9_holds_38 rfl c2 ?_
      refine gx_iconst (v := 0) C dX9_holds_45 rfl ?_
      obtain rfl := Option.some.inj hf
      exact gx_zret (b := false) C dX9_holds_46
    · refine gx_icmp_ge_f (tgt := 45) C dX9_holds_38 rfl c2 ?_
      refine gx_iconst (v := 1) C dX9_holds_41 rfl ?_
      refine gx_goto (tgt := 46) C dX9_holds_42 rfl ?_
      obtain rfl := Option.some.inj hf
      exact gx_zret (b := true) C dX9_holds_46
  replace hf := gx_ite hf
  rcases hf with ⟨c3, hf⟩ | ⟨c3, hf⟩
  · refine gx_tswIn (tgt := 47) C dX9_holds_1 (by rw [c3]; decide) (by rw [c3]; decide) (off := 46) (by rw [c3]; rfl) rfl ?_
    refine gx_iload_n C dX9_holds_47 0 rfl ?_
    refine gx_iload_n C dX9_holds_48 2 rfl ?_
    replace hf := gx_ite hf
    rcases hf with ⟨c4, hf⟩ | ⟨c4, hf⟩
    · refine gx_icmp_gt_t (tgt := 56) C dX9_holds_49 rfl c4 ?_
      refine gx_iconst (v := 0) C dX9_holds_56 rfl ?_
      obtain rfl := Option.some.inj hf
      exact gx_zret (b := false) C dX9_holds_57
    · refine gx_icmp_gt_f (tgt := 56) C dX9_holds_49 rfl c4 ?_
      refine gx_iconst (v := 1) C dX9_holds_52 rfl ?_
      refine gx_goto (tgt := 57) C dX9_holds_53 rfl ?_
      obtain rfl := Option.some.inj hf
      exact gx_zret (b := true) C dX9_holds_57
  replace hf := gx_ite hf
  rcases hf with ⟨c5, hf⟩ | ⟨c5, hf⟩
  · refine gx_tswIn (tgt := 58) C dX9_holds_1 (by rw [c5]; decide) (by rw [c5]; decide) (off := 57) (by rw [c5]; rfl) rfl ?_
    refine gx_iload_n C dX9_holds_58 0 rfl ?_
    refine gx_iload_n C dX9_holds_59 2 rfl ?_
    replace hf := gx_ite hf
    rcases hf with ⟨c6, hf⟩ | ⟨c6, hf⟩
    · refine gx_icmp_ne_f (tgt := 67) C dX9_holds_60 rfl c6 ?_
      refine gx_iconst (v := 1) C dX9_holds_63 rfl ?_
      refine gx_goto (tgt := 68) C dX9_holds_64 rfl ?_
      obtain rfl := Option.some.inj hf
      exact gx_zret (b := true) C dX9_holds_68
    · refine gx_icmp_ne_t (tgt := 67) C dX9_holds_60 rfl c6 ?_
      refine gx_iconst (v := 0) C dX9_holds_67 rfl ?_
      obtain rfl := Option.some.inj hf
      exact gx_zret (b := false) C dX9_holds_68
  replace hf := gx_ite hf
  rcases hf with ⟨c7, hf⟩ | ⟨c7, hf⟩
  · refine gx_tswIn (tgt := 69) C dX9_holds_1 (by rw [c7]; decide) (by rw [c7]; decide) (off := 68) (by rw [c7]; rfl) rfl ?_
    refine gx_iload_n C dX9_holds_69 0 rfl ?_
    refine gx_iload_n C dX9_holds_70 2 rfl ?_
    replace hf := gx_ite hf
    rcases hf with ⟨c8, hf⟩ | ⟨c8, hf⟩
    · refine gx_icmp_eq_t (tgt := 78) C dX9_holds_71 rfl c8 ?_
      refine gx_iconst (v := 0) C dX9_holds_78 rfl ?_
      obtain rfl := Option.some.inj hf
      exact gx_zret (b := false) C dX9_holds_79
    · refine gx_icmp_eq_f (tgt := 78) C dX9_holds_71 rfl c8 ?_
      refine gx_iconst (v := 1) C dX9_holds_74 rfl ?_
      refine gx_goto (tgt := 79) C dX9_holds_75 rfl ?_
      obtain rfl := Option.some.inj hf
      exact gx_zret (b := true) C dX9_holds_79
  replace hf := gx_ite hf
  rcases hf with ⟨c9, hf⟩ | ⟨c9, hf⟩
  · refine gx_tswIn (tgt := 80) C dX9_holds_1 (by rw [c9]; decide) (by rw [c9]; decide) (off := 79) (by rw [c9]; rfl) rfl ?_
    refine gx_iload_n C dX9_holds_80 0 rfl ?_
    refine gx_iload_n C dX9_holds_81 2 rfl ?_
    replace hf := gx_ite hf
    rcases hf with ⟨c10, hf⟩ | ⟨c10, hf⟩
    · refine gx_icmp_lt_t (tgt := 89) C dX9_holds_82 rfl c10 ?_
      refine gx_iconst (v := 0) C dX9_holds_89 rfl ?_
      obtain rfl := Option.some.inj hf
      exact gx_zret (b := false) C dX9_holds_90
    · refine gx_icmp_lt_f (tgt := 89) C dX9_holds_82 rfl c10 ?_
      refine gx_iconst (v := 1) C dX9_holds_85 rfl ?_
      refine gx_goto (tgt := 90) C dX9_holds_86 rfl ?_
      obtain rfl := Option.some.inj hf
      exact gx_zret (b := true) C dX9_holds_90
  replace hf := gx_ite hf
  rcases hf with ⟨c11, hf⟩ | ⟨c11, hf⟩
  rotate_left
  · cases hf
  refine gx_tswOut (tgt := 91) C dX9_holds_1 (gx_tout c11) rfl ?_
  refine gx_iload_n C dX9_holds_91 0 rfl ?_
  refine gx_iload_n C dX9_holds_92 2 rfl ?_
  replace hf := gx_ite hf
  rcases hf with ⟨c12, hf⟩ | ⟨c12, hf⟩
  · refine gx_icmp_le_t (tgt := 100) C dX9_holds_93 rfl c12 ?_
    refine gx_iconst (v := 0) C dX9_holds_100 rfl ?_
    obtain rfl := Option.some.inj hf
    exact gx_zret (b := false) C dX9_holds_101
  · refine gx_icmp_le_f (tgt := 100) C dX9_holds_93 rfl c12 ?_
    refine gx_iconst (v := 1) C dX9_holds_96 rfl ?_
    refine gx_goto (tgt := 101) C dX9_holds_97 rfl ?_
    obtain rfl := Option.some.inj hf
    exact gx_zret (b := true) C dX9_holds_101
theorem w_X9_holds {l : Launch} (hlt : l.stackTraces = false) {D : gx_D} {b : HX} {o : Nat} {h : MS} {p0 : Int32} {p1 : Int32} {p2 : Int32} {r : Bool} (hf : f_X9_holds D b o h p0 p1 p2 = some r) : gx_Met l yX9_holds cX9_holds 3 (some .boolean) 1 24 D [(.int p0), (.int p1), (.int p2)] (mh b o h) (some (.int (b2i r))) (mh b o h) :=
  gx_ofG gz_495 (by simp only [gx_lsr, gx_lsi, gx_lsj, gx_ls0]; decide) gx_le.rf (fun p e R s m args below meth c C hx => by
    simp only [gx_lar, gx_lai, gx_laj, gx_la0, Nat.reduceAdd]
    exact w_X9_holds_b hlt C hx hf)
def f_X9_ofInvariant (D : gx_D) (b : HX) (o : Nat) (h : MS) (p1 : Int32) (p2 : Int32) : Option Int32 :=
  (ms_ai h 0 (((309 : Int32) + ((4 : Int32) * p1)) + p2)).bind fun x1 =>
  some x1
theorem w_X9_ofInvariant_b {l : Launch} (hlt : l.stackTraces = false) {p : Program} {e : Env} {R : Room} {s : State} {m : MethodId} {args : Array Value} {below : List Frame} {meth : Method} {c : Code} {D : gx_D} {b : HX} {o : Nat} {h0 : MS} {r : Int32} (C : gx_Ctx p R s m args meth c "ContractMachineModel" cX9_ofInvariant 3 (some .int) 1 24 D (mh b o h0) (mh b o h0)) (hx : meth.name = "ofInvariant") {p1 : Int32} {p2 : Int32} (hf : f_X9_ofInvariant D b o h0 p1 p2 = some r) : gx_G p l e R s m args below meth c D (mh b o h0) (mh b o h0) 3 (gx_MQ below args s D (mh b o h0) (mh b o h0) (some (.int r))) 0 [(0, (va_rf (some o))), (1, (.int p1)), (2, (.int p2))] [] (mh b o h0) := by
  unfold f_X9_ofInvariant at hf
  refine gx_aload_n C dX9_ofInvariant_0 0 rfl ?_
  refine gx_gr C (mh_gr (k := 0) rfl) gz_494 q2634 dX9_ofInvariant_1 ?_
  refine gx_sipush (v := 309) C dX9_ofInvariant_4 rfl ?_
  refine gx_iconst (v := 4) C dX9_ofInvariant_7 rfl ?_
  refine gx_iload_n C dX9_ofInvariant_8 1 rfl ?_
  refine gx_imul C dX9_ofInvariant_9 ?_
  refine gx_iadd C dX9_ofInvariant_10 ?_
  refine gx_iload_n C dX9_ofInvariant_11 2 rfl ?_
  refine gx_iadd C dX9_ofInvariant_12 ?_
  replace hf := gx_bs hf
  obtain ⟨x1, g2, hf⟩ := hf
  refine gx_iald C (mh_ai g2) dX9_ofInvariant_13 ?_
  obtain rfl := Option.some.inj hf
  exact gx_iret C dX9_ofInvariant_14
theorem w_X9_ofInvariant {l : Launch} (hlt : l.stackTraces = false) {D : gx_D} {b : HX} {o : Nat} {h : MS} {p1 : Int32} {p2 : Int32} {r : Int32} (hf : f_X9_ofInvariant D b o h p1 p2 = some r) : gx_Met l yX9_ofInvariant cX9_ofInvariant 3 (some .int) 1 24 D [(va_rf (some o)), (.int p1), (.int p2)] (mh b o h) (some (.int r)) (mh b o h) :=
  gx_ofG gz_495 (by simp only [gx_lsr, gx_lsi, gx_lsj, gx_ls0]; decide) gx_le.rf (fun p e R s m args below meth c C hx => by
    simp only [gx_lar, gx_lai, gx_laj, gx_la0, Nat.reduceAdd]
    exact w_X9_ofInvariant_b hlt C hx hf)
def f_X9_weight (D : gx_D) (b : HX) (o : Nat) (h : MS) (p0 : Int32) : Option Int32 :=
  if p0 = 0 then
  some ((1 : Int32))
  else
  if p0 = (1 : Int32) then
  some ((10 : Int32))
  else
  some ((100 : Int32))
theorem w_X9_weight_b {l : Launch} (hlt : l.stackTraces = false) {p : Program} {e : Env} {R : Room} {s : State} {m : MethodId} {args : Array Value} {below : List Frame} {meth : Method} {c : Code} {D : gx_D} {b : HX} {o : Nat} {h0 : MS} {r : Int32} (C : gx_Ctx p R s m args meth c "ContractMachineModel" cX9_weight 1 (some .int) 1 24 D (mh b o h0) (mh b o h0)) (hx : meth.name = "weight") {p0 : Int32} (hf : f_X9_weight D b o h0 p0 = some r) : gx_G p l e R s m args below meth c D (mh b o h0) (mh b o h0) 1 (gx_MQ below args s D (mh b o h0) (mh b o h0) (some (.int r))) 0 [(0, (.int p0))] [] (mh b o h0) := by
  unfold f_X9_weight at hf
  refine gx_iload_n C dX9_weight_0 0 rfl ?_
  replace hf := gx_ite hf
  rcases hf with ⟨c1, hf⟩ | ⟨c1, hf⟩
  · refine gx_if_ne_f (tgt := 8) C dX9_weight_1 rfl c1 ?_
    refine gx_iconst (v := 1) C dX9_weight_4 rfl ?_
    refine gx_goto (tgt := 20) C dX9_weight_5 rfl ?_
    obtain rfl := Option.some.inj hf
    exact gx_iret C dX9_weight_20
  · refine gx_if_ne_t (tgt := 8) C dX9_weight_1 rfl c1 ?_
    refine gx_iload_n C dX9_weight_8 0 rfl ?_
    refine gx_iconst (v := 1) C dX9_weight_9 rfl ?_
    replace hf := gx_ite hf
    rcases hf with ⟨c2, hf⟩ | ⟨c2, hf⟩
    · refine gx_icmp_ne_f (tgt := 18) C dX9_weight_10 rfl c2 ?_
      refine gx_bipush (v := 10) C dX9_weight_13 rfl ?_
      refine gx_goto (tgt := 20) C dX9_weight_15 rfl ?_
      obtain rfl := Option.some.inj hf
      exact gx_iret C dX9_weight_20
    · refine gx_icmp_ne_t (tgt := 18) C dX9_weight_10 rfl c2 ?_
      refine gx_bipush (v := 100) C dX9_weight_18 rfl ?_
      obtain rfl := Option.some.inj hf
      exact gx_iret C dX9_weight_20
theorem w_X9_weight {l : Launch} (hlt : l.stackTraces = false) {D : gx_D} {b : HX} {o : Nat} {h : MS} {p0 : Int32} {r : Int32} (hf : f_X9_weight D b o h p0 = some r) : gx_Met l yX9_weight cX9_weight 1 (some .int) 1 24 D [(.int p0)] (mh b o h) (some (.int r)) (mh b o h) :=
  gx_ofG gz_495 (by simp only [gx_lsr, gx_lsi, gx_lsj, gx_ls0]; decide) gx_le.rf (fun p e R s m args below meth c C hx => by
    simp only [gx_lar, gx_lai, gx_laj, gx_la0, Nat.reduceAdd]
    exact w_X9_weight_b hlt C hx hf)
def f_X9_valueIn (D : gx_D) (b : HX) (o : Nat) (h : MS) (p0 : Int32) (p1 : Int32) : Option Int32 :=
  (f_X9_weight D b o h p1).bind fun x2 =>
  if x2 = 0 then none else
  some (((p0 / x2) - (p0 / x2) / (10 : Int32) * (10 : Int32)))
theorem w_X9_valueIn_b {l : Launch} (hlt : l.stackTraces = false) {p : Program} {e : Env} {R : Room} {s : State} {m : MethodId} {args : Array Value} {below : List Frame} {meth : Method} {c : Code} {D : gx_D} {b : HX} {o : Nat} {h0 : MS} {r : Int32} (C : gx_Ctx p R s m args meth c "ContractMachineModel" cX9_valueIn 2 (some .int) 2 44 D (mh b o h0) (mh b o h0)) (hx : meth.name = "valueIn") {p0 : Int32} {p1 : Int32} (hf : f_X9_valueIn D b o h0 p0 p1 = some r) : gx_G p l e R s m args below meth c D (mh b o h0) (mh b o h0) 2 (gx_MQ below args s D (mh b o h0) (mh b o h0) (some (.int r))) 0 [(0, (.int p0)), (1, (.int p1))] [] (mh b o h0) := by
  unfold f_X9_valueIn at hf
  refine gx_iload_n C dX9_valueIn_0 0 rfl ?_
  refine gx_iload_n C dX9_valueIn_1 1 rfl ?_
  replace hf := gx_bs hf
  obtain ⟨x2, g1, hf⟩ := hf
  refine gx_callS (st := [(.int p0)]) C (w_X9_weight hlt g1) (lw_S q2897 q2898 q151 q2899) gz_527 (by decide) rfl rfl (gx_catn (Nat.le_of_ble_eq_true rfl)) dX9_valueIn_2 ?_
  replace hf := gx_ite hf
  rcases hf with ⟨c3, hf⟩ | ⟨c3, hf⟩
  · cases hf
  refine gx_idiv C dX9_valueIn_5 c3 ?_
  refine gx_bipush (v := 10) C dX9_valueIn_6 rfl ?_
  refine gx_irem C dX9_valueIn_8 (by decide) ?_
  obtain rfl := Option.some.inj hf
  exact gx_iret C dX9_valueIn_9
theorem w_X9_valueIn {l : Launch} (hlt : l.stackTraces = false) {D : gx_D} {b : HX} {o : Nat} {h : MS} {p0 : Int32} {p1 : Int32} {r : Int32} (hf : f_X9_valueIn D b o h p0 p1 = some r) : gx_Met l yX9_valueIn cX9_valueIn 2 (some .int) 2 44 D [(.int p0), (.int p1)] (mh b o h) (some (.int r)) (mh b o h) :=
  gx_ofG gz_495 (by simp only [gx_lsr, gx_lsi, gx_lsj, gx_ls0]; decide) gx_le.rf (fun p e R s m args below meth c C hx => by
    simp only [gx_lar, gx_lai, gx_laj, gx_la0, Nat.reduceAdd]
    exact w_X9_valueIn_b hlt C hx hf)
def f_X9_compares (D : gx_D) (b : HX) (o : Nat) (h : MS) (p1 : Int32) (p2 : Int32) : Option Bool :=
  (f_X9_ofInvariant D b o h p1 (1 : Int32)).bind fun x2 =>
  (f_X9_valueIn D b o h p2 x2).bind fun x4 =>
  (f_X9_ofInvariant D b o h p1 (2 : Int32)).bind fun x6 =>
  (f_X9_ofInvariant D b o h p1 (3 : Int32)).bind fun x8 =>
  (f_X9_holds D b o h x4 x6 x8).bind fun b10 =>
  some b10
theorem w_X9_compares_b {l : Launch} (hlt : l.stackTraces = false) {p : Program} {e : Env} {R : Room} {s : State} {m : MethodId} {args : Array Value} {below : List Frame} {meth : Method} {c : Code} {D : gx_D} {b : HX} {o : Nat} {h0 : MS} {r : Bool} (C : gx_Ctx p R s m args meth c "ContractMachineModel" cX9_compares 3 (some .boolean) 3 65 D (mh b o h0) (mh b o h0)) (hx : meth.name = "compares") {p1 : Int32} {p2 : Int32} (hf : f_X9_compares D b o h0 p1 p2 = some r) : gx_G p l e R s m args below meth c D (mh b o h0) (mh b o h0) 3 (gx_MQ below args s D (mh b o h0) (mh b o h0) (some (.int (b2i r)))) 0 [(0, (va_rf (some o))), (1, (.int p1)), (2, (.int p2))] [] (mh b o h0) := by
  unfold f_X9_compares at hf
  refine gx_iload_n C dX9_compares_0 2 rfl ?_
  refine gx_aload_n C dX9_compares_1 0 rfl ?_
  refine gx_iload_n C dX9_compares_2 1 rfl ?_
  refine gx_iconst (v := 1) C dX9_compares_3 rfl ?_
  replace hf := gx_bs hf
  obtain ⟨x2, g1, hf⟩ := hf
  refine gx_callV (st := [(.int p2)]) C (w_X9_ofInvariant hlt g1) mh_is gz_497 rfl (lw_V q2883 q2885 qs87 q151 q2886) gz_528 (by decide) rfl rfl (gx_catn (Nat.le_of_ble_eq_true rfl)) dX9_compares_4 ?_
  replace hf := gx_bs hf
  obtain ⟨x4, g3, hf⟩ := hf
  refine gx_callS (st := []) C (w_X9_valueIn hlt g3) (lw_S q2894 q2895 q151 q2896) gz_530 (by decide) rfl rfl (gx_catn (Nat.le_of_ble_eq_true rfl)) dX9_compares_7 ?_
  refine gx_aload_n C dX9_compares_10 0 rfl ?_
  refine gx_iload_n C dX9_compares_11 1 rfl ?_
  refine gx_iconst (v := 2) C dX9_compares_12 rfl ?_
  replace hf := gx_bs hf
  obtain ⟨x6, g5, hf⟩ := hf
  refine gx_callV (st := [(.int x4)]) C (w_X9_ofInvariant hlt g5) mh_is gz_497 rfl (lw_V q2883 q2885 qs87 q151 q2886) gz_528 (by decide) rfl rfl (gx_catn (Nat.le_of_ble_eq_true rfl)) dX9_compares_13 ?_
  refine gx_aload_n C dX9_compares_16 0 rfl ?_
  refine gx_iload_n C dX9_compares_17 1 rfl ?_
  refine gx_iconst (v := 3) C dX9_compares_18 rfl ?_
  replace hf := gx_bs hf
  obtain ⟨x8, g7, hf⟩ := hf
  refine gx_callV (st := [(.int x6), (.int x4)]) C (w_X9_ofInvariant hlt g7) mh_is gz_497 rfl (lw_V q2883 q2885 qs87 q151 q2886) gz_528 (by decide) rfl rfl (gx_catn (Nat.le_of_ble_eq_true rfl)) dX9_compares_19 ?_
  replace hf := gx_bs hf
  obtain ⟨b10, g9, hf⟩ := hf
  refine gx_callS (st := []) C (w_X9_holds hlt g9) (lw_S q2900 q2901 q151 q2902) gz_529 (by decide) rfl rfl (gx_catn (Nat.le_of_ble_eq_true rfl)) dX9_compares_22 ?_
  obtain rfl := Option.some.inj hf
  exact gx_zret (b := _) C dX9_compares_25
theorem w_X9_compares {l : Launch} (hlt : l.stackTraces = false) {D : gx_D} {b : HX} {o : Nat} {h : MS} {p1 : Int32} {p2 : Int32} {r : Bool} (hf : f_X9_compares D b o h p1 p2 = some r) : gx_Met l yX9_compares cX9_compares 3 (some .boolean) 3 65 D [(va_rf (some o)), (.int p1), (.int p2)] (mh b o h) (some (.int (b2i r))) (mh b o h) :=
  gx_ofG gz_495 (by simp only [gx_lsr, gx_lsi, gx_lsj, gx_ls0]; decide) gx_le.rf (fun p e R s m args below meth c C hx => by
    simp only [gx_lar, gx_lai, gx_laj, gx_la0, Nat.reduceAdd]
    exact w_X9_compares_b hlt C hx hf)
def f_X9_stateIn (D : gx_D) (b : HX) (o : Nat) (h : MS) (p0 : Int32) : Option Int32 :=
  some ((p0 / (1000 : Int32)))
theorem w_X9_stateIn_b {l : Launch} (hlt : l.stackTraces = false) {p : Program} {e : Env} {R : Room} {s : State} {m : MethodId} {args : Array Value} {below : List Frame} {meth : Method} {c : Code} {D : gx_D} {b : HX} {o : Nat} {h0 : MS} {r : Int32} (C : gx_Ctx p R s m args meth c "ContractMachineModel" cX9_stateIn 1 (some .int) 1 24 D (mh b o h0) (mh b o h0)) (hx : meth.name = "stateIn") {p0 : Int32} (hf : f_X9_stateIn D b o h0 p0 = some r) : gx_G p l e R s m args below meth c D (mh b o h0) (mh b o h0) 1 (gx_MQ below args s D (mh b o h0) (mh b o h0) (some (.int r))) 0 [(0, (.int p0))] [] (mh b o h0) := by
  unfold f_X9_stateIn at hf
  refine gx_iload_n C dX9_stateIn_0 0 rfl ?_
  refine gx_sipush (v := 1000) C dX9_stateIn_1 rfl ?_
  refine gx_idiv C dX9_stateIn_4 (by decide) ?_
  obtain rfl := Option.some.inj hf
  exact gx_iret C dX9_stateIn_5
theorem w_X9_stateIn {l : Launch} (hlt : l.stackTraces = false) {D : gx_D} {b : HX} {o : Nat} {h : MS} {p0 : Int32} {r : Int32} (hf : f_X9_stateIn D b o h p0 = some r) : gx_Met l yX9_stateIn cX9_stateIn 1 (some .int) 1 24 D [(.int p0)] (mh b o h) (some (.int r)) (mh b o h) :=
  gx_ofG gz_495 (by simp only [gx_lsr, gx_lsi, gx_lsj, gx_ls0]; decide) gx_le.rf (fun p e R s m args below meth c C hx => by
    simp only [gx_lar, gx_lai, gx_laj, gx_la0, Nat.reduceAdd]
    exact w_X9_stateIn_b hlt C hx hf)
def f_X9_breaks_b20 (D : gx_D) (b : HX) (o : Nat) (h : MS) (v1 : Int32) (v2 : Int32) : Option Bool :=
  (f_X9_compares D b o h v2 v1).bind fun b5 =>
  if b5 = true then
  some false
  else
  some true
theorem w_X9_breaks_b20 {l : Launch} (hlt : l.stackTraces = false) {p : Program} {e : Env} {R : Room} {s : State} {m : MethodId} {args : Array Value} {below : List Frame} {meth : Method} {c : Code} {D : gx_D} {b : HX} {o : Nat} {h0 : MS} {r : Bool} (C : gx_Ctx p R s m args meth c "ContractMachineModel" cX9_breaks 4 (some .boolean) 4 87 D (mh b o h0) (mh b o h0)) (hx : meth.name = "breaks")  {v1 : Int32} {v2 : Int32} (hf : f_X9_breaks_b20 D b o h0 v1 v2 = some r) : gx_G p l e R s m args below meth c D (mh b o h0) (mh b o h0) 4 (gx_MQ below args s D (mh b o h0) (mh b o h0) (some (.int (b2i r)))) 20 [(0, (va_rf (some o))), (1, (.int v1)), (2, (.int v2))] [] (mh b o h0) := by
  unfold f_X9_breaks_b20 at hf
  refine gx_aload_n C dX9_breaks_20 0 rfl ?_
  refine gx_iload_n C dX9_breaks_21 2 rfl ?_
  refine gx_iload_n C dX9_breaks_22 1 rfl ?_
  replace hf := gx_bs hf
  obtain ⟨b5, g4, hf⟩ := hf
  refine gx_callV (st := []) C (w_X9_compares hlt g4) mh_is gz_497 rfl (lw_V q2890 q2892 qs88 q151 q2893) gz_531 (by decide) rfl rfl (gx_catn (Nat.le_of_ble_eq_true rfl)) dX9_breaks_23 ?_
  replace hf := gx_ite hf
  rcases hf with ⟨c6, hf⟩ | ⟨c6, hf⟩
  · refine gx_ifz_ne_t (tgt := 33) C dX9_breaks_26 rfl c6 ?_
    refine gx_iconst (v := 0) C dX9_breaks_33 rfl ?_
    obtain rfl := Option.some.inj hf
    exact gx_zret (b := false) C dX9_breaks_34
  · refine gx_ifz_ne_f (tgt := 33) C dX9_breaks_26 rfl c6 ?_
    refine gx_iconst (v := 1) C dX9_breaks_29 rfl ?_
    refine gx_goto (tgt := 34) C dX9_breaks_30 rfl ?_
    obtain rfl := Option.some.inj hf
    exact gx_zret (b := true) C dX9_breaks_34
def f_X9_breaks (D : gx_D) (b : HX) (o : Nat) (h : MS) (p1 : Int32) (p2 : Int32) : Option Bool :=
  (f_X9_ofInvariant D b o h p2 (0 : Int32)).bind fun x2 =>
  if x2 = (-1 : Int32) then
  f_X9_breaks_b20 D b o h p1 p2
  else
  (f_X9_stateIn D b o h p1).bind fun x8 =>
  if x2 = x8 then
  f_X9_breaks_b20 D b o h p1 p2
  else
  some false
theorem w_X9_breaks_b {l : Launch} (hlt : l.stackTraces = false) {p : Program} {e : Env} {R : Room} {s : State} {m : MethodId} {args : Array Value} {below : List Frame} {meth : Method} {c : Code} {D : gx_D} {b : HX} {o : Nat} {h0 : MS} {r : Bool} (C : gx_Ctx p R s m args meth c "ContractMachineModel" cX9_breaks 4 (some .boolean) 4 87 D (mh b o h0) (mh b o h0)) (hx : meth.name = "breaks") {p1 : Int32} {p2 : Int32} (hf : f_X9_breaks D b o h0 p1 p2 = some r) : gx_G p l e R s m args below meth c D (mh b o h0) (mh b o h0) 4 (gx_MQ below args s D (mh b o h0) (mh b o h0) (some (.int (b2i r)))) 0 [(0, (va_rf (some o))), (1, (.int p1)), (2, (.int p2))] [] (mh b o h0) := by
  unfold f_X9_breaks at hf
  refine gx_aload_n C dX9_breaks_0 0 rfl ?_
  refine gx_iload_n C dX9_breaks_1 2 rfl ?_
  refine gx_iconst (v := 0) C dX9_breaks_2 rfl ?_
  replace hf := gx_bs hf
  obtain ⟨x2, g1, hf⟩ := hf
  refine gx_callV (st := []) C (w_X9_ofInvariant hlt g1) mh_is gz_497 rfl (lw_V q2883 q2885 qs87 q151 q2886) gz_528 (by decide) rfl rfl (gx_catn (Nat.le_of_ble_eq_true rfl)) dX9_breaks_3 ?_
  refine gx_istn C dX9_breaks_6 3 rfl (by decide) [0, 1, 2]  rfl (gx_okn rfl rfl (gx_okn rfl rfl (gx_okr rfl gx_catv_i gx_ok0))) ?_
  refine gx_iload_n C dX9_breaks_7 0 rfl ?_
  refine gx_iconst (v := -1) C dX9_breaks_8 rfl ?_
  replace hf := gx_ite hf
  rcases hf with ⟨c3, hf⟩ | ⟨c3, hf⟩
  · refine gx_icmp_eq_t (tgt := 20) C dX9_breaks_9 rfl c3 ?_
    refine gx_sub [1, 2, 3] rfl ?_
    exact w_X9_breaks_b20 hlt C hx hf
  · refine gx_icmp_eq_f (tgt := 20) C dX9_breaks_9 rfl c3 ?_
    refine gx_iload_n C dX9_breaks_12 0 rfl ?_
    refine gx_iload_n C dX9_breaks_13 2 rfl ?_
    replace hf := gx_bs hf
    obtain ⟨x8, g7, hf⟩ := hf
    refine gx_callS (st := [(.int x2)]) C (w_X9_stateIn hlt g7) (lw_S q2887 q2888 q151 q2889) gz_532 (by decide) rfl rfl (gx_catn (Nat.le_of_ble_eq_true rfl)) dX9_breaks_14 ?_
    replace hf := gx_ite hf
    rcases hf with ⟨c9, hf⟩ | ⟨c9, hf⟩
    · refine gx_icmp_ne_f (tgt := 33) C dX9_breaks_17 rfl c9 ?_
      refine gx_sub [1, 2, 3] rfl ?_
      exact w_X9_breaks_b20 hlt C hx hf
    · refine gx_icmp_ne_t (tgt := 33) C dX9_breaks_17 rfl c9 ?_
      refine gx_iconst (v := 0) C dX9_breaks_33 rfl ?_
      obtain rfl := Option.some.inj hf
      exact gx_zret (b := false) C dX9_breaks_34
theorem w_X9_breaks {l : Launch} (hlt : l.stackTraces = false) {D : gx_D} {b : HX} {o : Nat} {h : MS} {p1 : Int32} {p2 : Int32} {r : Bool} (hf : f_X9_breaks D b o h p1 p2 = some r) : gx_Met l yX9_breaks cX9_breaks 4 (some .boolean) 4 87 D [(va_rf (some o)), (.int p1), (.int p2)] (mh b o h) (some (.int (b2i r))) (mh b o h) :=
  gx_ofG gz_495 (by simp only [gx_lsr, gx_lsi, gx_lsj, gx_ls0]; decide) gx_le.rf (fun p e R s m args below meth c C hx => by
    simp only [gx_lar, gx_lai, gx_laj, gx_la0, Nat.reduceAdd]
    exact w_X9_breaks_b hlt C hx hf)
def f_X9_firstBroken_b2 (D : gx_D) (b : HX) (o : Nat) : Nat → MS → Int32 → Int32 → Option Int32
  | 0, _, _, _ => none
  | n + 1, h, v1, v2 =>
  (ms_ai h 0 (4 : Int32)).bind fun x1 =>
  if x1 ≤ v2 then
  some ((-1 : Int32))
  else
  (f_X9_breaks D b o h v1 v2).bind fun b4 =>
  if b4 = true then
  some v2
  else
  (f_X9_firstBroken_b2 D b o n) h v1 ((v2 + (1 : Int32)))
theorem w_X9_firstBroken_b2 {l : Launch} (hlt : l.stackTraces = false) {p : Program} {e : Env} {R : Room} {s : State} {m : MethodId} {args : Array Value} {below : List Frame} {meth : Method} {c : Code} {D : gx_D} {b : HX} {o : Nat} {h0 : MS} {r : Int32} (C : gx_Ctx p R s m args meth c "ContractMachineModel" cX9_firstBroken 3 (some .int) 5 110 D (mh b o h0) (mh b o h0)) (hx : meth.name = "firstBroken")  : ∀ (n : Nat) ⦃v1 : Int32⦄ ⦃v2 : Int32⦄, f_X9_firstBroken_b2 D b o n h0 v1 v2 = some r → gx_G p l e R s m args below meth c D (mh b o h0) (mh b o h0) 3 (gx_MQ below args s D (mh b o h0) (mh b o h0) (some (.int r))) 2 [(0, (va_rf (some o))), (1, (.int v1)), (2, (.int v2))] [] (mh b o h0) := by
  intro n
  induction n with
  | zero => intro v1 v2 hf; unfold f_X9_firstBroken_b2 at hf; cases hf
  | succ n wk2 =>
    intro v1 v2 hf
    unfold f_X9_firstBroken_b2 at hf
    refine gx_iload_n C dX9_firstBroken_2 2 rfl ?_
    refine gx_aload_n C dX9_firstBroken_3 0 rfl ?_
    refine gx_gr C (mh_gr (k := 0) rfl) gz_494 q2634 dX9_firstBroken_4 ?_
    refine gx_iconst (v := 4) C dX9_firstBroken_7 rfl ?_
    replace hf := gx_bs hf
    obtain ⟨x1, g6, hf⟩ := hf
    refine gx_iald C (mh_ai g6) dX9_firstBroken_8 ?_
    replace hf := gx_ite hf
    rcases hf with ⟨c2, hf⟩ | ⟨c2, hf⟩
    · refine gx_icmp_ge_t (tgt := 29) C dX9_firstBroken_9 rfl c2 ?_
      refine gx_iconst (v := -1) C dX9_firstBroken_29 rfl ?_
      obtain rfl := Option.some.inj hf
      exact gx_iret C dX9_firstBroken_30
    · refine gx_icmp_ge_f (tgt := 29) C dX9_firstBroken_9 rfl c2 ?_
      refine gx_aload_n C dX9_firstBroken_12 0 rfl ?_
      refine gx_iload_n C dX9_firstBroken_13 1 rfl ?_
      refine gx_iload_n C dX9_firstBroken_14 2 rfl ?_
      replace hf := gx_bs hf
      obtain ⟨b4, g3, hf⟩ := hf
      refine gx_callV (st := []) C (w_X9_breaks hlt g3) mh_is gz_497 rfl (lw_V q2879 q2881 qs86 q151 q2882) gz_533 (by decide) rfl rfl (gx_catn (Nat.le_of_ble_eq_true rfl)) dX9_firstBroken_15 ?_
      replace hf := gx_ite hf
      rcases hf with ⟨c5, hf⟩ | ⟨c5, hf⟩
      · refine gx_ifz_eq_f (tgt := 23) C dX9_firstBroken_18 rfl c5 ?_
        refine gx_iload_n C dX9_firstBroken_21 2 rfl ?_
        obtain rfl := Option.some.inj hf
        exact gx_iret C dX9_firstBroken_22
      · refine gx_ifz_eq_t (tgt := 23) C dX9_firstBroken_18 rfl c5 ?_
        refine gx_inc (v := 1) C dX9_firstBroken_23 2 rfl rfl (by decide) [0, 1] rfl (gx_okn rfl rfl (gx_okr rfl gx_catv_i gx_ok0)) ?_
        refine gx_goto (tgt := 2) C dX9_firstBroken_26 rfl ?_
        refine gx_sub [1, 2, 0] rfl ?_
        exact wk2 hf
def f_X9_firstBroken (D : gx_D) (b : HX) (o : Nat) (h : MS) (p1 : Int32) : Option Int32 :=
  f_X9_firstBroken_b2 D b o gx_fuel h p1 ((0 : Int32))
theorem w_X9_firstBroken_b {l : Launch} (hlt : l.stackTraces = false) {p : Program} {e : Env} {R : Room} {s : State} {m : MethodId} {args : Array Value} {below : List Frame} {meth : Method} {c : Code} {D : gx_D} {b : HX} {o : Nat} {h0 : MS} {r : Int32} (C : gx_Ctx p R s m args meth c "ContractMachineModel" cX9_firstBroken 3 (some .int) 5 110 D (mh b o h0) (mh b o h0)) (hx : meth.name = "firstBroken") {p1 : Int32} (hf : f_X9_firstBroken D b o h0 p1 = some r) : gx_G p l e R s m args below meth c D (mh b o h0) (mh b o h0) 3 (gx_MQ below args s D (mh b o h0) (mh b o h0) (some (.int r))) 0 [(0, (va_rf (some o))), (1, (.int p1))] [] (mh b o h0) := by
  unfold f_X9_firstBroken at hf
  refine gx_iconst (v := 0) C dX9_firstBroken_0 rfl ?_
  refine gx_istn C dX9_firstBroken_1 2 rfl (by decide) [0, 1]  rfl (gx_okn rfl rfl (gx_okr rfl gx_catv_i gx_ok0)) ?_
  refine gx_sub [1, 2, 0] rfl ?_
  exact w_X9_firstBroken_b2 hlt C hx gx_fuel hf
theorem w_X9_firstBroken {l : Launch} (hlt : l.stackTraces = false) {D : gx_D} {b : HX} {o : Nat} {h : MS} {p1 : Int32} {r : Int32} (hf : f_X9_firstBroken D b o h p1 = some r) : gx_Met l yX9_firstBroken cX9_firstBroken 3 (some .int) 5 110 D [(va_rf (some o)), (.int p1)] (mh b o h) (some (.int r)) (mh b o h) :=
  gx_ofG gz_495 (by simp only [gx_lsr, gx_lsi, gx_lsj, gx_ls0]; decide) gx_le.rf (fun p e R s m args below meth c C hx => by
    simp only [gx_lar, gx_lai, gx_laj, gx_la0, Nat.reduceAdd]
    exact w_X9_firstBroken_b hlt C hx hf)
def f_X9_isWord_b28 (D : gx_D) (b : HX) (o : Nat) : Nat → MS → Option Nat → Int32 → Option Bool
  | 0, _, _, _ => none
  | n + 1, h, v1, v2 =>
  v1.bind fun a6 =>
  (f_J9_length D ((mh b o h)) a6).bind fun x8 =>
  if x8 ≤ v2 then
  some true
  else
  (ms_ai h 6 ((h.1 19) + v2)).bind fun x10 =>
  (f_J9_charAt D ((mh b o h)) a6 v2).bind fun x12 =>
  if x10 = x12 then
  (f_X9_isWord_b28 D b o n) h (some a6) ((v2 + (1 : Int32)))
  else
  some false
theorem w_X9_isWord_b28 {l : Launch} (hlt : l.stackTraces = false) {p : Program} {e : Env} {R : Room} {s : State} {m : MethodId} {args : Array Value} {below : List Frame} {meth : Method} {c : Code} {D : gx_D} {b : HX} {o : Nat} {h0 : MS} {r : Bool} (C : gx_Ctx p R s m args meth c "ContractMachineModel" cX9_isWord 3 (some .boolean) 5 109 D (mh b o h0) (mh b o h0)) (hx : meth.name = "isWord")  : ∀ (n : Nat) ⦃v1 : Option Nat⦄ ⦃v2 : Int32⦄, f_X9_isWord_b28 D b o n h0 v1 v2 = some r → gx_G p l e R s m args below meth c D (mh b o h0) (mh b o h0) 3 (gx_MQ below args s D (mh b o h0) (mh b o h0) (some (.int (b2i r)))) 28 [(0, (va_rf (some o))), (1, (va_rf v1)), (2, (.int v2))] [] (mh b o h0) := by
  intro n
  induction n with
  | zero => intro v1 v2 hf; unfold f_X9_isWord_b28 at hf; cases hf
  | succ n wk28 =>
    intro v1 v2 hf
    unfold f_X9_isWord_b28 at hf
    refine gx_iload_n C dX9_isWord_28 2 rfl ?_
    refine gx_aload_n C dX9_isWord_29 1 rfl ?_
    replace hf := gx_bs hf
    obtain ⟨a6, rfl, hf⟩ := hf
    replace hf := gx_bs hf
    obtain ⟨x8, g7, hf⟩ := hf
    refine gx_callV (st := [(.int v2)]) C (w_J9_length hlt g7) (is_J9_length g7) gz_10 rfl (lw_V q2784 q381 q382 q134 q383) gz_171 (by decide) rfl rfl (gx_catn (Nat.le_of_ble_eq_true rfl)) dX9_isWord_30 ?_
    replace hf := gx_ite hf
    rcases hf with ⟨c9, hf⟩ | ⟨c9, hf⟩
    · refine gx_icmp_ge_t (tgt := 63) C dX9_isWord_33 rfl c9 ?_
      refine gx_iconst (v := 1) C dX9_isWord_63 rfl ?_
      obtain rfl := Option.some.inj hf
      exact gx_zret (b := true) C dX9_isWord_64
    · refine gx_icmp_ge_f (tgt := 63) C dX9_isWord_33 rfl c9 ?_
      refine gx_aload_n C dX9_isWord_36 0 rfl ?_
      refine gx_gr C (mh_gr (k := 12) rfl) gz_503 q2646 dX9_isWord_37 ?_
      refine gx_aload_n C dX9_isWord_40 0 rfl ?_
      refine gx_gi C (mh_gi (k := 19) rfl) gz_526 q2653 dX9_isWord_41 ?_
      refine gx_iload_n C dX9_isWord_44 2 rfl ?_
      refine gx_iadd C dX9_isWord_45 ?_
      replace hf := gx_bs hf
      obtain ⟨x10, g14, hf⟩ := hf
      refine gx_iald C (mh_ai g14) dX9_isWord_46 ?_
      refine gx_aload_n C dX9_isWord_47 1 rfl ?_
      refine gx_iload_n C dX9_isWord_48 2 rfl ?_
      replace hf := gx_bs hf
      obtain ⟨x12, g11, hf⟩ := hf
      refine gx_callV (st := [(.int x10)]) C (w_J9_charAt hlt g11) (is_J9_charAt g11) gz_10 rfl (lw_V q2785 q1067 q1068 q134 q1069) gz_172 (by decide) rfl rfl (gx_catn (Nat.le_of_ble_eq_true rfl)) dX9_isWord_49 ?_
      replace hf := gx_ite hf
      rcases hf with ⟨c13, hf⟩ | ⟨c13, hf⟩
      · refine gx_icmp_eq_t (tgt := 57) C dX9_isWord_52 rfl c13 ?_
        refine gx_inc (v := 1) C dX9_isWord_57 2 rfl rfl (by decide) [0, 1] rfl (gx_okn rfl rfl (gx_okr rfl gx_catv_r gx_ok0)) ?_
        refine gx_goto (tgt := 28) C dX9_isWord_60 rfl ?_
        refine gx_sub [1, 2, 0] rfl ?_
        exact wk28 hf
      · refine gx_icmp_eq_f (tgt := 57) C dX9_isWord_52 rfl c13 ?_
        refine gx_iconst (v := 0) C dX9_isWord_55 rfl ?_
        obtain rfl := Option.some.inj hf
        exact gx_zret (b := false) C dX9_isWord_56
def f_X9_isWord (D : gx_D) (b : HX) (o : Nat) (h : MS) (p1 : Option Nat) : Option Bool :=
  if (h.1 21) = (1 : Int32) then
  p1.bind fun a2 =>
  (f_J9_length D ((mh b o h)) a2).bind fun x4 =>
  if ((h.1 18) - (h.1 19)) = x4 then
  f_X9_isWord_b28 D b o gx_fuel h (some a2) ((0 : Int32))
  else
  some false
  else
  some false
theorem w_X9_isWord_b {l : Launch} (hlt : l.stackTraces = false) {p : Program} {e : Env} {R : Room} {s : State} {m : MethodId} {args : Array Value} {below : List Frame} {meth : Method} {c : Code} {D : gx_D} {b : HX} {o : Nat} {h0 : MS} {r : Bool} (C : gx_Ctx p R s m args meth c "ContractMachineModel" cX9_isWord 3 (some .boolean) 5 109 D (mh b o h0) (mh b o h0)) (hx : meth.name = "isWord") {p1 : Option Nat} (hf : f_X9_isWord D b o h0 p1 = some r) : gx_G p l e R s m args below meth c D (mh b o h0) (mh b o h0) 3 (gx_MQ below args s D (mh b o h0) (mh b o h0) (some (.int (b2i r)))) 0 [(0, (va_rf (some o))), (1, (va_rf p1))] [] (mh b o h0) := by
  unfold f_X9_isWord at hf
  refine gx_aload_n C dX9_isWord_0 0 rfl ?_
  refine gx_gi C (mh_gi (k := 21) rfl) gz_534 q2655 dX9_isWord_1 ?_
  refine gx_iconst (v := 1) C dX9_isWord_4 rfl ?_
  replace hf := gx_ite hf
  rcases hf with ⟨c1, hf⟩ | ⟨c1, hf⟩
  · refine gx_icmp_ne_f (tgt := 24) C dX9_isWord_5 rfl c1 ?_
    refine gx_aload_n C dX9_isWord_8 0 rfl ?_
    refine gx_gi C (mh_gi (k := 18) rfl) gz_535 q2652 dX9_isWord_9 ?_
    refine gx_aload_n C dX9_isWord_12 0 rfl ?_
    refine gx_gi C (mh_gi (k := 19) rfl) gz_526 q2653 dX9_isWord_13 ?_
    refine gx_isub C dX9_isWord_16 ?_
    refine gx_aload_n C dX9_isWord_17 1 rfl ?_
    replace hf := gx_bs hf
    obtain ⟨a2, rfl, hf⟩ := hf
    replace hf := gx_bs hf
    obtain ⟨x4, g3, hf⟩ := hf
    refine gx_callV (st := [(.int ((h0.1 18) - (h0.1 19)))]) C (w_J9_length hlt g3) (is_J9_length g3) gz_10 rfl (lw_V q2784 q381 q382 q134 q383) gz_171 (by decide) rfl rfl (gx_catn (Nat.le_of_ble_eq_true rfl)) dX9_isWord_18 ?_
    replace hf := gx_ite hf
    rcases hf with ⟨c5, hf⟩ | ⟨c5, hf⟩
    · refine gx_icmp_eq_t (tgt := 26) C dX9_isWord_21 rfl c5 ?_
      refine gx_iconst (v := 0) C dX9_isWord_26 rfl ?_
      refine gx_istn C dX9_isWord_27 2 rfl (by decide) [0, 1]  rfl (gx_okn rfl rfl (gx_okr rfl gx_catv_r gx_ok0)) ?_
      refine gx_sub [1, 2, 0] rfl ?_
      exact w_X9_isWord_b28 hlt C hx gx_fuel hf
    · refine gx_icmp_eq_f (tgt := 26) C dX9_isWord_21 rfl c5 ?_
      refine gx_iconst (v := 0) C dX9_isWord_24 rfl ?_
      obtain rfl := Option.some.inj hf
      exact gx_zret (b := false) C dX9_isWord_25
  · refine gx_icmp_ne_t (tgt := 24) C dX9_isWord_5 rfl c1 ?_
    refine gx_iconst (v := 0) C dX9_isWord_24 rfl ?_
    obtain rfl := Option.some.inj hf
    exact gx_zret (b := false) C dX9_isWord_25
theorem w_X9_isWord {l : Launch} (hlt : l.stackTraces = false) {D : gx_D} {b : HX} {o : Nat} {h : MS} {p1 : Option Nat} {r : Bool} (hf : f_X9_isWord D b o h p1 = some r) : gx_Met l yX9_isWord cX9_isWord 3 (some .boolean) 5 109 D [(va_rf (some o)), (va_rf p1)] (mh b o h) (some (.int (b2i r))) (mh b o h) :=
  gx_ofG gz_495 (by simp only [gx_lsr, gx_lsi, gx_lsj, gx_ls0]; decide) gx_le.rf (fun p e R s m args below meth c C hx => by
    simp only [gx_lar, gx_lai, gx_laj, gx_la0, Nat.reduceAdd]
    exact w_X9_isWord_b hlt C hx hf)
def f_X9_byteAt (D : gx_D) (b : HX) (o : Nat) (h : MS) (p1 : Int32) : Option Int32 :=
  if (h.1 13) ≤ p1 then
  some ((-1 : Int32))
  else
  (ms_ai h 6 p1).bind fun x2 =>
  some x2
theorem w_X9_byteAt_b {l : Launch} (hlt : l.stackTraces = false) {p : Program} {e : Env} {R : Room} {s : State} {m : MethodId} {args : Array Value} {below : List Frame} {meth : Method} {c : Code} {D : gx_D} {b : HX} {o : Nat} {h0 : MS} {r : Int32} (C : gx_Ctx p R s m args meth c "ContractMachineModel" cX9_byteAt 2 (some .int) 1 24 D (mh b o h0) (mh b o h0)) (hx : meth.name = "byteAt") {p1 : Int32} (hf : f_X9_byteAt D b o h0 p1 = some r) : gx_G p l e R s m args below meth c D (mh b o h0) (mh b o h0) 2 (gx_MQ below args s D (mh b o h0) (mh b o h0) (some (.int r))) 0 [(0, (va_rf (some o))), (1, (.int p1))] [] (mh b o h0) := by
  unfold f_X9_byteAt at hf
  refine gx_iload_n C dX9_byteAt_0 1 rfl ?_
  refine gx_aload_n C dX9_byteAt_1 0 rfl ?_
  refine gx_gi C (mh_gi (k := 13) rfl) gz_520 q2647 dX9_byteAt_2 ?_
  replace hf := gx_ite hf
  rcases hf with ⟨c1, hf⟩ | ⟨c1, hf⟩
  · refine gx_icmp_ge_t (tgt := 17) C dX9_byteAt_5 rfl c1 ?_
    refine gx_iconst (v := -1) C dX9_byteAt_17 rfl ?_
    obtain rfl := Option.some.inj hf
    exact gx_iret C dX9_byteAt_18
  · refine gx_icmp_ge_f (tgt := 17) C dX9_byteAt_5 rfl c1 ?_
    refine gx_aload_n C dX9_byteAt_8 0 rfl ?_
    refine gx_gr C (mh_gr (k := 12) rfl) gz_503 q2646 dX9_byteAt_9 ?_
    refine gx_iload_n C dX9_byteAt_12 1 rfl ?_
    replace hf := gx_bs hf
    obtain ⟨x2, g3, hf⟩ := hf
    refine gx_iald C (mh_ai g3) dX9_byteAt_13 ?_
    refine gx_goto (tgt := 18) C dX9_byteAt_14 rfl ?_
    obtain rfl := Option.some.inj hf
    exact gx_iret C dX9_byteAt_18
theorem w_X9_byteAt {l : Launch} (hlt : l.stackTraces = false) {D : gx_D} {b : HX} {o : Nat} {h : MS} {p1 : Int32} {r : Int32} (hf : f_X9_byteAt D b o h p1 = some r) : gx_Met l yX9_byteAt cX9_byteAt 2 (some .int) 1 24 D [(va_rf (some o)), (.int p1)] (mh b o h) (some (.int r)) (mh b o h) :=
  gx_ofG gz_495 (by simp only [gx_lsr, gx_lsi, gx_lsj, gx_ls0]; decide) gx_le.rf (fun p e R s m args below meth c C hx => by
    simp only [gx_lar, gx_lai, gx_laj, gx_la0, Nat.reduceAdd]
    exact w_X9_byteAt_b hlt C hx hf)
def f_X9_isLetter (D : gx_D) (b : HX) (o : Nat) (h : MS) (p1 : Int32) : Option Bool :=
  (f_X9_byteAt D b o h p1).bind fun x2 =>
  (f_X9_inRange D b o h x2 (97 : Int32) (122 : Int32)).bind fun b4 =>
  some b4
theorem w_X9_isLetter_b {l : Launch} (hlt : l.stackTraces = false) {p : Program} {e : Env} {R : Room} {s : State} {m : MethodId} {args : Array Value} {below : List Frame} {meth : Method} {c : Code} {D : gx_D} {b : HX} {o : Nat} {h0 : MS} {r : Bool} (C : gx_Ctx p R s m args meth c "ContractMachineModel" cX9_isLetter 2 (some .boolean) 2 46 D (mh b o h0) (mh b o h0)) (hx : meth.name = "isLetter") {p1 : Int32} (hf : f_X9_isLetter D b o h0 p1 = some r) : gx_G p l e R s m args below meth c D (mh b o h0) (mh b o h0) 2 (gx_MQ below args s D (mh b o h0) (mh b o h0) (some (.int (b2i r)))) 0 [(0, (va_rf (some o))), (1, (.int p1))] [] (mh b o h0) := by
  unfold f_X9_isLetter at hf
  refine gx_aload_n C dX9_isLetter_0 0 rfl ?_
  refine gx_iload_n C dX9_isLetter_1 1 rfl ?_
  replace hf := gx_bs hf
  obtain ⟨x2, g1, hf⟩ := hf
  refine gx_callV (st := []) C (w_X9_byteAt hlt g1) mh_is gz_497 rfl (lw_V q2763 q2765 qs62 q151 q2766) gz_536 (by decide) rfl rfl (gx_catn (Nat.le_of_ble_eq_true rfl)) dX9_isLetter_2 ?_
  refine gx_bipush (v := 97) C dX9_isLetter_5 rfl ?_
  refine gx_bipush (v := 122) C dX9_isLetter_7 rfl ?_
  replace hf := gx_bs hf
  obtain ⟨b4, g3, hf⟩ := hf
  refine gx_callS (st := []) C (w_X9_inRange hlt g3) (lw_S q2745 q2746 q151 q2747) gz_522 (by decide) rfl rfl (gx_catn (Nat.le_of_ble_eq_true rfl)) dX9_isLetter_9 ?_
  obtain rfl := Option.some.inj hf
  exact gx_zret (b := _) C dX9_isLetter_12
theorem w_X9_isLetter {l : Launch} (hlt : l.stackTraces = false) {D : gx_D} {b : HX} {o : Nat} {h : MS} {p1 : Int32} {r : Bool} (hf : f_X9_isLetter D b o h p1 = some r) : gx_Met l yX9_isLetter cX9_isLetter 2 (some .boolean) 2 46 D [(va_rf (some o)), (.int p1)] (mh b o h) (some (.int (b2i r))) (mh b o h) :=
  gx_ofG gz_495 (by simp only [gx_lsr, gx_lsi, gx_lsj, gx_ls0]; decide) gx_le.rf (fun p e R s m args below meth c C hx => by
    simp only [gx_lar, gx_lai, gx_laj, gx_la0, Nat.reduceAdd]
    exact w_X9_isLetter_b hlt C hx hf)
def f_X9_advanceToken_b26 (D : gx_D) (b : HX) (o : Nat) (k0 : MS → Option MS) (h : MS) : Option MS :=
  (ms_pf h 18 ((h.1 18) + (1 : Int32))).bind fun h4 =>
  k0 h4
theorem w_X9_advanceToken_b26 {l : Launch} (hlt : l.stackTraces = false) {p : Program} {e : Env} {R : Room} {s : State} {m : MethodId} {args : Array Value} {below : List Frame} {meth : Method} {c : Code} {D : gx_D} {b : HX} {o : Nat} {h0 : MS} {hz : MS} (C : gx_Ctx p R s m args meth c "ContractMachineModel" cX9_advanceToken 2 none 3 67 D (mh b o h0) (mh b o hz)) (hx : meth.name = "advanceToken")  {k0 : MS → Option MS} (wk0 : ∀ ⦃h : MS⦄, k0 h = some hz → gx_G p l e R s m args below meth c D (mh b o h0) (mh b o hz) 2 (gx_MQ below args s D (mh b o h0) (mh b o hz) none) 0 [(0, (va_rf (some o)))] [] (mh b o h)) {h : MS} (hf : f_X9_advanceToken_b26 D b o k0 h = some hz) : gx_G p l e R s m args below meth c D (mh b o h0) (mh b o hz) 2 (gx_MQ below args s D (mh b o h0) (mh b o hz) none) 26 [(0, (va_rf (some o)))] [] (mh b o h) := by
  unfold f_X9_advanceToken_b26 at hf
  refine gx_aload_n C dX9_advanceToken_26 0 rfl ?_
  refine gx_dup C dX9_advanceToken_27 rfl ?_
  refine gx_gi C (mh_gi (k := 18) rfl) gz_535 q2652 dX9_advanceToken_28 ?_
  refine gx_iconst (v := 1) C dX9_advanceToken_31 rfl ?_
  refine gx_iadd C dX9_advanceToken_32 ?_
  replace hf := gx_bs hf
  obtain ⟨h4, g5, hf⟩ := hf
  refine gx_putv C (mh_pg (by decide) (fun _ _ => mh_p18) g5) gz_535 gz_1 rfl rfl q2652 dX9_advanceToken_33 ?_
  refine gx_goto (tgt := 0) C dX9_advanceToken_36 rfl ?_
  refine gx_sub [0] rfl ?_
  exact wk0 hf
def f_X9_advanceToken_b129 (D : gx_D) (b : HX) (o : Nat) (h : MS) (s0 : Int32) : Option MS :=
  (ms_pf h 21 s0).bind fun h25 =>
  some h25
theorem w_X9_advanceToken_b129 {l : Launch} (hlt : l.stackTraces = false) {p : Program} {e : Env} {R : Room} {s : State} {m : MethodId} {args : Array Value} {below : List Frame} {meth : Method} {c : Code} {D : gx_D} {b : HX} {o : Nat} {h0 : MS} {hz : MS} (C : gx_Ctx p R s m args meth c "ContractMachineModel" cX9_advanceToken 2 none 3 67 D (mh b o h0) (mh b o hz)) (hx : meth.name = "advanceToken")  {h : MS} {s0 : Int32} (hf : f_X9_advanceToken_b129 D b o h s0 = some hz) : gx_G p l e R s m args below meth c D (mh b o h0) (mh b o hz) 2 (gx_MQ below args s D (mh b o h0) (mh b o hz) none) 129 [] [(.int s0), (va_rf (some o))] (mh b o h) := by
  unfold f_X9_advanceToken_b129 at hf
  replace hf := gx_bs hf
  obtain ⟨h25, g26, hf⟩ := hf
  refine gx_putv C (mh_pg (by decide) (fun _ _ => mh_p21) g26) gz_534 gz_1 rfl rfl q2655 dX9_advanceToken_129 ?_
  refine gx_goto (tgt := 270) C dX9_advanceToken_132 rfl ?_
  obtain rfl := Option.some.inj hf
  exact gx_vret C dX9_advanceToken_270
def f_X9_advanceToken_b109 (D : gx_D) (b : HX) (o : Nat) (h : MS) : Option MS :=
  if ((h.1 18) - (h.1 19)) ≤ (8 : Int32) then
  f_X9_advanceToken_b129 D b o h ((1 : Int32))
  else
  f_X9_advanceToken_b129 D b o h ((4 : Int32))
theorem w_X9_advanceToken_b109 {l : Launch} (hlt : l.stackTraces = false) {p : Program} {e : Env} {R : Room} {s : State} {m : MethodId} {args : Array Value} {below : List Frame} {meth : Method} {c : Code} {D : gx_D} {b : HX} {o : Nat} {h0 : MS} {hz : MS} (C : gx_Ctx p R s m args meth c "ContractMachineModel" cX9_advanceToken 2 none 3 67 D (mh b o h0) (mh b o hz)) (hx : meth.name = "advanceToken")  {h : MS} (hf : f_X9_advanceToken_b109 D b o h = some hz) : gx_G p l e R s m args below meth c D (mh b o h0) (mh b o hz) 2 (gx_MQ below args s D (mh b o h0) (mh b o hz) none) 109 [(0, (va_rf (some o)))] [] (mh b o h) := by
  unfold f_X9_advanceToken_b109 at hf
  refine gx_aload_n C dX9_advanceToken_109 0 rfl ?_
  refine gx_aload_n C dX9_advanceToken_110 0 rfl ?_
  refine gx_gi C (mh_gi (k := 18) rfl) gz_535 q2652 dX9_advanceToken_111 ?_
  refine gx_aload_n C dX9_advanceToken_114 0 rfl ?_
  refine gx_gi C (mh_gi (k := 19) rfl) gz_526 q2653 dX9_advanceToken_115 ?_
  refine gx_isub C dX9_advanceToken_118 ?_
  refine gx_bipush (v := 8) C dX9_advanceToken_119 rfl ?_
  replace hf := gx_ite hf
  rcases hf with ⟨c24, hf⟩ | ⟨c24, hf⟩
  · refine gx_icmp_le_t (tgt := 128) C dX9_advanceToken_121 rfl c24 ?_
    refine gx_iconst (v := 1) C dX9_advanceToken_128 rfl ?_
    refine gx_sub [] rfl ?_
    exact w_X9_advanceToken_b129 hlt C hx hf
  · refine gx_icmp_le_f (tgt := 128) C dX9_advanceToken_121 rfl c24 ?_
    refine gx_iconst (v := 4) C dX9_advanceToken_124 rfl ?_
    refine gx_goto (tgt := 129) C dX9_advanceToken_125 rfl ?_
    refine gx_sub [] rfl ?_
    exact w_X9_advanceToken_b129 hlt C hx hf
def f_X9_advanceToken_b85 (D : gx_D) (b : HX) (o : Nat) : Nat → MS → Option MS
  | 0, _ => none
  | n + 1, h =>
  (f_X9_isLetter D b o h (h.1 18)).bind fun b20 =>
  if b20 = true then
  (ms_pf h 18 ((h.1 18) + (1 : Int32))).bind fun h22 =>
  (f_X9_advanceToken_b85 D b o n) h22
  else
  f_X9_advanceToken_b109 D b o h
theorem w_X9_advanceToken_b85 {l : Launch} (hlt : l.stackTraces = false) {p : Program} {e : Env} {R : Room} {s : State} {m : MethodId} {args : Array Value} {below : List Frame} {meth : Method} {c : Code} {D : gx_D} {b : HX} {o : Nat} {h0 : MS} {hz : MS} (C : gx_Ctx p R s m args meth c "ContractMachineModel" cX9_advanceToken 2 none 3 67 D (mh b o h0) (mh b o hz)) (hx : meth.name = "advanceToken")  : ∀ (n : Nat) ⦃h : MS⦄, f_X9_advanceToken_b85 D b o n h = some hz → gx_G p l e R s m args below meth c D (mh b o h0) (mh b o hz) 2 (gx_MQ below args s D (mh b o h0) (mh b o hz) none) 85 [(0, (va_rf (some o)))] [] (mh b o h) := by
  intro n
  induction n with
  | zero => intro h hf; unfold f_X9_advanceToken_b85 at hf; cases hf
  | succ n wk85 =>
    intro h hf
    unfold f_X9_advanceToken_b85 at hf
    refine gx_aload_n C dX9_advanceToken_85 0 rfl ?_
    refine gx_aload_n C dX9_advanceToken_86 0 rfl ?_
    refine gx_gi C (mh_gi (k := 18) rfl) gz_535 q2652 dX9_advanceToken_87 ?_
    replace hf := gx_bs hf
    obtain ⟨b20, g19, hf⟩ := hf
    refine gx_callV (st := []) C (w_X9_isLetter hlt g19) mh_is gz_497 rfl (lw_V q2767 q2769 qs63 q151 q2770) gz_538 (by decide) rfl rfl (gx_catn (Nat.le_of_ble_eq_true rfl)) dX9_advanceToken_90 ?_
    replace hf := gx_ite hf
    rcases hf with ⟨c21, hf⟩ | ⟨c21, hf⟩
    · refine gx_ifz_eq_f (tgt := 109) C dX9_advanceToken_93 rfl c21 ?_
      refine gx_aload_n C dX9_advanceToken_96 0 rfl ?_
      refine gx_dup C dX9_advanceToken_97 rfl ?_
      refine gx_gi C (mh_gi (k := 18) rfl) gz_535 q2652 dX9_advanceToken_98 ?_
      refine gx_iconst (v := 1) C dX9_advanceToken_101 rfl ?_
      refine gx_iadd C dX9_advanceToken_102 ?_
      replace hf := gx_bs hf
      obtain ⟨h22, g23, hf⟩ := hf
      refine gx_putv C (mh_pg (by decide) (fun _ _ => mh_p18) g23) gz_535 gz_1 rfl rfl q2652 dX9_advanceToken_103 ?_
      refine gx_goto (tgt := 85) C dX9_advanceToken_106 rfl ?_
      refine gx_sub [0] rfl ?_
      exact wk85 hf
    · refine gx_ifz_eq_t (tgt := 109) C dX9_advanceToken_93 rfl c21 ?_
      refine gx_sub [0] rfl ?_
      exact w_X9_advanceToken_b109 hlt C hx hf
def f_X9_advanceToken_b204 (D : gx_D) (b : HX) (o : Nat) (k146 : MS → Option MS) (h : MS) (s0 : Int32) : Option MS :=
  (ms_pf h 20 s0).bind fun h36 =>
  (ms_pf h36 18 ((h36.1 18) + (1 : Int32))).bind fun h37 =>
  k146 h37
theorem w_X9_advanceToken_b204 {l : Launch} (hlt : l.stackTraces = false) {p : Program} {e : Env} {R : Room} {s : State} {m : MethodId} {args : Array Value} {below : List Frame} {meth : Method} {c : Code} {D : gx_D} {b : HX} {o : Nat} {h0 : MS} {hz : MS} (C : gx_Ctx p R s m args meth c "ContractMachineModel" cX9_advanceToken 2 none 3 67 D (mh b o h0) (mh b o hz)) (hx : meth.name = "advanceToken")  {k146 : MS → Option MS} (wk146 : ∀ ⦃h : MS⦄, k146 h = some hz → gx_G p l e R s m args below meth c D (mh b o h0) (mh b o hz) 2 (gx_MQ below args s D (mh b o h0) (mh b o hz) none) 146 [(0, (va_rf (some o)))] [] (mh b o h)) {h : MS} {s0 : Int32} (hf : f_X9_advanceToken_b204 D b o k146 h s0 = some hz) : gx_G p l e R s m args below meth c D (mh b o h0) (mh b o hz) 2 (gx_MQ below args s D (mh b o h0) (mh b o hz) none) 204 [(0, (va_rf (some o)))] [(.int s0), (va_rf (some o))] (mh b o h) := by
  unfold f_X9_advanceToken_b204 at hf
  replace hf := gx_bs hf
  obtain ⟨h36, g39, hf⟩ := hf
  refine gx_putv C (mh_pg (by decide) (fun _ _ => mh_p20) g39) gz_537 gz_1 rfl rfl q2654 dX9_advanceToken_204 ?_
  refine gx_aload_n C dX9_advanceToken_207 0 rfl ?_
  refine gx_dup C dX9_advanceToken_208 rfl ?_
  refine gx_gi C (mh_gi (k := 18) rfl) gz_535 q2652 dX9_advanceToken_209 ?_
  refine gx_iconst (v := 1) C dX9_advanceToken_212 rfl ?_
  refine gx_iadd C dX9_advanceToken_213 ?_
  replace hf := gx_bs hf
  obtain ⟨h37, g38, hf⟩ := hf
  refine gx_putv C (mh_pg (by decide) (fun _ _ => mh_p18) g38) gz_535 gz_1 rfl rfl q2652 dX9_advanceToken_214 ?_
  refine gx_goto (tgt := 146) C dX9_advanceToken_217 rfl ?_
  refine gx_sub [0] rfl ?_
  exact wk146 hf
def f_X9_advanceToken_b239 (D : gx_D) (b : HX) (o : Nat) (h : MS) (s0 : Int32) : Option MS :=
  (ms_pf h 21 s0).bind fun h43 =>
  some h43
theorem w_X9_advanceToken_b239 {l : Launch} (hlt : l.stackTraces = false) {p : Program} {e : Env} {R : Room} {s : State} {m : MethodId} {args : Array Value} {below : List Frame} {meth : Method} {c : Code} {D : gx_D} {b : HX} {o : Nat} {h0 : MS} {hz : MS} (C : gx_Ctx p R s m args meth c "ContractMachineModel" cX9_advanceToken 2 none 3 67 D (mh b o h0) (mh b o hz)) (hx : meth.name = "advanceToken")  {h : MS} {s0 : Int32} (hf : f_X9_advanceToken_b239 D b o h s0 = some hz) : gx_G p l e R s m args below meth c D (mh b o h0) (mh b o hz) 2 (gx_MQ below args s D (mh b o h0) (mh b o hz) none) 239 [] [(.int s0), (va_rf (some o))] (mh b o h) := by
  unfold f_X9_advanceToken_b239 at hf
  replace hf := gx_bs hf
  obtain ⟨h43, g44, hf⟩ := hf
  refine gx_putv C (mh_pg (by decide) (fun _ _ => mh_p21) g44) gz_534 gz_1 rfl rfl q2655 dX9_advanceToken_239 ?_
  refine gx_goto (tgt := 270) C dX9_advanceToken_242 rfl ?_
  obtain rfl := Option.some.inj hf
  exact gx_vret C dX9_advanceToken_270
def f_X9_advanceToken_b220 (D : gx_D) (b : HX) (o : Nat) (h : MS) : Option MS :=
  if ((h.1 18) - (h.1 19)) ≤ (3 : Int32) then
  f_X9_advanceToken_b239 D b o h ((2 : Int32))
  else
  f_X9_advanceToken_b239 D b o h ((4 : Int32))
theorem w_X9_advanceToken_b220 {l : Launch} (hlt : l.stackTraces = false) {p : Program} {e : Env} {R : Room} {s : State} {m : MethodId} {args : Array Value} {below : List Frame} {meth : Method} {c : Code} {D : gx_D} {b : HX} {o : Nat} {h0 : MS} {hz : MS} (C : gx_Ctx p R s m args meth c "ContractMachineModel" cX9_advanceToken 2 none 3 67 D (mh b o h0) (mh b o hz)) (hx : meth.name = "advanceToken")  {h : MS} (hf : f_X9_advanceToken_b220 D b o h = some hz) : gx_G p l e R s m args below meth c D (mh b o h0) (mh b o hz) 2 (gx_MQ below args s D (mh b o h0) (mh b o hz) none) 220 [(0, (va_rf (some o)))] [] (mh b o h) := by
  unfold f_X9_advanceToken_b220 at hf
  refine gx_aload_n C dX9_advanceToken_220 0 rfl ?_
  refine gx_aload_n C dX9_advanceToken_221 0 rfl ?_
  refine gx_gi C (mh_gi (k := 18) rfl) gz_535 q2652 dX9_advanceToken_222 ?_
  refine gx_aload_n C dX9_advanceToken_225 0 rfl ?_
  refine gx_gi C (mh_gi (k := 19) rfl) gz_526 q2653 dX9_advanceToken_226 ?_
  refine gx_isub C dX9_advanceToken_229 ?_
  refine gx_iconst (v := 3) C dX9_advanceToken_230 rfl ?_
  replace hf := gx_ite hf
  rcases hf with ⟨c42, hf⟩ | ⟨c42, hf⟩
  · refine gx_icmp_le_t (tgt := 238) C dX9_advanceToken_231 rfl c42 ?_
    refine gx_iconst (v := 2) C dX9_advanceToken_238 rfl ?_
    refine gx_sub [] rfl ?_
    exact w_X9_advanceToken_b239 hlt C hx hf
  · refine gx_icmp_le_f (tgt := 238) C dX9_advanceToken_231 rfl c42 ?_
    refine gx_iconst (v := 4) C dX9_advanceToken_234 rfl ?_
    refine gx_goto (tgt := 239) C dX9_advanceToken_235 rfl ?_
    refine gx_sub [] rfl ?_
    exact w_X9_advanceToken_b239 hlt C hx hf
def f_X9_advanceToken_b146 (D : gx_D) (b : HX) (o : Nat) : Nat → MS → Option MS
  | 0, _ => none
  | n + 1, h =>
  (f_X9_byteAt D b o h (h.1 18)).bind fun x31 =>
  (f_X9_inRange D b o h x31 (48 : Int32) (57 : Int32)).bind fun b33 =>
  if b33 = true then
  if (3 : Int32) ≤ ((h.1 18) - (h.1 19)) then
  f_X9_advanceToken_b204 D b o (f_X9_advanceToken_b146 D b o n) h ((h.1 20))
  else
  (f_X9_byteAt D b o h (h.1 18)).bind fun x41 =>
  f_X9_advanceToken_b204 D b o (f_X9_advanceToken_b146 D b o n) h (((((10 : Int32) * (h.1 20)) + x41) - (48 : Int32)))
  else
  f_X9_advanceToken_b220 D b o h
theorem w_X9_advanceToken_b146 {l : Launch} (hlt : l.stackTraces = false) {p : Program} {e : Env} {R : Room} {s : State} {m : MethodId} {args : Array Value} {below : List Frame} {meth : Method} {c : Code} {D : gx_D} {b : HX} {o : Nat} {h0 : MS} {hz : MS} (C : gx_Ctx p R s m args meth c "ContractMachineModel" cX9_advanceToken 2 none 3 67 D (mh b o h0) (mh b o hz)) (hx : meth.name = "advanceToken")  : ∀ (n : Nat) ⦃h : MS⦄, f_X9_advanceToken_b146 D b o n h = some hz → gx_G p l e R s m args below meth c D (mh b o h0) (mh b o hz) 2 (gx_MQ below args s D (mh b o h0) (mh b o hz) none) 146 [(0, (va_rf (some o)))] [] (mh b o h) := by
  intro n
  induction n with
  | zero => intro h hf; unfold f_X9_advanceToken_b146 at hf; cases hf
  | succ n wk146 =>
    intro h hf
    unfold f_X9_advanceToken_b146 at hf
    refine gx_aload_n C dX9_advanceToken_146 0 rfl ?_
    refine gx_aload_n C dX9_advanceToken_147 0 rfl ?_
    refine gx_gi C (mh_gi (k := 18) rfl) gz_535 q2652 dX9_advanceToken_148 ?_
    replace hf := gx_bs hf
    obtain ⟨x31, g30, hf⟩ := hf
    refine gx_callV (st := []) C (w_X9_byteAt hlt g30) mh_is gz_497 rfl (lw_V q2763 q2765 qs62 q151 q2766) gz_536 (by decide) rfl rfl (gx_catn (Nat.le_of_ble_eq_true rfl)) dX9_advanceToken_151 ?_
    refine gx_bipush (v := 48) C dX9_advanceToken_154 rfl ?_
    refine gx_bipush (v := 57) C dX9_advanceToken_156 rfl ?_
    replace hf := gx_bs hf
    obtain ⟨b33, g32, hf⟩ := hf
    refine gx_callS (st := []) C (w_X9_inRange hlt g32) (lw_S q2745 q2746 q151 q2747) gz_522 (by decide) rfl rfl (gx_catn (Nat.le_of_ble_eq_true rfl)) dX9_advanceToken_158 ?_
    replace hf := gx_ite hf
    rcases hf with ⟨c34, hf⟩ | ⟨c34, hf⟩
    · refine gx_ifz_eq_f (tgt := 220) C dX9_advanceToken_161 rfl c34 ?_
      refine gx_aload_n C dX9_advanceToken_164 0 rfl ?_
      refine gx_aload_n C dX9_advanceToken_165 0 rfl ?_
      refine gx_gi C (mh_gi (k := 18) rfl) gz_535 q2652 dX9_advanceToken_166 ?_
      refine gx_aload_n C dX9_advanceToken_169 0 rfl ?_
      refine gx_gi C (mh_gi (k := 19) rfl) gz_526 q2653 dX9_advanceToken_170 ?_
      refine gx_isub C dX9_advanceToken_173 ?_
      refine gx_iconst (v := 3) C dX9_advanceToken_174 rfl ?_
      replace hf := gx_ite hf
      rcases hf with ⟨c35, hf⟩ | ⟨c35, hf⟩
      · refine gx_icmp_ge_t (tgt := 200) C dX9_advanceToken_175 rfl c35 ?_
        refine gx_aload_n C dX9_advanceToken_200 0 rfl ?_
        refine gx_gi C (mh_gi (k := 20) rfl) gz_537 q2654 dX9_advanceToken_201 ?_
        refine gx_sub [0] rfl ?_
        exact w_X9_advanceToken_b204 hlt C hx wk146 hf
      · refine gx_icmp_ge_f (tgt := 200) C dX9_advanceToken_175 rfl c35 ?_
        refine gx_bipush (v := 10) C dX9_advanceToken_178 rfl ?_
        refine gx_aload_n C dX9_advanceToken_180 0 rfl ?_
        refine gx_gi C (mh_gi (k := 20) rfl) gz_537 q2654 dX9_advanceToken_181 ?_
        refine gx_imul C dX9_advanceToken_184 ?_
        refine gx_aload_n C dX9_advanceToken_185 0 rfl ?_
        refine gx_aload_n C dX9_advanceToken_186 0 rfl ?_
        refine gx_gi C (mh_gi (k := 18) rfl) gz_535 q2652 dX9_advanceToken_187 ?_
        replace hf := gx_bs hf
        obtain ⟨x41, g40, hf⟩ := hf
        refine gx_callV (st := [(.int ((10 : Int32) * (h.1 20))), (va_rf (some o))]) C (w_X9_byteAt hlt g40) mh_is gz_497 rfl (lw_V q2763 q2765 qs62 q151 q2766) gz_536 (by decide) rfl rfl (gx_catn (Nat.le_of_ble_eq_true rfl)) dX9_advanceToken_190 ?_
        refine gx_iadd C dX9_advanceToken_193 ?_
        refine gx_bipush (v := 48) C dX9_advanceToken_194 rfl ?_
        refine gx_isub C dX9_advanceToken_196 ?_
        refine gx_goto (tgt := 204) C dX9_advanceToken_197 rfl ?_
        refine gx_sub [0] rfl ?_
        exact w_X9_advanceToken_b204 hlt C hx wk146 hf
    · refine gx_ifz_eq_t (tgt := 220) C dX9_advanceToken_161 rfl c34 ?_
      refine gx_sub [0] rfl ?_
      exact w_X9_advanceToken_b220 hlt C hx hf
def f_X9_advanceToken_b257 (D : gx_D) (b : HX) (o : Nat) (h : MS) (s0 : Int32) : Option MS :=
  (ms_pf h 21 s0).bind fun h46 =>
  (ms_pf h46 18 ((h46.1 18) + (1 : Int32))).bind fun h47 =>
  some h47
theorem w_X9_advanceToken_b257 {l : Launch} (hlt : l.stackTraces = false) {p : Program} {e : Env} {R : Room} {s : State} {m : MethodId} {args : Array Value} {below : List Frame} {meth : Method} {c : Code} {D : gx_D} {b : HX} {o : Nat} {h0 : MS} {hz : MS} (C : gx_Ctx p R s m args meth c "ContractMachineModel" cX9_advanceToken 2 none 3 67 D (mh b o h0) (mh b o hz)) (hx : meth.name = "advanceToken")  {h : MS} {s0 : Int32} (hf : f_X9_advanceToken_b257 D b o h s0 = some hz) : gx_G p l e R s m args below meth c D (mh b o h0) (mh b o hz) 2 (gx_MQ below args s D (mh b o h0) (mh b o hz) none) 257 [(0, (va_rf (some o)))] [(.int s0), (va_rf (some o))] (mh b o h) := by
  unfold f_X9_advanceToken_b257 at hf
  replace hf := gx_bs hf
  obtain ⟨h46, g49, hf⟩ := hf
  refine gx_putv C (mh_pg (by decide) (fun _ _ => mh_p21) g49) gz_534 gz_1 rfl rfl q2655 dX9_advanceToken_257 ?_
  refine gx_aload_n C dX9_advanceToken_260 0 rfl ?_
  refine gx_dup C dX9_advanceToken_261 rfl ?_
  refine gx_gi C (mh_gi (k := 18) rfl) gz_535 q2652 dX9_advanceToken_262 ?_
  refine gx_iconst (v := 1) C dX9_advanceToken_265 rfl ?_
  refine gx_iadd C dX9_advanceToken_266 ?_
  replace hf := gx_bs hf
  obtain ⟨h47, g48, hf⟩ := hf
  refine gx_putv C (mh_pg (by decide) (fun _ _ => mh_p18) g48) gz_535 gz_1 rfl rfl q2652 dX9_advanceToken_267 ?_
  obtain rfl := Option.some.inj hf
  exact gx_vret C dX9_advanceToken_270
def f_X9_advanceToken_b39 (D : gx_D) (b : HX) (o : Nat) (h : MS) : Option MS :=
  (ms_pf h 19 (h.1 18)).bind fun h9 =>
  (f_X9_byteAt D b o h9 (h9.1 18)).bind fun x11 =>
  (ms_pf h9 20 (0 : Int32)).bind fun h12 =>
  if x11 = (-1 : Int32) then
  (ms_pf h12 21 (0 : Int32)).bind fun h14 =>
  some h14
  else
  (f_X9_isLetter D b o h12 (h12.1 18)).bind fun b17 =>
  if b17 = true then
  f_X9_advanceToken_b85 D b o gx_fuel h12
  else
  (f_X9_inRange D b o h12 x11 (48 : Int32) (57 : Int32)).bind fun b28 =>
  if b28 = true then
  f_X9_advanceToken_b146 D b o gx_fuel h12
  else
  if x11 = (59 : Int32) then
  f_X9_advanceToken_b257 D b o h12 ((3 : Int32))
  else
  f_X9_advanceToken_b257 D b o h12 ((4 : Int32))
theorem w_X9_advanceToken_b39 {l : Launch} (hlt : l.stackTraces = false) {p : Program} {e : Env} {R : Room} {s : State} {m : MethodId} {args : Array Value} {below : List Frame} {meth : Method} {c : Code} {D : gx_D} {b : HX} {o : Nat} {h0 : MS} {hz : MS} (C : gx_Ctx p R s m args meth c "ContractMachineModel" cX9_advanceToken 2 none 3 67 D (mh b o h0) (mh b o hz)) (hx : meth.name = "advanceToken")  {h : MS} (hf : f_X9_advanceToken_b39 D b o h = some hz) : gx_G p l e R s m args below meth c D (mh b o h0) (mh b o hz) 2 (gx_MQ below args s D (mh b o h0) (mh b o hz) none) 39 [(0, (va_rf (some o)))] [] (mh b o h) := by
  unfold f_X9_advanceToken_b39 at hf
  refine gx_aload_n C dX9_advanceToken_39 0 rfl ?_
  refine gx_aload_n C dX9_advanceToken_40 0 rfl ?_
  refine gx_gi C (mh_gi (k := 18) rfl) gz_535 q2652 dX9_advanceToken_41 ?_
  replace hf := gx_bs hf
  obtain ⟨h9, g51, hf⟩ := hf
  refine gx_putv C (mh_pg (by decide) (fun _ _ => mh_p19) g51) gz_526 gz_1 rfl rfl q2653 dX9_advanceToken_44 ?_
  refine gx_aload_n C dX9_advanceToken_47 0 rfl ?_
  refine gx_aload_n C dX9_advanceToken_48 0 rfl ?_
  refine gx_gi C (mh_gi (k := 18) rfl) gz_535 q2652 dX9_advanceToken_49 ?_
  replace hf := gx_bs hf
  obtain ⟨x11, g10, hf⟩ := hf
  refine gx_callV (st := []) C (w_X9_byteAt hlt g10) mh_is gz_497 rfl (lw_V q2763 q2765 qs62 q151 q2766) gz_536 (by decide) rfl rfl (gx_catn (Nat.le_of_ble_eq_true rfl)) dX9_advanceToken_52 ?_
  refine gx_istn C dX9_advanceToken_55 1 rfl (by decide) [0]  rfl (gx_okr rfl gx_catv_r gx_ok0) ?_
  refine gx_aload_n C dX9_advanceToken_56 1 rfl ?_
  refine gx_iconst (v := 0) C dX9_advanceToken_57 rfl ?_
  replace hf := gx_bs hf
  obtain ⟨h12, g50, hf⟩ := hf
  refine gx_putv C (mh_pg (by decide) (fun _ _ => mh_p20) g50) gz_537 gz_1 rfl rfl q2654 dX9_advanceToken_58 ?_
  refine gx_iload_n C dX9_advanceToken_61 0 rfl ?_
  refine gx_iconst (v := -1) C dX9_advanceToken_62 rfl ?_
  replace hf := gx_ite hf
  rcases hf with ⟨c13, hf⟩ | ⟨c13, hf⟩
  · refine gx_icmp_ne_f (tgt := 74) C dX9_advanceToken_63 rfl c13 ?_
    refine gx_aload_n C dX9_advanceToken_66 1 rfl ?_
    refine gx_iconst (v := 0) C dX9_advanceToken_67 rfl ?_
    replace hf := gx_bs hf
    obtain ⟨h14, g15, hf⟩ := hf
    refine gx_putv C (mh_pg (by decide) (fun _ _ => mh_p21) g15) gz_534 gz_1 rfl rfl q2655 dX9_advanceToken_68 ?_
    refine gx_goto (tgt := 270) C dX9_advanceToken_71 rfl ?_
    obtain rfl := Option.some.inj hf
    exact gx_vret C dX9_advanceToken_270
  · refine gx_icmp_ne_t (tgt := 74) C dX9_advanceToken_63 rfl c13 ?_
    refine gx_aload_n C dX9_advanceToken_74 1 rfl ?_
    refine gx_aload_n C dX9_advanceToken_75 1 rfl ?_
    refine gx_gi C (mh_gi (k := 18) rfl) gz_535 q2652 dX9_advanceToken_76 ?_
    replace hf := gx_bs hf
    obtain ⟨b17, g16, hf⟩ := hf
    refine gx_callV (st := []) C (w_X9_isLetter hlt g16) mh_is gz_497 rfl (lw_V q2767 q2769 qs63 q151 q2770) gz_538 (by decide) rfl rfl (gx_catn (Nat.le_of_ble_eq_true rfl)) dX9_advanceToken_79 ?_
    replace hf := gx_ite hf
    rcases hf with ⟨c18, hf⟩ | ⟨c18, hf⟩
    · refine gx_ifz_eq_f (tgt := 135) C dX9_advanceToken_82 rfl c18 ?_
      refine gx_sub [1] rfl ?_
      exact w_X9_advanceToken_b85 hlt C hx gx_fuel hf
    · refine gx_ifz_eq_t (tgt := 135) C dX9_advanceToken_82 rfl c18 ?_
      refine gx_iload_n C dX9_advanceToken_135 0 rfl ?_
      refine gx_bipush (v := 48) C dX9_advanceToken_136 rfl ?_
      refine gx_bipush (v := 57) C dX9_advanceToken_138 rfl ?_
      replace hf := gx_bs hf
      obtain ⟨b28, g27, hf⟩ := hf
      refine gx_callS (st := []) C (w_X9_inRange hlt g27) (lw_S q2745 q2746 q151 q2747) gz_522 (by decide) rfl rfl (gx_catn (Nat.le_of_ble_eq_true rfl)) dX9_advanceToken_140 ?_
      replace hf := gx_ite hf
      rcases hf with ⟨c29, hf⟩ | ⟨c29, hf⟩
      · refine gx_ifz_eq_f (tgt := 245) C dX9_advanceToken_143 rfl c29 ?_
        refine gx_sub [1] rfl ?_
        exact w_X9_advanceToken_b146 hlt C hx gx_fuel hf
      · refine gx_ifz_eq_t (tgt := 245) C dX9_advanceToken_143 rfl c29 ?_
        refine gx_aload_n C dX9_advanceToken_245 1 rfl ?_
        refine gx_iload_n C dX9_advanceToken_246 0 rfl ?_
        refine gx_bipush (v := 59) C dX9_advanceToken_247 rfl ?_
        replace hf := gx_ite hf
        rcases hf with ⟨c45, hf⟩ | ⟨c45, hf⟩
        · refine gx_icmp_ne_f (tgt := 256) C dX9_advanceToken_249 rfl c45 ?_
          refine gx_iconst (v := 3) C dX9_advanceToken_252 rfl ?_
          refine gx_goto (tgt := 257) C dX9_advanceToken_253 rfl ?_
          refine gx_sub [1] rfl ?_
          exact w_X9_advanceToken_b257 hlt C hx hf
        · refine gx_icmp_ne_t (tgt := 256) C dX9_advanceToken_249 rfl c45 ?_
          refine gx_iconst (v := 4) C dX9_advanceToken_256 rfl ?_
          refine gx_sub [1] rfl ?_
          exact w_X9_advanceToken_b257 hlt C hx hf
def f_X9_advanceToken_b0 (D : gx_D) (b : HX) (o : Nat) : Nat → MS → Option MS
  | 0, _ => none
  | n + 1, h =>
  (f_X9_byteAt D b o h (h.1 18)).bind fun x2 =>
  if x2 = (32 : Int32) then
  f_X9_advanceToken_b26 D b o (f_X9_advanceToken_b0 D b o n) h
  else
  (f_X9_byteAt D b o h (h.1 18)).bind fun x7 =>
  if x7 = (10 : Int32) then
  f_X9_advanceToken_b26 D b o (f_X9_advanceToken_b0 D b o n) h
  else
  f_X9_advanceToken_b39 D b o h
theorem w_X9_advanceToken_b0 {l : Launch} (hlt : l.stackTraces = false) {p : Program} {e : Env} {R : Room} {s : State} {m : MethodId} {args : Array Value} {below : List Frame} {meth : Method} {c : Code} {D : gx_D} {b : HX} {o : Nat} {h0 : MS} {hz : MS} (C : gx_Ctx p R s m args meth c "ContractMachineModel" cX9_advanceToken 2 none 3 67 D (mh b o h0) (mh b o hz)) (hx : meth.name = "advanceToken")  : ∀ (n : Nat) ⦃h : MS⦄, f_X9_advanceToken_b0 D b o n h = some hz → gx_G p l e R s m args below meth c D (mh b o h0) (mh b o hz) 2 (gx_MQ below args s D (mh b o h0) (mh b o hz) none) 0 [(0, (va_rf (some o)))] [] (mh b o h) := by
  intro n
  induction n with
  | zero => intro h hf; unfold f_X9_advanceToken_b0 at hf; cases hf
  | succ n wk0 =>
    intro h hf
    unfold f_X9_advanceToken_b0 at hf
    refine gx_aload_n C dX9_advanceToken_0 0 rfl ?_
    refine gx_aload_n C dX9_advanceToken_1 0 rfl ?_
    refine gx_gi C (mh_gi (k := 18) rfl) gz_535 q2652 dX9_advanceToken_2 ?_
    replace hf := gx_bs hf
    obtain ⟨x2, g1, hf⟩ := hf
    refine gx_callV (st := []) C (w_X9_byteAt hlt g1) mh_is gz_497 rfl (lw_V q2763 q2765 qs62 q151 q2766) gz_536 (by decide) rfl rfl (gx_catn (Nat.le_of_ble_eq_true rfl)) dX9_advanceToken_5 ?_
    refine gx_bipush (v := 32) C dX9_advanceToken_8 rfl ?_
    replace hf := gx_ite hf
    rcases hf with ⟨c3, hf⟩ | ⟨c3, hf⟩
    · refine gx_icmp_eq_t (tgt := 26) C dX9_advanceToken_10 rfl c3 ?_
      refine gx_sub [0] rfl ?_
      exact w_X9_advanceToken_b26 hlt C hx wk0 hf
    · refine gx_icmp_eq_f (tgt := 26) C dX9_advanceToken_10 rfl c3 ?_
      refine gx_aload_n C dX9_advanceToken_13 0 rfl ?_
      refine gx_aload_n C dX9_advanceToken_14 0 rfl ?_
      refine gx_gi C (mh_gi (k := 18) rfl) gz_535 q2652 dX9_advanceToken_15 ?_
      replace hf := gx_bs hf
      obtain ⟨x7, g6, hf⟩ := hf
      refine gx_callV (st := []) C (w_X9_byteAt hlt g6) mh_is gz_497 rfl (lw_V q2763 q2765 qs62 q151 q2766) gz_536 (by decide) rfl rfl (gx_catn (Nat.le_of_ble_eq_true rfl)) dX9_advanceToken_18 ?_
      refine gx_bipush (v := 10) C dX9_advanceToken_21 rfl ?_
      replace hf := gx_ite hf
      rcases hf with ⟨c8, hf⟩ | ⟨c8, hf⟩
      · refine gx_icmp_ne_f (tgt := 39) C dX9_advanceToken_23 rfl c8 ?_
        refine gx_sub [0] rfl ?_
        exact w_X9_advanceToken_b26 hlt C hx wk0 hf
      · refine gx_icmp_ne_t (tgt := 39) C dX9_advanceToken_23 rfl c8 ?_
        refine gx_sub [0] rfl ?_
        exact w_X9_advanceToken_b39 hlt C hx hf
def f_X9_advanceToken (D : gx_D) (b : HX) (o : Nat) (h : MS) : Option MS :=
  f_X9_advanceToken_b0 D b o gx_fuel h
theorem w_X9_advanceToken_b {l : Launch} (hlt : l.stackTraces = false) {p : Program} {e : Env} {R : Room} {s : State} {m : MethodId} {args : Array Value} {below : List Frame} {meth : Method} {c : Code} {D : gx_D} {b : HX} {o : Nat} {h0 : MS} {hz : MS} (C : gx_Ctx p R s m args meth c "ContractMachineModel" cX9_advanceToken 2 none 3 67 D (mh b o h0) (mh b o hz)) (hx : meth.name = "advanceToken") (hf : f_X9_advanceToken D b o h0 = some hz) : gx_G p l e R s m args below meth c D (mh b o h0) (mh b o hz) 2 (gx_MQ below args s D (mh b o h0) (mh b o hz) none) 0 [(0, (va_rf (some o)))] [] (mh b o h0) := by
  unfold f_X9_advanceToken at hf
  refine gx_sub [0] rfl ?_
  exact w_X9_advanceToken_b0 hlt C hx gx_fuel hf
theorem w_X9_advanceToken {l : Launch} (hlt : l.stackTraces = false) {D : gx_D} {b : HX} {o : Nat} {h : MS} {hz : MS} (hf : f_X9_advanceToken D b o h = some hz) : gx_Met l yX9_advanceToken cX9_advanceToken 2 none 3 67 D [(va_rf (some o))] (mh b o h) none (mh b o hz) :=
  gx_ofG gz_495 (by simp only [gx_lsr, gx_lsi, gx_lsj, gx_ls0]; decide) mh_le (fun p e R s m args below meth c C hx => by
    simp only [gx_lar, gx_lai, gx_laj, gx_la0, Nat.reduceAdd]
    exact w_X9_advanceToken_b hlt C hx hf)
def f_X9_isNameAt_b22 (D : gx_D) (b : HX) (o : Nat) : Nat → MS → Int32 → Int32 → Option Bool
  | 0, _, _, _ => none
  | n + 1, h, v1, v2 =>
  if ((h.1 18) - (h.1 19)) ≤ v2 then
  some true
  else
  (ms_ai h 0 ((v1 + (1 : Int32)) + v2)).bind fun x4 =>
  (ms_ai h 6 ((h.1 19) + v2)).bind fun x5 =>
  if x4 = x5 then
  (f_X9_isNameAt_b22 D b o n) h v1 ((v2 + (1 : Int32)))
  else
  some false
theorem w_X9_isNameAt_b22 {l : Launch} (hlt : l.stackTraces = false) {p : Program} {e : Env} {R : Room} {s : State} {m : MethodId} {args : Array Value} {below : List Frame} {meth : Method} {c : Code} {D : gx_D} {b : HX} {o : Nat} {h0 : MS} {r : Bool} (C : gx_Ctx p R s m args meth c "ContractMachineModel" cX9_isNameAt 3 (some .boolean) 1 24 D (mh b o h0) (mh b o h0)) (hx : meth.name = "isNameAt")  : ∀ (n : Nat) ⦃v1 : Int32⦄ ⦃v2 : Int32⦄, f_X9_isNameAt_b22 D b o n h0 v1 v2 = some r → gx_G p l e R s m args below meth c D (mh b o h0) (mh b o h0) 3 (gx_MQ below args s D (mh b o h0) (mh b o h0) (some (.int (b2i r)))) 22 [(0, (va_rf (some o))), (1, (.int v1)), (2, (.int v2))] [] (mh b o h0) := by
  intro n
  induction n with
  | zero => intro v1 v2 hf; unfold f_X9_isNameAt_b22 at hf; cases hf
  | succ n wk22 =>
    intro v1 v2 hf
    unfold f_X9_isNameAt_b22 at hf
    refine gx_iload_n C dX9_isNameAt_22 2 rfl ?_
    refine gx_aload_n C dX9_isNameAt_23 0 rfl ?_
    refine gx_gi C (mh_gi (k := 18) rfl) gz_535 q2652 dX9_isNameAt_24 ?_
    refine gx_aload_n C dX9_isNameAt_27 0 rfl ?_
    refine gx_gi C (mh_gi (k := 19) rfl) gz_526 q2653 dX9_isNameAt_28 ?_
    refine gx_isub C dX9_isNameAt_31 ?_
    replace hf := gx_ite hf
    rcases hf with ⟨c3, hf⟩ | ⟨c3, hf⟩
    · refine gx_icmp_ge_t (tgt := 67) C dX9_isNameAt_32 rfl c3 ?_
      refine gx_iconst (v := 1) C dX9_isNameAt_67 rfl ?_
      obtain rfl := Option.some.inj hf
      exact gx_zret (b := true) C dX9_isNameAt_68
    · refine gx_icmp_ge_f (tgt := 67) C dX9_isNameAt_32 rfl c3 ?_
      refine gx_aload_n C dX9_isNameAt_35 0 rfl ?_
      refine gx_gr C (mh_gr (k := 0) rfl) gz_494 q2634 dX9_isNameAt_36 ?_
      refine gx_iload_n C dX9_isNameAt_39 1 rfl ?_
      refine gx_iconst (v := 1) C dX9_isNameAt_40 rfl ?_
      refine gx_iadd C dX9_isNameAt_41 ?_
      refine gx_iload_n C dX9_isNameAt_42 2 rfl ?_
      refine gx_iadd C dX9_isNameAt_43 ?_
      replace hf := gx_bs hf
      obtain ⟨x4, g8, hf⟩ := hf
      refine gx_iald C (mh_ai g8) dX9_isNameAt_44 ?_
      refine gx_aload_n C dX9_isNameAt_45 0 rfl ?_
      refine gx_gr C (mh_gr (k := 12) rfl) gz_503 q2646 dX9_isNameAt_46 ?_
      refine gx_aload_n C dX9_isNameAt_49 0 rfl ?_
      refine gx_gi C (mh_gi (k := 19) rfl) gz_526 q2653 dX9_isNameAt_50 ?_
      refine gx_iload_n C dX9_isNameAt_53 2 rfl ?_
      refine gx_iadd C dX9_isNameAt_54 ?_
      replace hf := gx_bs hf
      obtain ⟨x5, g7, hf⟩ := hf
      refine gx_iald C (mh_ai g7) dX9_isNameAt_55 ?_
      replace hf := gx_ite hf
      rcases hf with ⟨c6, hf⟩ | ⟨c6, hf⟩
      · refine gx_icmp_eq_t (tgt := 61) C dX9_isNameAt_56 rfl c6 ?_
        refine gx_inc (v := 1) C dX9_isNameAt_61 2 rfl rfl (by decide) [0, 1] rfl (gx_okn rfl rfl (gx_okr rfl gx_catv_i gx_ok0)) ?_
        refine gx_goto (tgt := 22) C dX9_isNameAt_64 rfl ?_
        refine gx_sub [1, 2, 0] rfl ?_
        exact wk22 hf
      · refine gx_icmp_eq_f (tgt := 61) C dX9_isNameAt_56 rfl c6 ?_
        refine gx_iconst (v := 0) C dX9_isNameAt_59 rfl ?_
        obtain rfl := Option.some.inj hf
        exact gx_zret (b := false) C dX9_isNameAt_60
def f_X9_isNameAt (D : gx_D) (b : HX) (o : Nat) (h : MS) (p1 : Int32) : Option Bool :=
  (ms_ai h 0 p1).bind fun x1 =>
  if x1 = ((h.1 18) - (h.1 19)) then
  f_X9_isNameAt_b22 D b o gx_fuel h p1 ((0 : Int32))
  else
  some false
theorem w_X9_isNameAt_b {l : Launch} (hlt : l.stackTraces = false) {p : Program} {e : Env} {R : Room} {s : State} {m : MethodId} {args : Array Value} {below : List Frame} {meth : Method} {c : Code} {D : gx_D} {b : HX} {o : Nat} {h0 : MS} {r : Bool} (C : gx_Ctx p R s m args meth c "ContractMachineModel" cX9_isNameAt 3 (some .boolean) 1 24 D (mh b o h0) (mh b o h0)) (hx : meth.name = "isNameAt") {p1 : Int32} (hf : f_X9_isNameAt D b o h0 p1 = some r) : gx_G p l e R s m args below meth c D (mh b o h0) (mh b o h0) 3 (gx_MQ below args s D (mh b o h0) (mh b o h0) (some (.int (b2i r)))) 0 [(0, (va_rf (some o))), (1, (.int p1))] [] (mh b o h0) := by
  unfold f_X9_isNameAt at hf
  refine gx_aload_n C dX9_isNameAt_0 0 rfl ?_
  refine gx_gr C (mh_gr (k := 0) rfl) gz_494 q2634 dX9_isNameAt_1 ?_
  refine gx_iload_n C dX9_isNameAt_4 1 rfl ?_
  replace hf := gx_bs hf
  obtain ⟨x1, g9, hf⟩ := hf
  refine gx_iald C (mh_ai g9) dX9_isNameAt_5 ?_
  refine gx_aload_n C dX9_isNameAt_6 0 rfl ?_
  refine gx_gi C (mh_gi (k := 18) rfl) gz_535 q2652 dX9_isNameAt_7 ?_
  refine gx_aload_n C dX9_isNameAt_10 0 rfl ?_
  refine gx_gi C (mh_gi (k := 19) rfl) gz_526 q2653 dX9_isNameAt_11 ?_
  refine gx_isub C dX9_isNameAt_14 ?_
  replace hf := gx_ite hf
  rcases hf with ⟨c2, hf⟩ | ⟨c2, hf⟩
  · refine gx_icmp_eq_t (tgt := 20) C dX9_isNameAt_15 rfl c2 ?_
    refine gx_iconst (v := 0) C dX9_isNameAt_20 rfl ?_
    refine gx_istn C dX9_isNameAt_21 2 rfl (by decide) [0, 1]  rfl (gx_okn rfl rfl (gx_okr rfl gx_catv_i gx_ok0)) ?_
    refine gx_sub [1, 2, 0] rfl ?_
    exact w_X9_isNameAt_b22 hlt C hx gx_fuel hf
  · refine gx_icmp_eq_f (tgt := 20) C dX9_isNameAt_15 rfl c2 ?_
    refine gx_iconst (v := 0) C dX9_isNameAt_18 rfl ?_
    obtain rfl := Option.some.inj hf
    exact gx_zret (b := false) C dX9_isNameAt_19
theorem w_X9_isNameAt {l : Launch} (hlt : l.stackTraces = false) {D : gx_D} {b : HX} {o : Nat} {h : MS} {p1 : Int32} {r : Bool} (hf : f_X9_isNameAt D b o h p1 = some r) : gx_Met l yX9_isNameAt cX9_isNameAt 3 (some .boolean) 1 24 D [(va_rf (some o)), (.int p1)] (mh b o h) (some (.int (b2i r))) (mh b o h) :=
  gx_ofG gz_495 (by simp only [gx_lsr, gx_lsi, gx_lsj, gx_ls0]; decide) gx_le.rf (fun p e R s m args below meth c C hx => by
    simp only [gx_lar, gx_lai, gx_laj, gx_la0, Nat.reduceAdd]
    exact w_X9_isNameAt_b hlt C hx hf)
def f_X9_nameHere_b2 (D : gx_D) (b : HX) (o : Nat) : Nat → MS → Int32 → Int32 → Int32 → Option Int32
  | 0, _, _, _, _ => none
  | n + 1, h, v1, v2, v3 =>
  (ms_ai h 0 v2).bind fun x1 =>
  if x1 ≤ v3 then
  some ((-1 : Int32))
  else
  (f_X9_isNameAt D b o h (v1 + ((7 : Int32) * v3))).bind fun b4 =>
  if b4 = true then
  some v3
  else
  (f_X9_nameHere_b2 D b o n) h v1 v2 ((v3 + (1 : Int32)))
theorem w_X9_nameHere_b2 {l : Launch} (hlt : l.stackTraces = false) {p : Program} {e : Env} {R : Room} {s : State} {m : MethodId} {args : Array Value} {below : List Frame} {meth : Method} {c : Code} {D : gx_D} {b : HX} {o : Nat} {h0 : MS} {r : Int32} (C : gx_Ctx p R s m args meth c "ContractMachineModel" cX9_nameHere 4 (some .int) 2 46 D (mh b o h0) (mh b o h0)) (hx : meth.name = "nameHere")  : ∀ (n : Nat) ⦃v1 : Int32⦄ ⦃v2 : Int32⦄ ⦃v3 : Int32⦄, f_X9_nameHere_b2 D b o n h0 v1 v2 v3 = some r → gx_G p l e R s m args below meth c D (mh b o h0) (mh b o h0) 4 (gx_MQ below args s D (mh b o h0) (mh b o h0) (some (.int r))) 2 [(0, (va_rf (some o))), (1, (.int v1)), (2, (.int v2)), (3, (.int v3))] [] (mh b o h0) := by
  intro n
  induction n with
  | zero => intro v1 v2 v3 hf; unfold f_X9_nameHere_b2 at hf; cases hf
  | succ n wk2 =>
    intro v1 v2 v3 hf
    unfold f_X9_nameHere_b2 at hf
    refine gx_iload_n C dX9_nameHere_2 3 rfl ?_
    refine gx_aload_n C dX9_nameHere_3 0 rfl ?_
    refine gx_gr C (mh_gr (k := 0) rfl) gz_494 q2634 dX9_nameHere_4 ?_
    refine gx_iload_n C dX9_nameHere_7 2 rfl ?_
    replace hf := gx_bs hf
    obtain ⟨x1, g6, hf⟩ := hf
    refine gx_iald C (mh_ai g6) dX9_nameHere_8 ?_
    replace hf := gx_ite hf
    rcases hf with ⟨c2, hf⟩ | ⟨c2, hf⟩
    · refine gx_icmp_ge_t (tgt := 33) C dX9_nameHere_9 rfl c2 ?_
      refine gx_iconst (v := -1) C dX9_nameHere_33 rfl ?_
      obtain rfl := Option.some.inj hf
      exact gx_iret C dX9_nameHere_34
    · refine gx_icmp_ge_f (tgt := 33) C dX9_nameHere_9 rfl c2 ?_
      refine gx_aload_n C dX9_nameHere_12 0 rfl ?_
      refine gx_iload_n C dX9_nameHere_13 1 rfl ?_
      refine gx_bipush (v := 7) C dX9_nameHere_14 rfl ?_
      refine gx_iload_n C dX9_nameHere_16 3 rfl ?_
      refine gx_imul C dX9_nameHere_17 ?_
      refine gx_iadd C dX9_nameHere_18 ?_
      replace hf := gx_bs hf
      obtain ⟨b4, g3, hf⟩ := hf
      refine gx_callV (st := []) C (w_X9_isNameAt hlt g3) mh_is gz_497 rfl (lw_V q2806 q2808 qs72 q151 q2809) gz_539 (by decide) rfl rfl (gx_catn (Nat.le_of_ble_eq_true rfl)) dX9_nameHere_19 ?_
      replace hf := gx_ite hf
      rcases hf with ⟨c5, hf⟩ | ⟨c5, hf⟩
      · refine gx_ifz_eq_f (tgt := 27) C dX9_nameHere_22 rfl c5 ?_
        refine gx_iload_n C dX9_nameHere_25 3 rfl ?_
        obtain rfl := Option.some.inj hf
        exact gx_iret C dX9_nameHere_26
      · refine gx_ifz_eq_t (tgt := 27) C dX9_nameHere_22 rfl c5 ?_
        refine gx_inc (v := 1) C dX9_nameHere_27 3 rfl rfl (by decide) [0, 1, 2] rfl (gx_okn rfl rfl (gx_okn rfl rfl (gx_okr rfl gx_catv_i gx_ok0))) ?_
        refine gx_goto (tgt := 2) C dX9_nameHere_30 rfl ?_
        refine gx_sub [1, 2, 3, 0] rfl ?_
        exact wk2 hf
def f_X9_nameHere (D : gx_D) (b : HX) (o : Nat) (h : MS) (p1 : Int32) (p2 : Int32) : Option Int32 :=
  f_X9_nameHere_b2 D b o gx_fuel h p1 p2 ((0 : Int32))
theorem w_X9_nameHere_b {l : Launch} (hlt : l.stackTraces = false) {p : Program} {e : Env} {R : Room} {s : State} {m : MethodId} {args : Array Value} {below : List Frame} {meth : Method} {c : Code} {D : gx_D} {b : HX} {o : Nat} {h0 : MS} {r : Int32} (C : gx_Ctx p R s m args meth c "ContractMachineModel" cX9_nameHere 4 (some .int) 2 46 D (mh b o h0) (mh b o h0)) (hx : meth.name = "nameHere") {p1 : Int32} {p2 : Int32} (hf : f_X9_nameHere D b o h0 p1 p2 = some r) : gx_G p l e R s m args below meth c D (mh b o h0) (mh b o h0) 4 (gx_MQ below args s D (mh b o h0) (mh b o h0) (some (.int r))) 0 [(0, (va_rf (some o))), (1, (.int p1)), (2, (.int p2))] [] (mh b o h0) := by
  unfold f_X9_nameHere at hf
  refine gx_iconst (v := 0) C dX9_nameHere_0 rfl ?_
  refine gx_istn C dX9_nameHere_1 3 rfl (by decide) [0, 1, 2]  rfl (gx_okn rfl rfl (gx_okn rfl rfl (gx_okr rfl gx_catv_i gx_ok0))) ?_
  refine gx_sub [1, 2, 3, 0] rfl ?_
  exact w_X9_nameHere_b2 hlt C hx gx_fuel hf
theorem w_X9_nameHere {l : Launch} (hlt : l.stackTraces = false) {D : gx_D} {b : HX} {o : Nat} {h : MS} {p1 : Int32} {p2 : Int32} {r : Int32} (hf : f_X9_nameHere D b o h p1 p2 = some r) : gx_Met l yX9_nameHere cX9_nameHere 4 (some .int) 2 46 D [(va_rf (some o)), (.int p1), (.int p2)] (mh b o h) (some (.int r)) (mh b o h) :=
  gx_ofG gz_495 (by simp only [gx_lsr, gx_lsi, gx_lsj, gx_ls0]; decide) gx_le.rf (fun p e R s m args below meth c C hx => by
    simp only [gx_lar, gx_lai, gx_laj, gx_la0, Nat.reduceAdd]
    exact w_X9_nameHere_b hlt C hx hf)
def f_X9_seesName_b22 (D : gx_D) (b : HX) (o : Nat) (h : MS) : Option ((Bool) × MS) :=
  gx_b2 (f_X9_failsAt D b o h (1 : Int32)) fun b4 h5 =>
  if b4 = true then
  some (true, h5)
  else
  some (false, h5)
theorem w_X9_seesName_b22 {l : Launch} (hlt : l.stackTraces = false) {p : Program} {e : Env} {R : Room} {s : State} {m : MethodId} {args : Array Value} {below : List Frame} {meth : Method} {c : Code} {D : gx_D} {b : HX} {o : Nat} {h0 : MS} {r : Bool} {hz : MS} (C : gx_Ctx p R s m args meth c "ContractMachineModel" cX9_seesName 1 (some .boolean) 2 45 D (mh b o h0) (mh b o hz)) (hx : meth.name = "seesName")  {h : MS} (hf : f_X9_seesName_b22 D b o h = some (r, hz)) : gx_G p l e R s m args below meth c D (mh b o h0) (mh b o hz) 1 (gx_MQ below args s D (mh b o h0) (mh b o hz) (some (.int (b2i r)))) 22 [(0, (va_rf (some o)))] [] (mh b o h) := by
  unfold f_X9_seesName_b22 at hf
  refine gx_aload_n C dX9_seesName_22 0 rfl ?_
  refine gx_iconst (v := 1) C dX9_seesName_23 rfl ?_
  replace hf := gx_b2s hf
  obtain ⟨b4, h5, g3, hf⟩ := hf
  refine gx_callV (st := []) C (w_X9_failsAt hlt g3) mh_is gz_497 rfl (lw_V q2790 q2792 qs68 q151 q2793) gz_540 (by decide) rfl rfl (gx_catn (Nat.le_of_ble_eq_true rfl)) dX9_seesName_24 ?_
  replace hf := gx_ite hf
  rcases hf with ⟨c6, hf⟩ | ⟨c6, hf⟩
  · refine gx_ifz_eq_f (tgt := 34) C dX9_seesName_27 rfl c6 ?_
    refine gx_iconst (v := 1) C dX9_seesName_30 rfl ?_
    refine gx_goto (tgt := 35) C dX9_seesName_31 rfl ?_
    obtain ⟨rfl, rfl⟩ := Prod.mk.inj (Option.some.inj hf)
    exact gx_zret (b := true) C dX9_seesName_35
  · refine gx_ifz_eq_t (tgt := 34) C dX9_seesName_27 rfl c6 ?_
    refine gx_iconst (v := 0) C dX9_seesName_34 rfl ?_
    obtain ⟨rfl, rfl⟩ := Prod.mk.inj (Option.some.inj hf)
    exact gx_zret (b := false) C dX9_seesName_35
def f_X9_seesName (D : gx_D) (b : HX) (o : Nat) (h : MS) : Option ((Bool) × MS) :=
  if (h.1 21) = (1 : Int32) then
  if ((h.1 18) - (h.1 19)) ≤ (6 : Int32) then
  some (true, h)
  else
  f_X9_seesName_b22 D b o h
  else
  f_X9_seesName_b22 D b o h
theorem w_X9_seesName_b {l : Launch} (hlt : l.stackTraces = false) {p : Program} {e : Env} {R : Room} {s : State} {m : MethodId} {args : Array Value} {below : List Frame} {meth : Method} {c : Code} {D : gx_D} {b : HX} {o : Nat} {h0 : MS} {r : Bool} {hz : MS} (C : gx_Ctx p R s m args meth c "ContractMachineModel" cX9_seesName 1 (some .boolean) 2 45 D (mh b o h0) (mh b o hz)) (hx : meth.name = "seesName") (hf : f_X9_seesName D b o h0 = some (r, hz)) : gx_G p l e R s m args below meth c D (mh b o h0) (mh b o hz) 1 (gx_MQ below args s D (mh b o h0) (mh b o hz) (some (.int (b2i r)))) 0 [(0, (va_rf (some o)))] [] (mh b o h0) := by
  unfold f_X9_seesName at hf
  refine gx_aload_n C dX9_seesName_0 0 rfl ?_
  refine gx_gi C (mh_gi (k := 21) rfl) gz_534 q2655 dX9_seesName_1 ?_
  refine gx_iconst (v := 1) C dX9_seesName_4 rfl ?_
  replace hf := gx_ite hf
  rcases hf with ⟨c1, hf⟩ | ⟨c1, hf⟩
  · refine gx_icmp_ne_f (tgt := 22) C dX9_seesName_5 rfl c1 ?_
    refine gx_aload_n C dX9_seesName_8 0 rfl ?_
    refine gx_gi C (mh_gi (k := 18) rfl) gz_535 q2652 dX9_seesName_9 ?_
    refine gx_aload_n C dX9_seesName_12 0 rfl ?_
    refine gx_gi C (mh_gi (k := 19) rfl) gz_526 q2653 dX9_seesName_13 ?_
    refine gx_isub C dX9_seesName_16 ?_
    refine gx_bipush (v := 6) C dX9_seesName_17 rfl ?_
    replace hf := gx_ite hf
    rcases hf with ⟨c2, hf⟩ | ⟨c2, hf⟩
    · refine gx_icmp_le_t (tgt := 30) C dX9_seesName_19 rfl c2 ?_
      refine gx_iconst (v := 1) C dX9_seesName_30 rfl ?_
      refine gx_goto (tgt := 35) C dX9_seesName_31 rfl ?_
      obtain ⟨rfl, rfl⟩ := Prod.mk.inj (Option.some.inj hf)
      exact gx_zret (b := true) C dX9_seesName_35
    · refine gx_icmp_le_f (tgt := 30) C dX9_seesName_19 rfl c2 ?_
      refine gx_sub [0] rfl ?_
      exact w_X9_seesName_b22 hlt C hx hf
  · refine gx_icmp_ne_t (tgt := 22) C dX9_seesName_5 rfl c1 ?_
    refine gx_sub [0] rfl ?_
    exact w_X9_seesName_b22 hlt C hx hf
theorem w_X9_seesName {l : Launch} (hlt : l.stackTraces = false) {D : gx_D} {b : HX} {o : Nat} {h : MS} {r : Bool} {hz : MS} (hf : f_X9_seesName D b o h = some (r, hz)) : gx_Met l yX9_seesName cX9_seesName 1 (some .boolean) 2 45 D [(va_rf (some o))] (mh b o h) (some (.int (b2i r))) (mh b o hz) :=
  gx_ofG gz_495 (by simp only [gx_lsr, gx_lsi, gx_lsj, gx_ls0]; decide) mh_le (fun p e R s m args below meth c C hx => by
    simp only [gx_lar, gx_lai, gx_laj, gx_la0, Nat.reduceAdd]
    exact w_X9_seesName_b hlt C hx hf)
def f_X9_takesKnown (D : gx_D) (b : HX) (o : Nat) (h : MS) (p1 : Int32) (p2 : Int32) (p3 : Int32) : Option ((Bool) × MS) :=
  gx_b2 (f_X9_seesName D b o h) fun b2 h3 =>
  if b2 = true then
  (f_X9_nameHere D b o h3 p2 p3).bind fun x6 =>
  (ms_si h3 7 p1 x6).bind fun h7 =>
  (ms_ai h7 7 p1).bind fun x8 =>
  if x8 = (-1 : Int32) then
  gx_b2 (f_X9_failsAt D b o h7 (4 : Int32)) fun b11 h12 =>
  some (b11, h12)
  else
  (f_X9_advanceToken D b o h7).bind fun h14 =>
  some (true, h14)
  else
  some (false, h3)
theorem w_X9_takesKnown_b {l : Launch} (hlt : l.stackTraces = false) {p : Program} {e : Env} {R : Room} {s : State} {m : MethodId} {args : Array Value} {below : List Frame} {meth : Method} {c : Code} {D : gx_D} {b : HX} {o : Nat} {h0 : MS} {r : Bool} {hz : MS} (C : gx_Ctx p R s m args meth c "ContractMachineModel" cX9_takesKnown 4 (some .boolean) 4 88 D (mh b o h0) (mh b o hz)) (hx : meth.name = "takesKnown") {p1 : Int32} {p2 : Int32} {p3 : Int32} (hf : f_X9_takesKnown D b o h0 p1 p2 p3 = some (r, hz)) : gx_G p l e R s m args below meth c D (mh b o h0) (mh b o hz) 4 (gx_MQ below args s D (mh b o h0) (mh b o hz) (some (.int (b2i r)))) 0 [(0, (va_rf (some o))), (1, (.int p1)), (2, (.int p2)), (3, (.int p3))] [] (mh b o h0) := by
  unfold f_X9_takesKnown at hf
  refine gx_aload_n C dX9_takesKnown_0 0 rfl ?_
  replace hf := gx_b2s hf
  obtain ⟨b2, h3, g1, hf⟩ := hf
  refine gx_callV (st := []) C (w_X9_seesName hlt g1) mh_is gz_497 rfl (lw_V q2798 q2800 qs70 q151 q2801) gz_541 (by decide) rfl rfl (gx_catn (Nat.le_of_ble_eq_true rfl)) dX9_takesKnown_1 ?_
  replace hf := gx_ite hf
  rcases hf with ⟨c4, hf⟩ | ⟨c4, hf⟩
  · refine gx_ifz_ne_t (tgt := 9) C dX9_takesKnown_4 rfl c4 ?_
    refine gx_aload_n C dX9_takesKnown_9 0 rfl ?_
    refine gx_gr C (mh_gr (k := 23) rfl) gz_505 q2657 dX9_takesKnown_10 ?_
    refine gx_iload_n C dX9_takesKnown_13 1 rfl ?_
    refine gx_aload_n C dX9_takesKnown_14 0 rfl ?_
    refine gx_iload_n C dX9_takesKnown_15 2 rfl ?_
    refine gx_iload_n C dX9_takesKnown_16 3 rfl ?_
    replace hf := gx_bs hf
    obtain ⟨x6, g5, hf⟩ := hf
    refine gx_callV (st := [(.int p1), (va_rf (some (o + 1 + 7)))]) C (w_X9_nameHere hlt g5) mh_is gz_497 rfl (lw_V q2802 q2804 qs71 q151 q2805) gz_542 (by decide) rfl rfl (gx_catn (Nat.le_of_ble_eq_true rfl)) dX9_takesKnown_17 ?_
    replace hf := gx_bs hf
    obtain ⟨h7, g16, hf⟩ := hf
    refine gx_iast C (mh_si g16) dX9_takesKnown_20 ?_
    refine gx_aload_n C dX9_takesKnown_21 0 rfl ?_
    refine gx_gr C (mh_gr (k := 23) rfl) gz_505 q2657 dX9_takesKnown_22 ?_
    refine gx_iload_n C dX9_takesKnown_25 1 rfl ?_
    replace hf := gx_bs hf
    obtain ⟨x8, g15, hf⟩ := hf
    refine gx_iald C (mh_ai g15) dX9_takesKnown_26 ?_
    refine gx_iconst (v := -1) C dX9_takesKnown_27 rfl ?_
    replace hf := gx_ite hf
    rcases hf with ⟨c9, hf⟩ | ⟨c9, hf⟩
    · refine gx_icmp_ne_f (tgt := 37) C dX9_takesKnown_28 rfl c9 ?_
      refine gx_aload_n C dX9_takesKnown_31 0 rfl ?_
      refine gx_iconst (v := 4) C dX9_takesKnown_32 rfl ?_
      replace hf := gx_b2s hf
      obtain ⟨b11, h12, g10, hf⟩ := hf
      refine gx_callV (st := []) C (w_X9_failsAt hlt g10) mh_is gz_497 rfl (lw_V q2790 q2792 qs68 q151 q2793) gz_540 (by decide) rfl rfl (gx_catn (Nat.le_of_ble_eq_true rfl)) dX9_takesKnown_33 ?_
      obtain ⟨rfl, rfl⟩ := Prod.mk.inj (Option.some.inj hf)
      exact gx_zret (b := _) C dX9_takesKnown_36
    · refine gx_icmp_ne_t (tgt := 37) C dX9_takesKnown_28 rfl c9 ?_
      refine gx_aload_n C dX9_takesKnown_37 0 rfl ?_
      replace hf := gx_bs hf
      obtain ⟨h14, g13, hf⟩ := hf
      refine gx_callV (st := []) C (w_X9_advanceToken hlt g13) mh_is gz_497 rfl (lw_V q2759 q2761 qs61 q151 q2762) gz_543 (by decide) rfl rfl (gx_catn (Nat.le_of_ble_eq_true rfl)) dX9_takesKnown_38 ?_
      refine gx_iconst (v := 1) C dX9_takesKnown_41 rfl ?_
      obtain ⟨rfl, rfl⟩ := Prod.mk.inj (Option.some.inj hf)
      exact gx_zret (b := true) C dX9_takesKnown_42
  · refine gx_ifz_ne_f (tgt := 9) C dX9_takesKnown_4 rfl c4 ?_
    refine gx_iconst (v := 0) C dX9_takesKnown_7 rfl ?_
    obtain ⟨rfl, rfl⟩ := Prod.mk.inj (Option.some.inj hf)
    exact gx_zret (b := false) C dX9_takesKnown_8
theorem w_X9_takesKnown {l : Launch} (hlt : l.stackTraces = false) {D : gx_D} {b : HX} {o : Nat} {h : MS} {p1 : Int32} {p2 : Int32} {p3 : Int32} {r : Bool} {hz : MS} (hf : f_X9_takesKnown D b o h p1 p2 p3 = some (r, hz)) : gx_Met l yX9_takesKnown cX9_takesKnown 4 (some .boolean) 4 88 D [(va_rf (some o)), (.int p1), (.int p2), (.int p3)] (mh b o h) (some (.int (b2i r))) (mh b o hz) :=
  gx_ofG gz_495 (by simp only [gx_lsr, gx_lsi, gx_lsj, gx_ls0]; decide) mh_le (fun p e R s m args below meth c C hx => by
    simp only [gx_lar, gx_lai, gx_laj, gx_la0, Nat.reduceAdd]
    exact w_X9_takesKnown_b hlt C hx hf)
def f_X9_takesSemicolon (D : gx_D) (b : HX) (o : Nat) (h : MS) : Option ((Bool) × MS) :=
  if (h.1 21) = (3 : Int32) then
  (f_X9_advanceToken D b o h).bind fun h3 =>
  some (true, h3)
  else
  gx_b2 (f_X9_failsAt D b o h (1 : Int32)) fun b5 h6 =>
  some (b5, h6)
theorem w_X9_takesSemicolon_b {l : Launch} (hlt : l.stackTraces = false) {p : Program} {e : Env} {R : Room} {s : State} {m : MethodId} {args : Array Value} {below : List Frame} {meth : Method} {c : Code} {D : gx_D} {b : HX} {o : Nat} {h0 : MS} {r : Bool} {hz : MS} (C : gx_Ctx p R s m args meth c "ContractMachineModel" cX9_takesSemicolon 1 (some .boolean) 4 88 D (mh b o h0) (mh b o hz)) (hx : meth.name = "takesSemicolon") (hf : f_X9_takesSemicolon D b o h0 = some (r, hz)) : gx_G p l e R s m args below meth c D (mh b o h0) (mh b o hz) 1 (gx_MQ below args s D (mh b o h0) (mh b o hz) (some (.int (b2i r)))) 0 [(0, (va_rf (some o)))] [] (mh b o h0) := by
  unfold f_X9_takesSemicolon at hf
  refine gx_aload_n C dX9_takesSemicolon_0 0 rfl ?_
  refine gx_gi C (mh_gi (k := 21) rfl) gz_534 q2655 dX9_takesSemicolon_1 ?_
  refine gx_iconst (v := 3) C dX9_takesSemicolon_4 rfl ?_
  replace hf := gx_ite hf
  rcases hf with ⟨c1, hf⟩ | ⟨c1, hf⟩
  · refine gx_icmp_eq_t (tgt := 14) C dX9_takesSemicolon_5 rfl c1 ?_
    refine gx_aload_n C dX9_takesSemicolon_14 0 rfl ?_
    replace hf := gx_bs hf
    obtain ⟨h3, g2, hf⟩ := hf
    refine gx_callV (st := []) C (w_X9_advanceToken hlt g2) mh_is gz_497 rfl (lw_V q2759 q2761 qs61 q151 q2762) gz_543 (by decide) rfl rfl (gx_catn (Nat.le_of_ble_eq_true rfl)) dX9_takesSemicolon_15 ?_
    refine gx_iconst (v := 1) C dX9_takesSemicolon_18 rfl ?_
    obtain ⟨rfl, rfl⟩ := Prod.mk.inj (Option.some.inj hf)
    exact gx_zret (b := true) C dX9_takesSemicolon_19
  · refine gx_icmp_eq_f (tgt := 14) C dX9_takesSemicolon_5 rfl c1 ?_
    refine gx_aload_n C dX9_takesSemicolon_8 0 rfl ?_
    refine gx_iconst (v := 1) C dX9_takesSemicolon_9 rfl ?_
    replace hf := gx_b2s hf
    obtain ⟨b5, h6, g4, hf⟩ := hf
    refine gx_callV (st := []) C (w_X9_failsAt hlt g4) mh_is gz_497 rfl (lw_V q2790 q2792 qs68 q151 q2793) gz_540 (by decide) rfl rfl (gx_catn (Nat.le_of_ble_eq_true rfl)) dX9_takesSemicolon_10 ?_
    obtain ⟨rfl, rfl⟩ := Prod.mk.inj (Option.some.inj hf)
    exact gx_zret (b := _) C dX9_takesSemicolon_13
theorem w_X9_takesSemicolon {l : Launch} (hlt : l.stackTraces = false) {D : gx_D} {b : HX} {o : Nat} {h : MS} {r : Bool} {hz : MS} (hf : f_X9_takesSemicolon D b o h = some (r, hz)) : gx_Met l yX9_takesSemicolon cX9_takesSemicolon 1 (some .boolean) 4 88 D [(va_rf (some o))] (mh b o h) (some (.int (b2i r))) (mh b o hz) :=
  gx_ofG gz_495 (by simp only [gx_lsr, gx_lsi, gx_lsj, gx_ls0]; decide) mh_le (fun p e R s m args below meth c C hx => by
    simp only [gx_lar, gx_lai, gx_laj, gx_la0, Nat.reduceAdd]
    exact w_X9_takesSemicolon_b hlt C hx hf)
def f_X9_actionHere (D : gx_D) (b : HX) (o : Nat) (h : MS) : Option Int32 :=
  (f_X9_isWord D b o h (some (D.2.2.1 43))).bind fun b2 =>
  if b2 = true then
  some ((0 : Int32))
  else
  (f_X9_isWord D b o h (some (D.2.2.1 44))).bind fun b5 =>
  if b5 = true then
  some ((1 : Int32))
  else
  (f_X9_isWord D b o h (some (D.2.2.1 45))).bind fun b8 =>
  if b8 = true then
  some ((2 : Int32))
  else
  some ((-1 : Int32))
theorem w_X9_actionHere_b {l : Launch} (hlt : l.stackTraces = false) {p : Program} {e : Env} {R : Room} {s : State} {m : MethodId} {args : Array Value} {below : List Frame} {meth : Method} {c : Code} {D : gx_D} {b : HX} {o : Nat} {h0 : MS} {r : Int32} (C : gx_Ctx p R s m args meth c "ContractMachineModel" cX9_actionHere 1 (some .int) 6 131 D (mh b o h0) (mh b o h0)) (hx : meth.name = "actionHere") (hf : f_X9_actionHere D b o h0 = some r) : gx_G p l e R s m args below meth c D (mh b o h0) (mh b o h0) 1 (gx_MQ below args s D (mh b o h0) (mh b o h0) (some (.int r))) 0 [(0, (va_rf (some o)))] [] (mh b o h0) := by
  unfold f_X9_actionHere at hf
  refine gx_aload_n C dX9_actionHere_0 0 rfl ?_
  refine gx_ldcS C 43 rfl dX9_actionHere_1 ?_
  replace hf := gx_bs hf
  obtain ⟨b2, g1, hf⟩ := hf
  refine gx_callV (st := []) C (w_X9_isWord hlt g1) mh_is gz_497 rfl (lw_V q2780 q2782 qs66 q151 q2783) gz_544 (by decide) rfl rfl (gx_catn (Nat.le_of_ble_eq_true rfl)) dX9_actionHere_3 ?_
  replace hf := gx_ite hf
  rcases hf with ⟨c3, hf⟩ | ⟨c3, hf⟩
  · refine gx_ifz_eq_f (tgt := 11) C dX9_actionHere_6 rfl c3 ?_
    refine gx_iconst (v := 0) C dX9_actionHere_9 rfl ?_
    obtain rfl := Option.some.inj hf
    exact gx_iret C dX9_actionHere_10
  · refine gx_ifz_eq_t (tgt := 11) C dX9_actionHere_6 rfl c3 ?_
    refine gx_aload_n C dX9_actionHere_11 0 rfl ?_
    refine gx_ldcS C 44 rfl dX9_actionHere_12 ?_
    replace hf := gx_bs hf
    obtain ⟨b5, g4, hf⟩ := hf
    refine gx_callV (st := []) C (w_X9_isWord hlt g4) mh_is gz_497 rfl (lw_V q2780 q2782 qs66 q151 q2783) gz_544 (by decide) rfl rfl (gx_catn (Nat.le_of_ble_eq_true rfl)) dX9_actionHere_14 ?_
    replace hf := gx_ite hf
    rcases hf with ⟨c6, hf⟩ | ⟨c6, hf⟩
    · refine gx_ifz_eq_f (tgt := 22) C dX9_actionHere_17 rfl c6 ?_
      refine gx_iconst (v := 1) C dX9_actionHere_20 rfl ?_
      obtain rfl := Option.some.inj hf
      exact gx_iret C dX9_actionHere_21
    · refine gx_ifz_eq_t (tgt := 22) C dX9_actionHere_17 rfl c6 ?_
      refine gx_aload_n C dX9_actionHere_22 0 rfl ?_
      refine gx_ldcS C 45 rfl dX9_actionHere_23 ?_
      replace hf := gx_bs hf
      obtain ⟨b8, g7, hf⟩ := hf
      refine gx_callV (st := []) C (w_X9_isWord hlt g7) mh_is gz_497 rfl (lw_V q2780 q2782 qs66 q151 q2783) gz_544 (by decide) rfl rfl (gx_catn (Nat.le_of_ble_eq_true rfl)) dX9_actionHere_25 ?_
      replace hf := gx_ite hf
      rcases hf with ⟨c9, hf⟩ | ⟨c9, hf⟩
      · refine gx_ifz_eq_f (tgt := 35) C dX9_actionHere_28 rfl c9 ?_
        refine gx_iconst (v := 2) C dX9_actionHere_31 rfl ?_
        refine gx_goto (tgt := 36) C dX9_actionHere_32 rfl ?_
        obtain rfl := Option.some.inj hf
        exact gx_iret C dX9_actionHere_36
      · refine gx_ifz_eq_t (tgt := 35) C dX9_actionHere_28 rfl c9 ?_
        refine gx_iconst (v := -1) C dX9_actionHere_35 rfl ?_
        obtain rfl := Option.some.inj hf
        exact gx_iret C dX9_actionHere_36
theorem w_X9_actionHere {l : Launch} (hlt : l.stackTraces = false) {D : gx_D} {b : HX} {o : Nat} {h : MS} {r : Int32} (hf : f_X9_actionHere D b o h = some r) : gx_Met l yX9_actionHere cX9_actionHere 1 (some .int) 6 131 D [(va_rf (some o))] (mh b o h) (some (.int r)) (mh b o h) :=
  gx_ofG gz_495 (by simp only [gx_lsr, gx_lsi, gx_lsj, gx_ls0]; decide) gx_le.rf (fun p e R s m args below meth c C hx => by
    simp only [gx_lar, gx_lai, gx_laj, gx_la0, Nat.reduceAdd]
    exact w_X9_actionHere_b hlt C hx hf)
def f_X9_opHere (D : gx_D) (b : HX) (o : Nat) (h : MS) : Option Int32 :=
  (f_X9_isWord D b o h (some (D.2.2.1 37))).bind fun b2 =>
  if b2 = true then
  some ((0 : Int32))
  else
  (f_X9_isWord D b o h (some (D.2.2.1 38))).bind fun b5 =>
  if b5 = true then
  some ((1 : Int32))
  else
  (f_X9_isWord D b o h (some (D.2.2.1 39))).bind fun b8 =>
  if b8 = true then
  some ((2 : Int32))
  else
  (f_X9_isWord D b o h (some (D.2.2.1 40))).bind fun b11 =>
  if b11 = true then
  some ((3 : Int32))
  else
  (f_X9_isWord D b o h (some (D.2.2.1 41))).bind fun b14 =>
  if b14 = true then
  some ((4 : Int32))
  else
  (f_X9_isWord D b o h (some (D.2.2.1 42))).bind fun b17 =>
  if b17 = true then
  some ((5 : Int32))
  else
  some ((-1 : Int32))
theorem w_X9_opHere_b {l : Launch} (hlt : l.stackTraces = false) {p : Program} {e : Env} {R : Room} {s : State} {m : MethodId} {args : Array Value} {below : List Frame} {meth : Method} {c : Code} {D : gx_D} {b : HX} {o : Nat} {h0 : MS} {r : Int32} (C : gx_Ctx p R s m args meth c "ContractMachineModel" cX9_opHere 1 (some .int) 6 131 D (mh b o h0) (mh b o h0)) (hx : meth.name = "opHere") (hf : f_X9_opHere D b o h0 = some r) : gx_G p l e R s m args below meth c D (mh b o h0) (mh b o h0) 1 (gx_MQ below args s D (mh b o h0) (mh b o h0) (some (.int r))) 0 [(0, (va_rf (some o)))] [] (mh b o h0) := by
  unfold f_X9_opHere at hf
  refine gx_aload_n C dX9_opHere_0 0 rfl ?_
  refine gx_ldcS C 37 rfl dX9_opHere_1 ?_
  replace hf := gx_bs hf
  obtain ⟨b2, g1, hf⟩ := hf
  refine gx_callV (st := []) C (w_X9_isWord hlt g1) mh_is gz_497 rfl (lw_V q2780 q2782 qs66 q151 q2783) gz_544 (by decide) rfl rfl (gx_catn (Nat.le_of_ble_eq_true rfl)) dX9_opHere_3 ?_
  replace hf := gx_ite hf
  rcases hf with ⟨c3, hf⟩ | ⟨c3, hf⟩
  · refine gx_ifz_eq_f (tgt := 11) C dX9_opHere_6 rfl c3 ?_
    refine gx_iconst (v := 0) C dX9_opHere_9 rfl ?_
    obtain rfl := Option.some.inj hf
    exact gx_iret C dX9_opHere_10
  · refine gx_ifz_eq_t (tgt := 11) C dX9_opHere_6 rfl c3 ?_
    refine gx_aload_n C dX9_opHere_11 0 rfl ?_
    refine gx_ldcS C 38 rfl dX9_opHere_12 ?_
    replace hf := gx_bs hf
    obtain ⟨b5, g4, hf⟩ := hf
    refine gx_callV (st := []) C (w_X9_isWord hlt g4) mh_is gz_497 rfl (lw_V q2780 q2782 qs66 q151 q2783) gz_544 (by decide) rfl rfl (gx_catn (Nat.le_of_ble_eq_true rfl)) dX9_opHere_14 ?_
    replace hf := gx_ite hf
    rcases hf with ⟨c6, hf⟩ | ⟨c6, hf⟩
    · refine gx_ifz_eq_f (tgt := 22) C dX9_opHere_17 rfl c6 ?_
      refine gx_iconst (v := 1) C dX9_opHere_20 rfl ?_
      obtain rfl := Option.some.inj hf
      exact gx_iret C dX9_opHere_21
    · refine gx_ifz_eq_t (tgt := 22) C dX9_opHere_17 rfl c6 ?_
      refine gx_aload_n C dX9_opHere_22 0 rfl ?_
      refine gx_ldcS C 39 rfl dX9_opHere_23 ?_
      replace hf := gx_bs hf
      obtain ⟨b8, g7, hf⟩ := hf
      refine gx_callV (st := []) C (w_X9_isWord hlt g7) mh_is gz_497 rfl (lw_V q2780 q2782 qs66 q151 q2783) gz_544 (by decide) rfl rfl (gx_catn (Nat.le_of_ble_eq_true rfl)) dX9_opHere_25 ?_
      replace hf := gx_ite hf
      rcases hf with ⟨c9, hf⟩ | ⟨c9, hf⟩
      · refine gx_ifz_eq_f (tgt := 33) C dX9_opHere_28 rfl c9 ?_
        refine gx_iconst (v := 2) C dX9_opHere_31 rfl ?_
        obtain rfl := Option.some.inj hf
        exact gx_iret C dX9_opHere_32
      · refine gx_ifz_eq_t (tgt := 33) C dX9_opHere_28 rfl c9 ?_
        refine gx_aload_n C dX9_opHere_33 0 rfl ?_
        refine gx_ldcS C 40 rfl dX9_opHere_34 ?_
        replace hf := gx_bs hf
        obtain ⟨b11, g10, hf⟩ := hf
        refine gx_callV (st := []) C (w_X9_isWord hlt g10) mh_is gz_497 rfl (lw_V q2780 q2782 qs66 q151 q2783) gz_544 (by decide) rfl rfl (gx_catn (Nat.le_of_ble_eq_true rfl)) dX9_opHere_36 ?_
        replace hf := gx_ite hf
        rcases hf with ⟨c12, hf⟩ | ⟨c12, hf⟩
        · refine gx_ifz_eq_f (tgt := 44) C dX9_opHere_39 rfl c12 ?_
          refine gx_iconst (v := 3) C dX9_opHere_42 rfl ?_
          obtain rfl := Option.some.inj hf
          exact gx_iret C dX9_opHere_43
        · refine gx_ifz_eq_t (tgt := 44) C dX9_opHere_39 rfl c12 ?_
          refine gx_aload_n C dX9_opHere_44 0 rfl ?_
          refine gx_ldcS C 41 rfl dX9_opHere_45 ?_
          replace hf := gx_bs hf
          obtain ⟨b14, g13, hf⟩ := hf
          refine gx_callV (st := []) C (w_X9_isWord hlt g13) mh_is gz_497 rfl (lw_V q2780 q2782 qs66 q151 q2783) gz_544 (by decide) rfl rfl (gx_catn (Nat.le_of_ble_eq_true rfl)) dX9_opHere_47 ?_
          replace hf := gx_ite hf
          rcases hf with ⟨c15, hf⟩ | ⟨c15, hf⟩
          · refine gx_ifz_eq_f (tgt := 55) C dX9_opHere_50 rfl c15 ?_
            refine gx_iconst (v := 4) C dX9_opHere_53 rfl ?_
            obtain rfl := Option.some.inj hf
            exact gx_iret C dX9_opHere_54
          · refine gx_ifz_eq_t (tgt := 55) C dX9_opHere_50 rfl c15 ?_
            refine gx_aload_n C dX9_opHere_55 0 rfl ?_
            refine gx_ldcS C 42 rfl dX9_opHere_56 ?_
            replace hf := gx_bs hf
            obtain ⟨b17, g16, hf⟩ := hf
            refine gx_callV (st := []) C (w_X9_isWord hlt g16) mh_is gz_497 rfl (lw_V q2780 q2782 qs66 q151 q2783) gz_544 (by decide) rfl rfl (gx_catn (Nat.le_of_ble_eq_true rfl)) dX9_opHere_58 ?_
            replace hf := gx_ite hf
            rcases hf with ⟨c18, hf⟩ | ⟨c18, hf⟩
            · refine gx_ifz_eq_f (tgt := 68) C dX9_opHere_61 rfl c18 ?_
              refine gx_iconst (v := 5) C dX9_opHere_64 rfl ?_
              refine gx_goto (tgt := 69) C dX9_opHere_65 rfl ?_
              obtain rfl := Option.some.inj hf
              exact gx_iret C dX9_opHere_69
            · refine gx_ifz_eq_t (tgt := 68) C dX9_opHere_61 rfl c18 ?_
              refine gx_iconst (v := -1) C dX9_opHere_68 rfl ?_
              obtain rfl := Option.some.inj hf
              exact gx_iret C dX9_opHere_69
theorem w_X9_opHere {l : Launch} (hlt : l.stackTraces = false) {D : gx_D} {b : HX} {o : Nat} {h : MS} {r : Int32} (hf : f_X9_opHere D b o h = some r) : gx_Met l yX9_opHere cX9_opHere 1 (some .int) 6 131 D [(va_rf (some o))] (mh b o h) (some (.int r)) (mh b o h) :=
  gx_ofG gz_495 (by simp only [gx_lsr, gx_lsi, gx_lsj, gx_ls0]; decide) gx_le.rf (fun p e R s m args below meth c C hx => by
    simp only [gx_lar, gx_lai, gx_laj, gx_la0, Nat.reduceAdd]
    exact w_X9_opHere_b hlt C hx hf)
def f_X9_seesNumber (D : gx_D) (b : HX) (o : Nat) (h : MS) (p1 : Int32) (p2 : Int32) : Option ((Bool) × MS) :=
  if (h.1 21) = (2 : Int32) then
  (f_X9_inRange D b o h (h.1 20) p1 p2).bind fun b3 =>
  if b3 = true then
  (ms_pf h 22 (h.1 20)).bind fun h5 =>
  some (true, h5)
  else
  gx_b2 (f_X9_failsAt D b o h (2 : Int32)) fun b8 h9 =>
  some (b8, h9)
  else
  gx_b2 (f_X9_failsAt D b o h (1 : Int32)) fun b11 h12 =>
  some (b11, h12)
theorem w_X9_seesNumber_b {l : Launch} (hlt : l.stackTraces = false) {p : Program} {e : Env} {R : Room} {s : State} {m : MethodId} {args : Array Value} {below : List Frame} {meth : Method} {c : Code} {D : gx_D} {b : HX} {o : Nat} {h0 : MS} {r : Bool} {hz : MS} (C : gx_Ctx p R s m args meth c "ContractMachineModel" cX9_seesNumber 3 (some .boolean) 2 46 D (mh b o h0) (mh b o hz)) (hx : meth.name = "seesNumber") {p1 : Int32} {p2 : Int32} (hf : f_X9_seesNumber D b o h0 p1 p2 = some (r, hz)) : gx_G p l e R s m args below meth c D (mh b o h0) (mh b o hz) 3 (gx_MQ below args s D (mh b o h0) (mh b o hz) (some (.int (b2i r)))) 0 [(0, (va_rf (some o))), (1, (.int p1)), (2, (.int p2))] [] (mh b o h0) := by
  unfold f_X9_seesNumber at hf
  refine gx_aload_n C dX9_seesNumber_0 0 rfl ?_
  refine gx_gi C (mh_gi (k := 21) rfl) gz_534 q2655 dX9_seesNumber_1 ?_
  refine gx_iconst (v := 2) C dX9_seesNumber_4 rfl ?_
  replace hf := gx_ite hf
  rcases hf with ⟨c1, hf⟩ | ⟨c1, hf⟩
  · refine gx_icmp_eq_t (tgt := 14) C dX9_seesNumber_5 rfl c1 ?_
    refine gx_aload_n C dX9_seesNumber_14 0 rfl ?_
    refine gx_gi C (mh_gi (k := 20) rfl) gz_537 q2654 dX9_seesNumber_15 ?_
    refine gx_iload_n C dX9_seesNumber_18 1 rfl ?_
    refine gx_iload_n C dX9_seesNumber_19 2 rfl ?_
    replace hf := gx_bs hf
    obtain ⟨b3, g2, hf⟩ := hf
    refine gx_callS (st := []) C (w_X9_inRange hlt g2) (lw_S q2745 q2746 q151 q2747) gz_522 (by decide) rfl rfl (gx_catn (Nat.le_of_ble_eq_true rfl)) dX9_seesNumber_20 ?_
    replace hf := gx_ite hf
    rcases hf with ⟨c4, hf⟩ | ⟨c4, hf⟩
    · refine gx_ifz_ne_t (tgt := 32) C dX9_seesNumber_23 rfl c4 ?_
      refine gx_aload_n C dX9_seesNumber_32 0 rfl ?_
      refine gx_aload_n C dX9_seesNumber_33 0 rfl ?_
      refine gx_gi C (mh_gi (k := 20) rfl) gz_537 q2654 dX9_seesNumber_34 ?_
      replace hf := gx_bs hf
      obtain ⟨h5, g6, hf⟩ := hf
      refine gx_putv C (mh_pg (by decide) (fun _ _ => mh_p22) g6) gz_545 gz_1 rfl rfl q2656 dX9_seesNumber_37 ?_
      refine gx_iconst (v := 1) C dX9_seesNumber_40 rfl ?_
      obtain ⟨rfl, rfl⟩ := Prod.mk.inj (Option.some.inj hf)
      exact gx_zret (b := true) C dX9_seesNumber_41
    · refine gx_ifz_ne_f (tgt := 32) C dX9_seesNumber_23 rfl c4 ?_
      refine gx_aload_n C dX9_seesNumber_26 0 rfl ?_
      refine gx_iconst (v := 2) C dX9_seesNumber_27 rfl ?_
      replace hf := gx_b2s hf
      obtain ⟨b8, h9, g7, hf⟩ := hf
      refine gx_callV (st := []) C (w_X9_failsAt hlt g7) mh_is gz_497 rfl (lw_V q2790 q2792 qs68 q151 q2793) gz_540 (by decide) rfl rfl (gx_catn (Nat.le_of_ble_eq_true rfl)) dX9_seesNumber_28 ?_
      obtain ⟨rfl, rfl⟩ := Prod.mk.inj (Option.some.inj hf)
      exact gx_zret (b := _) C dX9_seesNumber_31
  · refine gx_icmp_eq_f (tgt := 14) C dX9_seesNumber_5 rfl c1 ?_
    refine gx_aload_n C dX9_seesNumber_8 0 rfl ?_
    refine gx_iconst (v := 1) C dX9_seesNumber_9 rfl ?_
    replace hf := gx_b2s hf
    obtain ⟨b11, h12, g10, hf⟩ := hf
    refine gx_callV (st := []) C (w_X9_failsAt hlt g10) mh_is gz_497 rfl (lw_V q2790 q2792 qs68 q151 q2793) gz_540 (by decide) rfl rfl (gx_catn (Nat.le_of_ble_eq_true rfl)) dX9_seesNumber_10 ?_
    obtain ⟨rfl, rfl⟩ := Prod.mk.inj (Option.some.inj hf)
    exact gx_zret (b := _) C dX9_seesNumber_13
theorem w_X9_seesNumber {l : Launch} (hlt : l.stackTraces = false) {D : gx_D} {b : HX} {o : Nat} {h : MS} {p1 : Int32} {p2 : Int32} {r : Bool} {hz : MS} (hf : f_X9_seesNumber D b o h p1 p2 = some (r, hz)) : gx_Met l yX9_seesNumber cX9_seesNumber 3 (some .boolean) 2 46 D [(va_rf (some o)), (.int p1), (.int p2)] (mh b o h) (some (.int (b2i r))) (mh b o hz) :=
  gx_ofG gz_495 (by simp only [gx_lsr, gx_lsi, gx_lsj, gx_ls0]; decide) mh_le (fun p e R s m args below meth c C hx => by
    simp only [gx_lar, gx_lai, gx_laj, gx_la0, Nat.reduceAdd]
    exact w_X9_seesNumber_b hlt C hx hf)
def f_X9_takesNumber (D : gx_D) (b : HX) (o : Nat) (h : MS) (p1 : Int32) (p2 : Int32) : Option ((Bool) × MS) :=
  gx_b2 (f_X9_seesNumber D b o h p1 p2) fun b2 h3 =>
  if b2 = true then
  (f_X9_advanceToken D b o h3).bind fun h6 =>
  some (true, h6)
  else
  some (false, h3)
theorem w_X9_takesNumber_b {l : Launch} (hlt : l.stackTraces = false) {p : Program} {e : Env} {R : Room} {s : State} {m : MethodId} {args : Array Value} {below : List Frame} {meth : Method} {c : Code} {D : gx_D} {b : HX} {o : Nat} {h0 : MS} {r : Bool} {hz : MS} (C : gx_Ctx p R s m args meth c "ContractMachineModel" cX9_takesNumber 3 (some .boolean) 4 88 D (mh b o h0) (mh b o hz)) (hx : meth.name = "takesNumber") {p1 : Int32} {p2 : Int32} (hf : f_X9_takesNumber D b o h0 p1 p2 = some (r, hz)) : gx_G p l e R s m args below meth c D (mh b o h0) (mh b o hz) 3 (gx_MQ below args s D (mh b o h0) (mh b o hz) (some (.int (b2i r)))) 0 [(0, (va_rf (some o))), (1, (.int p1)), (2, (.int p2))] [] (mh b o h0) := by
  unfold f_X9_takesNumber at hf
  refine gx_aload_n C dX9_takesNumber_0 0 rfl ?_
  refine gx_iload_n C dX9_takesNumber_1 1 rfl ?_
  refine gx_iload_n C dX9_takesNumber_2 2 rfl ?_
  replace hf := gx_b2s hf
  obtain ⟨b2, h3, g1, hf⟩ := hf
  refine gx_callV (st := []) C (w_X9_seesNumber hlt g1) mh_is gz_497 rfl (lw_V q2818 q2820 qs75 q151 q2821) gz_546 (by decide) rfl rfl (gx_catn (Nat.le_of_ble_eq_true rfl)) dX9_takesNumber_3 ?_
  replace hf := gx_ite hf
  rcases hf with ⟨c4, hf⟩ | ⟨c4, hf⟩
  · refine gx_ifz_ne_t (tgt := 11) C dX9_takesNumber_6 rfl c4 ?_
    refine gx_aload_n C dX9_takesNumber_11 0 rfl ?_
    replace hf := gx_bs hf
    obtain ⟨h6, g5, hf⟩ := hf
    refine gx_callV (st := []) C (w_X9_advanceToken hlt g5) mh_is gz_497 rfl (lw_V q2759 q2761 qs61 q151 q2762) gz_543 (by decide) rfl rfl (gx_catn (Nat.le_of_ble_eq_true rfl)) dX9_takesNumber_12 ?_
    refine gx_iconst (v := 1) C dX9_takesNumber_15 rfl ?_
    obtain ⟨rfl, rfl⟩ := Prod.mk.inj (Option.some.inj hf)
    exact gx_zret (b := true) C dX9_takesNumber_16
  · refine gx_ifz_ne_f (tgt := 11) C dX9_takesNumber_6 rfl c4 ?_
    refine gx_iconst (v := 0) C dX9_takesNumber_9 rfl ?_
    obtain ⟨rfl, rfl⟩ := Prod.mk.inj (Option.some.inj hf)
    exact gx_zret (b := false) C dX9_takesNumber_10
theorem w_X9_takesNumber {l : Launch} (hlt : l.stackTraces = false) {D : gx_D} {b : HX} {o : Nat} {h : MS} {p1 : Int32} {p2 : Int32} {r : Bool} {hz : MS} (hf : f_X9_takesNumber D b o h p1 p2 = some (r, hz)) : gx_Met l yX9_takesNumber cX9_takesNumber 3 (some .boolean) 4 88 D [(va_rf (some o)), (.int p1), (.int p2)] (mh b o h) (some (.int (b2i r))) (mh b o hz) :=
  gx_ofG gz_495 (by simp only [gx_lsr, gx_lsi, gx_lsj, gx_ls0]; decide) mh_le (fun p e R s m args below meth c C hx => by
    simp only [gx_lar, gx_lai, gx_laj, gx_la0, Nat.reduceAdd]
    exact w_X9_takesNumber_b hlt C hx hf)
def f_X9_takes (D : gx_D) (b : HX) (o : Nat) (h : MS) (p1 : Int32) : Option ((Bool) × MS) :=
  gx_b2 (f_X9_takesNumber D b o h (0 : Int32) (9 : Int32)) fun b2 h3 =>
  if b2 = true then
  (ms_si h3 7 p1 (h3.1 22)).bind fun h5 =>
  some (true, h5)
  else
  some (false, h3)
theorem w_X9_takes_b {l : Launch} (hlt : l.stackTraces = false) {p : Program} {e : Env} {R : Room} {s : State} {m : MethodId} {args : Array Value} {below : List Frame} {meth : Method} {c : Code} {D : gx_D} {b : HX} {o : Nat} {h0 : MS} {r : Bool} {hz : MS} (C : gx_Ctx p R s m args meth c "ContractMachineModel" cX9_takes 2 (some .boolean) 5 110 D (mh b o h0) (mh b o hz)) (hx : meth.name = "takes") {p1 : Int32} (hf : f_X9_takes D b o h0 p1 = some (r, hz)) : gx_G p l e R s m args below meth c D (mh b o h0) (mh b o hz) 2 (gx_MQ below args s D (mh b o h0) (mh b o hz) (some (.int (b2i r)))) 0 [(0, (va_rf (some o))), (1, (.int p1))] [] (mh b o h0) := by
  unfold f_X9_takes at hf
  refine gx_aload_n C dX9_takes_0 0 rfl ?_
  refine gx_iconst (v := 0) C dX9_takes_1 rfl ?_
  refine gx_bipush (v := 9) C dX9_takes_2 rfl ?_
  replace hf := gx_b2s hf
  obtain ⟨b2, h3, g1, hf⟩ := hf
  refine gx_callV (st := []) C (w_X9_takesNumber hlt g1) mh_is gz_497 rfl (lw_V q2814 q2816 qs74 q151 q2817) gz_547 (by decide) rfl rfl (gx_catn (Nat.le_of_ble_eq_true rfl)) dX9_takes_4 ?_
  replace hf := gx_ite hf
  rcases hf with ⟨c4, hf⟩ | ⟨c4, hf⟩
  · refine gx_ifz_ne_t (tgt := 12) C dX9_takes_7 rfl c4 ?_
    refine gx_aload_n C dX9_takes_12 0 rfl ?_
    refine gx_gr C (mh_gr (k := 23) rfl) gz_505 q2657 dX9_takes_13 ?_
    refine gx_iload_n C dX9_takes_16 1 rfl ?_
    refine gx_aload_n C dX9_takes_17 0 rfl ?_
    refine gx_gi C (mh_gi (k := 22) rfl) gz_545 q2656 dX9_takes_18 ?_
    replace hf := gx_bs hf
    obtain ⟨h5, g6, hf⟩ := hf
    refine gx_iast C (mh_si g6) dX9_takes_21 ?_
    refine gx_iconst (v := 1) C dX9_takes_22 rfl ?_
    obtain ⟨rfl, rfl⟩ := Prod.mk.inj (Option.some.inj hf)
    exact gx_zret (b := true) C dX9_takes_23
  · refine gx_ifz_ne_f (tgt := 12) C dX9_takes_7 rfl c4 ?_
    refine gx_iconst (v := 0) C dX9_takes_10 rfl ?_
    obtain ⟨rfl, rfl⟩ := Prod.mk.inj (Option.some.inj hf)
    exact gx_zret (b := false) C dX9_takes_11
theorem w_X9_takes {l : Launch} (hlt : l.stackTraces = false) {D : gx_D} {b : HX} {o : Nat} {h : MS} {p1 : Int32} {r : Bool} {hz : MS} (hf : f_X9_takes D b o h p1 = some (r, hz)) : gx_Met l yX9_takes cX9_takes 2 (some .boolean) 5 110 D [(va_rf (some o)), (.int p1)] (mh b o h) (some (.int (b2i r))) (mh b o hz) :=
  gx_ofG gz_495 (by simp only [gx_lsr, gx_lsi, gx_lsj, gx_ls0]; decide) mh_le (fun p e R s m args below meth c C hx => by
    simp only [gx_lar, gx_lai, gx_laj, gx_la0, Nat.reduceAdd]
    exact w_X9_takes_b hlt C hx hf)
def f_X9_takesWord (D : gx_D) (b : HX) (o : Nat) (h : MS) (p1 : Bool) : Option ((Bool) × MS) :=
  if p1 = true then
  (f_X9_advanceToken D b o h).bind fun h3 =>
  some (true, h3)
  else
  gx_b2 (f_X9_failsAt D b o h (1 : Int32)) fun b5 h6 =>
  some (b5, h6)
theorem w_X9_takesWord_b {l : Launch} (hlt : l.stackTraces = false) {p : Program} {e : Env} {R : Room} {s : State} {m : MethodId} {args : Array Value} {below : List Frame} {meth : Method} {c : Code} {D : gx_D} {b : HX} {o : Nat} {h0 : MS} {r : Bool} {hz : MS} (C : gx_Ctx p R s m args meth c "ContractMachineModel" cX9_takesWord 2 (some .boolean) 4 88 D (mh b o h0) (mh b o hz)) (hx : meth.name = "takesWord") {p1 : Bool} (hf : f_X9_takesWord D b o h0 p1 = some (r, hz)) : gx_G p l e R s m args below meth c D (mh b o h0) (mh b o hz) 2 (gx_MQ below args s D (mh b o h0) (mh b o hz) (some (.int (b2i r)))) 0 [(0, (va_rf (some o))), (1, (.int (b2i p1)))] [] (mh b o h0) := by
  unfold f_X9_takesWord at hf
  refine gx_iload_n C dX9_takesWord_0 1 rfl ?_
  replace hf := gx_ite hf
  rcases hf with ⟨c1, hf⟩ | ⟨c1, hf⟩
  · refine gx_ifz_ne_t (tgt := 10) C dX9_takesWord_1 rfl c1 ?_
    refine gx_aload_n C dX9_takesWord_10 0 rfl ?_
    replace hf := gx_bs hf
    obtain ⟨h3, g2, hf⟩ := hf
    refine gx_callV (st := []) C (w_X9_advanceToken hlt g2) mh_is gz_497 rfl (lw_V q2759 q2761 qs61 q151 q2762) gz_543 (by decide) rfl rfl (gx_catn (Nat.le_of_ble_eq_true rfl)) dX9_takesWord_11 ?_
    refine gx_iconst (v := 1) C dX9_takesWord_14 rfl ?_
    obtain ⟨rfl, rfl⟩ := Prod.mk.inj (Option.some.inj hf)
    exact gx_zret (b := true) C dX9_takesWord_15
  · refine gx_ifz_ne_f (tgt := 10) C dX9_takesWord_1 rfl c1 ?_
    refine gx_aload_n C dX9_takesWord_4 0 rfl ?_
    refine gx_iconst (v := 1) C dX9_takesWord_5 rfl ?_
    replace hf := gx_b2s hf
    obtain ⟨b5, h6, g4, hf⟩ := hf
    refine gx_callV (st := []) C (w_X9_failsAt hlt g4) mh_is gz_497 rfl (lw_V q2790 q2792 qs68 q151 q2793) gz_540 (by decide) rfl rfl (gx_catn (Nat.le_of_ble_eq_true rfl)) dX9_takesWord_6 ?_
    obtain ⟨rfl, rfl⟩ := Prod.mk.inj (Option.some.inj hf)
    exact gx_zret (b := _) C dX9_takesWord_9
theorem w_X9_takesWord {l : Launch} (hlt : l.stackTraces = false) {D : gx_D} {b : HX} {o : Nat} {h : MS} {p1 : Bool} {r : Bool} {hz : MS} (hf : f_X9_takesWord D b o h p1 = some (r, hz)) : gx_Met l yX9_takesWord cX9_takesWord 2 (some .boolean) 4 88 D [(va_rf (some o)), (.int (b2i p1))] (mh b o h) (some (.int (b2i r))) (mh b o hz) :=
  gx_ofG gz_495 (by simp only [gx_lsr, gx_lsi, gx_lsj, gx_ls0]; decide) mh_le (fun p e R s m args below meth c C hx => by
    simp only [gx_lar, gx_lai, gx_laj, gx_la0, Nat.reduceAdd]
    exact w_X9_takesWord_b hlt C hx hf)
def f_X9_takesThree_b55 (D : gx_D) (b : HX) (o : Nat) (h : MS) (v1 : Int32) (s0 : Bool) : Option ((Bool) × MS) :=
  gx_b2 (f_X9_takesWord D b o h s0) fun b12 h13 =>
  if b12 = true then
  gx_b2 (f_X9_takes D b o h13 (v1 + (2 : Int32))) fun b16 h17 =>
  if b16 = true then
  some (true, h17)
  else
  some (false, h17)
  else
  some (false, h13)
theorem w_X9_takesThree_b55 {l : Launch} (hlt : l.stackTraces = false) {p : Program} {e : Env} {R : Room} {s : State} {m : MethodId} {args : Array Value} {below : List Frame} {meth : Method} {c : Code} {D : gx_D} {b : HX} {o : Nat} {h0 : MS} {r : Bool} {hz : MS} (C : gx_Ctx p R s m args meth c "ContractMachineModel" cX9_takesThree 3 (some .boolean) 7 151 D (mh b o h0) (mh b o hz)) (hx : meth.name = "takesThree")  {h : MS} {v1 : Int32} {s0 : Bool} (hf : f_X9_takesThree_b55 D b o h v1 s0 = some (r, hz)) : gx_G p l e R s m args below meth c D (mh b o h0) (mh b o hz) 3 (gx_MQ below args s D (mh b o h0) (mh b o hz) (some (.int (b2i r)))) 55 [(0, (va_rf (some o))), (1, (.int v1))] [(.int (b2i s0)), (va_rf (some o))] (mh b o h) := by
  unfold f_X9_takesThree_b55 at hf
  replace hf := gx_b2s hf
  obtain ⟨b12, h13, g11, hf⟩ := hf
  refine gx_callV (st := []) C (w_X9_takesWord hlt g11) mh_is gz_497 rfl (lw_V q2838 q2840 qs79 q151 q2841) gz_550 (by decide) rfl rfl (gx_catn (Nat.le_of_ble_eq_true rfl)) dX9_takesThree_55 ?_
  replace hf := gx_ite hf
  rcases hf with ⟨c14, hf⟩ | ⟨c14, hf⟩
  · refine gx_ifz_eq_f (tgt := 75) C dX9_takesThree_58 rfl c14 ?_
    refine gx_aload_n C dX9_takesThree_61 0 rfl ?_
    refine gx_iload_n C dX9_takesThree_62 1 rfl ?_
    refine gx_iconst (v := 2) C dX9_takesThree_63 rfl ?_
    refine gx_iadd C dX9_takesThree_64 ?_
    replace hf := gx_b2s hf
    obtain ⟨b16, h17, g15, hf⟩ := hf
    refine gx_callV (st := []) C (w_X9_takes hlt g15) mh_is gz_497 rfl (lw_V q2810 q2812 qs73 q151 q2813) gz_551 (by decide) rfl rfl (gx_catn (Nat.le_of_ble_eq_true rfl)) dX9_takesThree_65 ?_
    replace hf := gx_ite hf
    rcases hf with ⟨c18, hf⟩ | ⟨c18, hf⟩
    · refine gx_ifz_eq_f (tgt := 75) C dX9_takesThree_68 rfl c18 ?_
      refine gx_iconst (v := 1) C dX9_takesThree_71 rfl ?_
      refine gx_goto (tgt := 76) C dX9_takesThree_72 rfl ?_
      obtain ⟨rfl, rfl⟩ := Prod.mk.inj (Option.some.inj hf)
      exact gx_zret (b := true) C dX9_takesThree_76
    · refine gx_ifz_eq_t (tgt := 75) C dX9_takesThree_68 rfl c18 ?_
      refine gx_iconst (v := 0) C dX9_takesThree_75 rfl ?_
      obtain ⟨rfl, rfl⟩ := Prod.mk.inj (Option.some.inj hf)
      exact gx_zret (b := false) C dX9_takesThree_76
  · refine gx_ifz_eq_t (tgt := 75) C dX9_takesThree_58 rfl c14 ?_
    refine gx_iconst (v := 0) C dX9_takesThree_75 rfl ?_
    obtain ⟨rfl, rfl⟩ := Prod.mk.inj (Option.some.inj hf)
    exact gx_zret (b := false) C dX9_takesThree_76
def f_X9_takesThree_b36 (D : gx_D) (b : HX) (o : Nat) (h : MS) (v1 : Int32) (s0 : Int32) (s1 : Int32) (s2 : Nat) : Option ((Bool) × MS) :=
  (ms_si h s2 s1 s0).bind fun h8 =>
  (ms_ai h8 7 (v1 + (1 : Int32))).bind fun x9 =>
  if x9 = (-1 : Int32) then
  f_X9_takesThree_b55 D b o h8 v1 false
  else
  f_X9_takesThree_b55 D b o h8 v1 true
theorem w_X9_takesThree_b36 {l : Launch} (hlt : l.stackTraces = false) {p : Program} {e : Env} {R : Room} {s : State} {m : MethodId} {args : Array Value} {below : List Frame} {meth : Method} {c : Code} {D : gx_D} {b : HX} {o : Nat} {h0 : MS} {r : Bool} {hz : MS} (C : gx_Ctx p R s m args meth c "ContractMachineModel" cX9_takesThree 3 (some .boolean) 7 151 D (mh b o h0) (mh b o hz)) (hx : meth.name = "takesThree")  {h : MS} {v1 : Int32} {s0 : Int32} {s1 : Int32} {s2 : Nat} (hf : f_X9_takesThree_b36 D b o h v1 s0 s1 s2 = some (r, hz)) : gx_G p l e R s m args below meth c D (mh b o h0) (mh b o hz) 3 (gx_MQ below args s D (mh b o h0) (mh b o hz) (some (.int (b2i r)))) 36 [(0, (va_rf (some o))), (1, (.int v1))] [(.int s0), (.int s1), (va_rf (some (o + 1 + s2)))] (mh b o h) := by
  unfold f_X9_takesThree_b36 at hf
  replace hf := gx_bs hf
  obtain ⟨h8, g20, hf⟩ := hf
  refine gx_iast C (mh_si g20) dX9_takesThree_36 ?_
  refine gx_aload_n C dX9_takesThree_37 0 rfl ?_
  refine gx_aload_n C dX9_takesThree_38 0 rfl ?_
  refine gx_gr C (mh_gr (k := 23) rfl) gz_505 q2657 dX9_takesThree_39 ?_
  refine gx_iload_n C dX9_takesThree_42 1 rfl ?_
  refine gx_iconst (v := 1) C dX9_takesThree_43 rfl ?_
  refine gx_iadd C dX9_takesThree_44 ?_
  replace hf := gx_bs hf
  obtain ⟨x9, g19, hf⟩ := hf
  refine gx_iald C (mh_ai g19) dX9_takesThree_45 ?_
  refine gx_iconst (v := -1) C dX9_takesThree_46 rfl ?_
  replace hf := gx_ite hf
  rcases hf with ⟨c10, hf⟩ | ⟨c10, hf⟩
  · refine gx_icmp_eq_t (tgt := 54) C dX9_takesThree_47 rfl c10 ?_
    refine gx_iconst (v := 0) C dX9_takesThree_54 rfl ?_
    refine gx_sub [0, 1] rfl ?_
    exact w_X9_takesThree_b55 hlt C hx hf
  · refine gx_icmp_eq_f (tgt := 54) C dX9_takesThree_47 rfl c10 ?_
    refine gx_iconst (v := 1) C dX9_takesThree_50 rfl ?_
    refine gx_goto (tgt := 55) C dX9_takesThree_51 rfl ?_
    refine gx_sub [0, 1] rfl ?_
    exact w_X9_takesThree_b55 hlt C hx hf
def f_X9_takesThree (D : gx_D) (b : HX) (o : Nat) (h : MS) (p1 : Int32) (p2 : Bool) : Option ((Bool) × MS) :=
  gx_b2 (f_X9_takesKnown D b o h p1 (483 : Int32) (2 : Int32)) fun b2 h3 =>
  if b2 = true then
  if p2 = true then
  (f_X9_opHere D b o h3).bind fun x7 =>
  f_X9_takesThree_b36 D b o h3 p1 x7 ((p1 + (1 : Int32))) 7
  else
  (f_X9_actionHere D b o h3).bind fun x22 =>
  f_X9_takesThree_b36 D b o h3 p1 x22 ((p1 + (1 : Int32))) 7
  else
  some (false, h3)
theorem w_X9_takesThree_b {l : Launch} (hlt : l.stackTraces = false) {p : Program} {e : Env} {R : Room} {s : State} {m : MethodId} {args : Array Value} {below : List Frame} {meth : Method} {c : Code} {D : gx_D} {b : HX} {o : Nat} {h0 : MS} {r : Bool} {hz : MS} (C : gx_Ctx p R s m args meth c "ContractMachineModel" cX9_takesThree 3 (some .boolean) 7 151 D (mh b o h0) (mh b o hz)) (hx : meth.name = "takesThree") {p1 : Int32} {p2 : Bool} (hf : f_X9_takesThree D b o h0 p1 p2 = some (r, hz)) : gx_G p l e R s m args below meth c D (mh b o h0) (mh b o hz) 3 (gx_MQ below args s D (mh b o h0) (mh b o hz) (some (.int (b2i r)))) 0 [(0, (va_rf (some o))), (1, (.int p1)), (2, (.int (b2i p2)))] [] (mh b o h0) := by
  unfold f_X9_takesThree at hf
  refine gx_aload_n C dX9_takesThree_0 0 rfl ?_
  refine gx_iload_n C dX9_takesThree_1 1 rfl ?_
  refine gx_sipush (v := 483) C dX9_takesThree_2 rfl ?_
  refine gx_iconst (v := 2) C dX9_takesThree_5 rfl ?_
  replace hf := gx_b2s hf
  obtain ⟨b2, h3, g1, hf⟩ := hf
  refine gx_callV (st := []) C (w_X9_takesKnown hlt g1) mh_is gz_497 rfl (lw_V q2833 q2835 qs78 q151 q2836) gz_548 (by decide) rfl rfl (gx_catn (Nat.le_of_ble_eq_true rfl)) dX9_takesThree_6 ?_
  replace hf := gx_ite hf
  rcases hf with ⟨c4, hf⟩ | ⟨c4, hf⟩
  · refine gx_ifz_ne_t (tgt := 14) C dX9_takesThree_9 rfl c4 ?_
    refine gx_aload_n C dX9_takesThree_14 0 rfl ?_
    refine gx_gr C (mh_gr (k := 23) rfl) gz_505 q2657 dX9_takesThree_15 ?_
    refine gx_iload_n C dX9_takesThree_18 1 rfl ?_
    refine gx_iconst (v := 1) C dX9_takesThree_19 rfl ?_
    refine gx_iadd C dX9_takesThree_20 ?_
    refine gx_iload_n C dX9_takesThree_21 2 rfl ?_
    replace hf := gx_ite hf
    rcases hf with ⟨c5, hf⟩ | ⟨c5, hf⟩
    · refine gx_ifz_eq_f (tgt := 32) C dX9_takesThree_22 rfl c5 ?_
      refine gx_aload_n C dX9_takesThree_25 0 rfl ?_
      replace hf := gx_bs hf
      obtain ⟨x7, g6, hf⟩ := hf
      refine gx_callV (st := [(.int (p1 + (1 : Int32))), (va_rf (some (o + 1 + 7)))]) C (w_X9_opHere hlt g6) mh_is gz_497 rfl (lw_V q2847 q2849 qs81 q151 q2850) gz_549 (by decide) rfl rfl (gx_catn (Nat.le_of_ble_eq_true rfl)) dX9_takesThree_26 ?_
      refine gx_goto (tgt := 36) C dX9_takesThree_29 rfl ?_
      refine gx_sub [0, 1] rfl ?_
      exact w_X9_takesThree_b36 hlt C hx hf
    · refine gx_ifz_eq_t (tgt := 32) C dX9_takesThree_22 rfl c5 ?_
      refine gx_aload_n C dX9_takesThree_32 0 rfl ?_
      replace hf := gx_bs hf
      obtain ⟨x22, g21, hf⟩ := hf
      refine gx_callV (st := [(.int (p1 + (1 : Int32))), (va_rf (some (o + 1 + 7)))]) C (w_X9_actionHere hlt g21) mh_is gz_497 rfl (lw_V q2857 q2859 qs82 q151 q2860) gz_552 (by decide) rfl rfl (gx_catn (Nat.le_of_ble_eq_true rfl)) dX9_takesThree_33 ?_
      refine gx_sub [0, 1] rfl ?_
      exact w_X9_takesThree_b36 hlt C hx hf
  · refine gx_ifz_ne_f (tgt := 14) C dX9_takesThree_9 rfl c4 ?_
    refine gx_iconst (v := 0) C dX9_takesThree_12 rfl ?_
    obtain ⟨rfl, rfl⟩ := Prod.mk.inj (Option.some.inj hf)
    exact gx_zret (b := false) C dX9_takesThree_13
theorem w_X9_takesThree {l : Launch} (hlt : l.stackTraces = false) {D : gx_D} {b : HX} {o : Nat} {h : MS} {p1 : Int32} {p2 : Bool} {r : Bool} {hz : MS} (hf : f_X9_takesThree D b o h p1 p2 = some (r, hz)) : gx_Met l yX9_takesThree cX9_takesThree 3 (some .boolean) 7 151 D [(va_rf (some o)), (.int p1), (.int (b2i p2))] (mh b o h) (some (.int (b2i r))) (mh b o hz) :=
  gx_ofG gz_495 (by simp only [gx_lsr, gx_lsi, gx_lsj, gx_ls0]; decide) mh_le (fun p e R s m args below meth c C hx => by
    simp only [gx_lar, gx_lai, gx_laj, gx_la0, Nat.reduceAdd]
    exact w_X9_takesThree_b hlt C hx hf)
def f_X9_readInvariant_b46 (D : gx_D) (b : HX) (o : Nat) (h : MS) : Option ((Bool) × MS) :=
  gx_b2 (f_X9_takesThree D b o h (1 : Int32) true) fun b15 h16 =>
  if b15 = true then
  (ms_ai h16 7 (0 : Int32)).bind fun x18 =>
  (ms_ai h16 7 (1 : Int32)).bind fun x19 =>
  (ms_ai h16 7 (2 : Int32)).bind fun x20 =>
  (ms_ai h16 7 (3 : Int32)).bind fun x21 =>
  gx_b2 (f_X9_keeps D b o h16 x18 x19 x20 x21) fun x23 h24 =>
  gx_b2 (f_X9_takesSemicolon D b o h24) fun b26 h27 =>
  some (b26, h27)
  else
  some (false, h16)
theorem w_X9_readInvariant_b46 {l : Launch} (hlt : l.stackTraces = false) {p : Program} {e : Env} {R : Room} {s : State} {m : MethodId} {args : Array Value} {below : List Frame} {meth : Method} {c : Code} {D : gx_D} {b : HX} {o : Nat} {h0 : MS} {r : Bool} {hz : MS} (C : gx_Ctx p R s m args meth c "ContractMachineModel" cX9_readInvariant 3 (some .boolean) 8 173 D (mh b o h0) (mh b o hz)) (hx : meth.name = "readInvariant")  {h : MS} (hf : f_X9_readInvariant_b46 D b o h = some (r, hz)) : gx_G p l e R s m args below meth c D (mh b o h0) (mh b o hz) 3 (gx_MQ below args s D (mh b o h0) (mh b o hz) (some (.int (b2i r)))) 46 [(0, (va_rf (some o)))] [] (mh b o h) := by
  unfold f_X9_readInvariant_b46 at hf
  refine gx_aload_n C dX9_readInvariant_46 0 rfl ?_
  refine gx_iconst (v := 1) C dX9_readInvariant_47 rfl ?_
  refine gx_iconst (v := 1) C dX9_readInvariant_48 rfl ?_
  replace hf := gx_b2s hf
  obtain ⟨b15, h16, g14, hf⟩ := hf
  refine gx_callV (st := []) C (w_X9_takesThree hlt g14) mh_is gz_497 rfl (lw_V q2843 q2845 qs80 q151 q2846) gz_553 (by decide) rfl rfl (gx_catn (Nat.le_of_ble_eq_true rfl)) dX9_readInvariant_49 ?_
  replace hf := gx_ite hf
  rcases hf with ⟨c17, hf⟩ | ⟨c17, hf⟩
  · refine gx_ifz_ne_t (tgt := 57) C dX9_readInvariant_52 rfl c17 ?_
    refine gx_aload_n C dX9_readInvariant_57 0 rfl ?_
    refine gx_aload_n C dX9_readInvariant_58 0 rfl ?_
    refine gx_gr C (mh_gr (k := 23) rfl) gz_505 q2657 dX9_readInvariant_59 ?_
    refine gx_iconst (v := 0) C dX9_readInvariant_62 rfl ?_
    replace hf := gx_bs hf
    obtain ⟨x18, g31, hf⟩ := hf
    refine gx_iald C (mh_ai g31) dX9_readInvariant_63 ?_
    refine gx_aload_n C dX9_readInvariant_64 0 rfl ?_
    refine gx_gr C (mh_gr (k := 23) rfl) gz_505 q2657 dX9_readInvariant_65 ?_
    refine gx_iconst (v := 1) C dX9_readInvariant_68 rfl ?_
    replace hf := gx_bs hf
    obtain ⟨x19, g30, hf⟩ := hf
    refine gx_iald C (mh_ai g30) dX9_readInvariant_69 ?_
    refine gx_aload_n C dX9_readInvariant_70 0 rfl ?_
    refine gx_gr C (mh_gr (k := 23) rfl) gz_505 q2657 dX9_readInvariant_71 ?_
    refine gx_iconst (v := 2) C dX9_readInvariant_74 rfl ?_
    replace hf := gx_bs hf
    obtain ⟨x20, g29, hf⟩ := hf
    refine gx_iald C (mh_ai g29) dX9_readInvariant_75 ?_
    refine gx_aload_n C dX9_readInvariant_76 0 rfl ?_
    refine gx_gr C (mh_gr (k := 23) rfl) gz_505 q2657 dX9_readInvariant_77 ?_
    refine gx_iconst (v := 3) C dX9_readInvariant_80 rfl ?_
    replace hf := gx_bs hf
    obtain ⟨x21, g28, hf⟩ := hf
    refine gx_iald C (mh_ai g28) dX9_readInvariant_81 ?_
    replace hf := gx_b2s hf
    obtain ⟨x23, h24, g22, hf⟩ := hf
    refine gx_callV (st := []) C (w_X9_keeps hlt g22) mh_is gz_497 rfl (lw_V q2622 q2624 qs56 q151 q2625) gz_517 (by decide) rfl rfl (gx_catn (Nat.le_of_ble_eq_true rfl)) dX9_readInvariant_82 ?_
    refine gx_istn C dX9_readInvariant_85 2 rfl (by decide) [0]  rfl (gx_okn rfl rfl gx_ok0) ?_
    refine gx_aload_n C dX9_readInvariant_86 1 rfl ?_
    replace hf := gx_b2s hf
    obtain ⟨b26, h27, g25, hf⟩ := hf
    refine gx_callV (st := []) C (w_X9_takesSemicolon hlt g25) mh_is gz_497 rfl (lw_V q2822 q2824 qs76 q151 q2825) gz_554 (by decide) rfl rfl (gx_catn (Nat.le_of_ble_eq_true rfl)) dX9_readInvariant_87 ?_
    obtain ⟨rfl, rfl⟩ := Prod.mk.inj (Option.some.inj hf)
    exact gx_zret (b := _) C dX9_readInvariant_90
  · refine gx_ifz_ne_f (tgt := 57) C dX9_readInvariant_52 rfl c17 ?_
    refine gx_iconst (v := 0) C dX9_readInvariant_55 rfl ?_
    obtain ⟨rfl, rfl⟩ := Prod.mk.inj (Option.some.inj hf)
    exact gx_zret (b := false) C dX9_readInvariant_56
def f_X9_readInvariant (D : gx_D) (b : HX) (o : Nat) (h : MS) (p1 : Bool) : Option ((Bool) × MS) :=
  (ms_ai h 0 (4 : Int32)).bind fun x1 =>
  if x1 = (12 : Int32) then
  gx_b2 (f_X9_failsAt D b o h (5 : Int32)) fun b4 h5 =>
  some (b4, h5)
  else
  (f_X9_advanceToken D b o h).bind fun h7 =>
  (ms_si h7 7 (0 : Int32) (-1 : Int32)).bind fun h8 =>
  if p1 = true then
  gx_b2 (f_X9_takesKnown D b o h8 (0 : Int32) (357 : Int32) (0 : Int32)) fun b11 h12 =>
  if b11 = true then
  f_X9_readInvariant_b46 D b o h12
  else
  some (false, h12)
  else
  f_X9_readInvariant_b46 D b o h8
theorem w_X9_readInvariant_b {l : Launch} (hlt : l.stackTraces = false) {p : Program} {e : Env} {R : Room} {s : State} {m : MethodId} {args : Array Value} {below : List Frame} {meth : Method} {c : Code} {D : gx_D} {b : HX} {o : Nat} {h0 : MS} {r : Bool} {hz : MS} (C : gx_Ctx p R s m args meth c "ContractMachineModel" cX9_readInvariant 3 (some .boolean) 8 173 D (mh b o h0) (mh b o hz)) (hx : meth.name = "readInvariant") {p1 : Bool} (hf : f_X9_readInvariant D b o h0 p1 = some (r, hz)) : gx_G p l e R s m args below meth c D (mh b o h0) (mh b o hz) 3 (gx_MQ below args s D (mh b o h0) (mh b o hz) (some (.int (b2i r)))) 0 [(0, (va_rf (some o))), (1, (.int (b2i p1)))] [] (mh b o h0) := by
  unfold f_X9_readInvariant at hf
  refine gx_aload_n C dX9_readInvariant_0 0 rfl ?_
  refine gx_gr C (mh_gr (k := 0) rfl) gz_494 q2634 dX9_readInvariant_1 ?_
  refine gx_iconst (v := 4) C dX9_readInvariant_4 rfl ?_
  replace hf := gx_bs hf
  obtain ⟨x1, g33, hf⟩ := hf
  refine gx_iald C (mh_ai g33) dX9_readInvariant_5 ?_
  refine gx_bipush (v := 12) C dX9_readInvariant_6 rfl ?_
  replace hf := gx_ite hf
  rcases hf with ⟨c2, hf⟩ | ⟨c2, hf⟩
  · refine gx_icmp_ne_f (tgt := 17) C dX9_readInvariant_8 rfl c2 ?_
    refine gx_aload_n C dX9_readInvariant_11 0 rfl ?_
    refine gx_iconst (v := 5) C dX9_readInvariant_12 rfl ?_
    replace hf := gx_b2s hf
    obtain ⟨b4, h5, g3, hf⟩ := hf
    refine gx_callV (st := []) C (w_X9_failsAt hlt g3) mh_is gz_497 rfl (lw_V q2790 q2792 qs68 q151 q2793) gz_540 (by decide) rfl rfl (gx_catn (Nat.le_of_ble_eq_true rfl)) dX9_readInvariant_13 ?_
    obtain ⟨rfl, rfl⟩ := Prod.mk.inj (Option.some.inj hf)
    exact gx_zret (b := _) C dX9_readInvariant_16
  · refine gx_icmp_ne_t (tgt := 17) C dX9_readInvariant_8 rfl c2 ?_
    refine gx_aload_n C dX9_readInvariant_17 0 rfl ?_
    replace hf := gx_bs hf
    obtain ⟨h7, g6, hf⟩ := hf
    refine gx_callV (st := []) C (w_X9_advanceToken hlt g6) mh_is gz_497 rfl (lw_V q2759 q2761 qs61 q151 q2762) gz_543 (by decide) rfl rfl (gx_catn (Nat.le_of_ble_eq_true rfl)) dX9_readInvariant_18 ?_
    refine gx_aload_n C dX9_readInvariant_21 0 rfl ?_
    refine gx_gr C (mh_gr (k := 23) rfl) gz_505 q2657 dX9_readInvariant_22 ?_
    refine gx_iconst (v := 0) C dX9_readInvariant_25 rfl ?_
    refine gx_iconst (v := -1) C dX9_readInvariant_26 rfl ?_
    replace hf := gx_bs hf
    obtain ⟨h8, g32, hf⟩ := hf
    refine gx_iast C (mh_si g32) dX9_readInvariant_27 ?_
    refine gx_iload_n C dX9_readInvariant_28 1 rfl ?_
    replace hf := gx_ite hf
    rcases hf with ⟨c9, hf⟩ | ⟨c9, hf⟩
    · refine gx_ifz_eq_f (tgt := 46) C dX9_readInvariant_29 rfl c9 ?_
      refine gx_aload_n C dX9_readInvariant_32 0 rfl ?_
      refine gx_iconst (v := 0) C dX9_readInvariant_33 rfl ?_
      refine gx_sipush (v := 357) C dX9_readInvariant_34 rfl ?_
      refine gx_iconst (v := 0) C dX9_readInvariant_37 rfl ?_
      replace hf := gx_b2s hf
      obtain ⟨b11, h12, g10, hf⟩ := hf
      refine gx_callV (st := []) C (w_X9_takesKnown hlt g10) mh_is gz_497 rfl (lw_V q2833 q2835 qs78 q151 q2836) gz_548 (by decide) rfl rfl (gx_catn (Nat.le_of_ble_eq_true rfl)) dX9_readInvariant_38 ?_
      replace hf := gx_ite hf
      rcases hf with ⟨c13, hf⟩ | ⟨c13, hf⟩
      · refine gx_ifz_ne_t (tgt := 46) C dX9_readInvariant_41 rfl c13 ?_
        refine gx_sub [0] rfl ?_
        exact w_X9_readInvariant_b46 hlt C hx hf
      · refine gx_ifz_ne_f (tgt := 46) C dX9_readInvariant_41 rfl c13 ?_
        refine gx_iconst (v := 0) C dX9_readInvariant_44 rfl ?_
        obtain ⟨rfl, rfl⟩ := Prod.mk.inj (Option.some.inj hf)
        exact gx_zret (b := false) C dX9_readInvariant_45
    · refine gx_ifz_eq_t (tgt := 46) C dX9_readInvariant_29 rfl c9 ?_
      refine gx_sub [0] rfl ?_
      exact w_X9_readInvariant_b46 hlt C hx hf
theorem w_X9_readInvariant {l : Launch} (hlt : l.stackTraces = false) {D : gx_D} {b : HX} {o : Nat} {h : MS} {p1 : Bool} {r : Bool} {hz : MS} (hf : f_X9_readInvariant D b o h p1 = some (r, hz)) : gx_Met l yX9_readInvariant cX9_readInvariant 3 (some .boolean) 8 173 D [(va_rf (some o)), (.int (b2i p1))] (mh b o h) (some (.int (b2i r))) (mh b o hz) :=
  gx_ofG gz_495 (by simp only [gx_lsr, gx_lsi, gx_lsj, gx_ls0]; decide) mh_le (fun p e R s m args below meth c C hx => by
    simp only [gx_lar, gx_lai, gx_laj, gx_la0, Nat.reduceAdd]
    exact w_X9_readInvariant_b hlt C hx hf)
def f_X9_takesNewName_b109 (D : gx_D) (b : HX) (o : Nat) (h : MS) : Option ((Bool) × MS) :=
  (f_X9_advanceToken D b o h).bind fun h12 =>
  some (true, h12)
theorem w_X9_takesNewName_b109 {l : Launch} (hlt : l.stackTraces = false) {p : Program} {e : Env} {R : Room} {s : State} {m : MethodId} {args : Array Value} {below : List Frame} {meth : Method} {c : Code} {D : gx_D} {b : HX} {o : Nat} {h0 : MS} {r : Bool} {hz : MS} (C : gx_Ctx p R s m args meth c "ContractMachineModel" cX9_takesNewName 5 (some .boolean) 4 88 D (mh b o h0) (mh b o hz)) (hx : meth.name = "takesNewName")  {h : MS} (hf : f_X9_takesNewName_b109 D b o h = some (r, hz)) : gx_G p l e R s m args below meth c D (mh b o h0) (mh b o hz) 5 (gx_MQ below args s D (mh b o h0) (mh b o hz) (some (.int (b2i r)))) 109 [(0, (va_rf (some o)))] [] (mh b o h) := by
  unfold f_X9_takesNewName_b109 at hf
  refine gx_aload_n C dX9_takesNewName_109 0 rfl ?_
  replace hf := gx_bs hf
  obtain ⟨h12, g11, hf⟩ := hf
  refine gx_callV (st := []) C (w_X9_advanceToken hlt g11) mh_is gz_497 rfl (lw_V q2759 q2761 qs61 q151 q2762) gz_543 (by decide) rfl rfl (gx_catn (Nat.le_of_ble_eq_true rfl)) dX9_takesNewName_110 ?_
  refine gx_iconst (v := 1) C dX9_takesNewName_113 rfl ?_
  obtain ⟨rfl, rfl⟩ := Prod.mk.inj (Option.some.inj hf)
  exact gx_zret (b := true) C dX9_takesNewName_114
def f_X9_takesNewName_b102 (D : gx_D) (b : HX) (o : Nat) (k55 : MS → Int32 → Int32 → Option ((Bool) × MS)) (h : MS) (v3 : Int32) (v4 : Int32) (s0 : Int32) (s1 : Int32) (s2 : Nat) : Option ((Bool) × MS) :=
  (ms_si h s2 s1 s0).bind fun h14 =>
  k55 h14 v3 ((v4 + (1 : Int32)))
theorem w_X9_takesNewName_b102 {l : Launch} (hlt : l.stackTraces = false) {p : Program} {e : Env} {R : Room} {s : State} {m : MethodId} {args : Array Value} {below : List Frame} {meth : Method} {c : Code} {D : gx_D} {b : HX} {o : Nat} {h0 : MS} {r : Bool} {hz : MS} (C : gx_Ctx p R s m args meth c "ContractMachineModel" cX9_takesNewName 5 (some .boolean) 4 88 D (mh b o h0) (mh b o hz)) (hx : meth.name = "takesNewName")  {k55 : MS → Int32 → Int32 → Option ((Bool) × MS)} (wk55 : ∀ ⦃h : MS⦄ ⦃v3 : Int32⦄ ⦃v4 : Int32⦄, k55 h v3 v4 = some (r, hz) → gx_G p l e R s m args below meth c D (mh b o h0) (mh b o hz) 5 (gx_MQ below args s D (mh b o h0) (mh b o hz) (some (.int (b2i r)))) 55 [(0, (va_rf (some o))), (3, (.int v3)), (4, (.int v4))] [] (mh b o h)) {h : MS} {v3 : Int32} {v4 : Int32} {s0 : Int32} {s1 : Int32} {s2 : Nat} (hf : f_X9_takesNewName_b102 D b o k55 h v3 v4 s0 s1 s2 = some (r, hz)) : gx_G p l e R s m args below meth c D (mh b o h0) (mh b o hz) 5 (gx_MQ below args s D (mh b o h0) (mh b o hz) (some (.int (b2i r)))) 102 [(0, (va_rf (some o))), (3, (.int v3)), (4, (.int v4))] [(.int s0), (.int s1), (va_rf (some (o + 1 + s2)))] (mh b o h) := by
  unfold f_X9_takesNewName_b102 at hf
  replace hf := gx_bs hf
  obtain ⟨h14, g15, hf⟩ := hf
  refine gx_iast C (mh_si g15) dX9_takesNewName_102 ?_
  refine gx_inc (v := 1) C dX9_takesNewName_103 2 rfl rfl (by decide) [0, 1] rfl (gx_okn rfl rfl (gx_okr rfl gx_catv_i gx_ok0)) ?_
  refine gx_goto (tgt := 55) C dX9_takesNewName_106 rfl ?_
  refine gx_sub [1, 2, 0] rfl ?_
  exact wk55 hf
def f_X9_takesNewName_b55 (D : gx_D) (b : HX) (o : Nat) : Nat → MS → Int32 → Int32 → Option ((Bool) × MS)
  | 0, _, _, _ => none
  | n + 1, h, v3, v4 =>
  if (6 : Int32) ≤ v4 then
  f_X9_takesNewName_b109 D b o h
  else
  if ((h.1 18) - (h.1 19)) ≤ v4 then
  f_X9_takesNewName_b102 D b o (f_X9_takesNewName_b55 D b o n) h v3 v4 ((0 : Int32)) (((v3 + (1 : Int32)) + v4)) 0
  else
  (ms_ai h 6 ((h.1 19) + v4)).bind fun x16 =>
  f_X9_takesNewName_b102 D b o (f_X9_takesNewName_b55 D b o n) h v3 v4 x16 (((v3 + (1 : Int32)) + v4)) 0
theorem w_X9_takesNewName_b55 {l : Launch} (hlt : l.stackTraces = false) {p : Program} {e : Env} {R : Room} {s : State} {m : MethodId} {args : Array Value} {below : List Frame} {meth : Method} {c : Code} {D : gx_D} {b : HX} {o : Nat} {h0 : MS} {r : Bool} {hz : MS} (C : gx_Ctx p R s m args meth c "ContractMachineModel" cX9_takesNewName 5 (some .boolean) 4 88 D (mh b o h0) (mh b o hz)) (hx : meth.name = "takesNewName")  : ∀ (n : Nat) ⦃h : MS⦄ ⦃v3 : Int32⦄ ⦃v4 : Int32⦄, f_X9_takesNewName_b55 D b o n h v3 v4 = some (r, hz) → gx_G p l e R s m args below meth c D (mh b o h0) (mh b o hz) 5 (gx_MQ below args s D (mh b o h0) (mh b o hz) (some (.int (b2i r)))) 55 [(0, (va_rf (some o))), (3, (.int v3)), (4, (.int v4))] [] (mh b o h) := by
  intro n
  induction n with
  | zero => intro h v3 v4 hf; unfold f_X9_takesNewName_b55 at hf; cases hf
  | succ n wk55 =>
    intro h v3 v4 hf
    unfold f_X9_takesNewName_b55 at hf
    refine gx_iload C dX9_takesNewName_55 2 rfl ?_
    refine gx_bipush (v := 6) C dX9_takesNewName_57 rfl ?_
    replace hf := gx_ite hf
    rcases hf with ⟨c10, hf⟩ | ⟨c10, hf⟩
    · refine gx_icmp_ge_t (tgt := 109) C dX9_takesNewName_59 rfl c10 ?_
      refine gx_sub [0] rfl ?_
      exact w_X9_takesNewName_b109 hlt C hx hf
    · refine gx_icmp_ge_f (tgt := 109) C dX9_takesNewName_59 rfl c10 ?_
      refine gx_aload_n C dX9_takesNewName_62 0 rfl ?_
      refine gx_gr C (mh_gr (k := 0) rfl) gz_494 q2634 dX9_takesNewName_63 ?_
      refine gx_iload_n C dX9_takesNewName_66 1 rfl ?_
      refine gx_iconst (v := 1) C dX9_takesNewName_67 rfl ?_
      refine gx_iadd C dX9_takesNewName_68 ?_
      refine gx_iload C dX9_takesNewName_69 2 rfl ?_
      refine gx_iadd C dX9_takesNewName_71 ?_
      refine gx_iload C dX9_takesNewName_72 2 rfl ?_
      refine gx_aload_n C dX9_takesNewName_74 0 rfl ?_
      refine gx_gi C (mh_gi (k := 18) rfl) gz_535 q2652 dX9_takesNewName_75 ?_
      refine gx_aload_n C dX9_takesNewName_78 0 rfl ?_
      refine gx_gi C (mh_gi (k := 19) rfl) gz_526 q2653 dX9_takesNewName_79 ?_
      refine gx_isub C dX9_takesNewName_82 ?_
      replace hf := gx_ite hf
      rcases hf with ⟨c13, hf⟩ | ⟨c13, hf⟩
      · refine gx_icmp_ge_t (tgt := 101) C dX9_takesNewName_83 rfl c13 ?_
        refine gx_iconst (v := 0) C dX9_takesNewName_101 rfl ?_
        refine gx_sub [0, 1, 2] rfl ?_
        exact w_X9_takesNewName_b102 hlt C hx wk55 hf
      · refine gx_icmp_ge_f (tgt := 101) C dX9_takesNewName_83 rfl c13 ?_
        refine gx_aload_n C dX9_takesNewName_86 0 rfl ?_
        refine gx_gr C (mh_gr (k := 12) rfl) gz_503 q2646 dX9_takesNewName_87 ?_
        refine gx_aload_n C dX9_takesNewName_90 0 rfl ?_
        refine gx_gi C (mh_gi (k := 19) rfl) gz_526 q2653 dX9_takesNewName_91 ?_
        refine gx_iload C dX9_takesNewName_94 2 rfl ?_
        refine gx_iadd C dX9_takesNewName_96 ?_
        replace hf := gx_bs hf
        obtain ⟨x16, g17, hf⟩ := hf
        refine gx_iald C (mh_ai g17) dX9_takesNewName_97 ?_
        refine gx_goto (tgt := 102) C dX9_takesNewName_98 rfl ?_
        refine gx_sub [0, 1, 2] rfl ?_
        exact w_X9_takesNewName_b102 hlt C hx wk55 hf
def f_X9_takesNewName (D : gx_D) (b : HX) (o : Nat) (h : MS) (p1 : Int32) (p2 : Int32) : Option ((Bool) × MS) :=
  gx_b2 (f_X9_seesName D b o h) fun b2 h3 =>
  if b2 = true then
  (f_X9_nameHere D b o h3 p1 p2).bind fun x6 =>
  if x6 = (-1 : Int32) then
  (ms_ai h3 0 p2).bind fun x8 =>
  (ms_si h3 0 (p1 + ((7 : Int32) * x8)) ((h3.1 18) - (h3.1 19))).bind fun h9 =>
  f_X9_takesNewName_b55 D b o gx_fuel h9 ((p1 + ((7 : Int32) * x8))) ((0 : Int32))
  else
  gx_b2 (f_X9_failsAt D b o h3 (3 : Int32)) fun b21 h22 =>
  some (b21, h22)
  else
  some (false, h3)
theorem w_X9_takesNewName_b {l : Launch} (hlt : l.stackTraces = false) {p : Program} {e : Env} {R : Room} {s : State} {m : MethodId} {args : Array Value} {below : List Frame} {meth : Method} {c : Code} {D : gx_D} {b : HX} {o : Nat} {h0 : MS} {r : Bool} {hz : MS} (C : gx_Ctx p R s m args meth c "ContractMachineModel" cX9_takesNewName 5 (some .boolean) 4 88 D (mh b o h0) (mh b o hz)) (hx : meth.name = "takesNewName") {p1 : Int32} {p2 : Int32} (hf : f_X9_takesNewName D b o h0 p1 p2 = some (r, hz)) : gx_G p l e R s m args below meth c D (mh b o h0) (mh b o hz) 5 (gx_MQ below args s D (mh b o h0) (mh b o hz) (some (.int (b2i r)))) 0 [(0, (va_rf (some o))), (1, (.int p1)), (2, (.int p2))] [] (mh b o h0) := by
  unfold f_X9_takesNewName at hf
  refine gx_aload_n C dX9_takesNewName_0 0 rfl ?_
  replace hf := gx_b2s hf
  obtain ⟨b2, h3, g1, hf⟩ := hf
  refine gx_callV (st := []) C (w_X9_seesName hlt g1) mh_is gz_497 rfl (lw_V q2798 q2800 qs70 q151 q2801) gz_541 (by decide) rfl rfl (gx_catn (Nat.le_of_ble_eq_true rfl)) dX9_takesNewName_1 ?_
  replace hf := gx_ite hf
  rcases hf with ⟨c4, hf⟩ | ⟨c4, hf⟩
  · refine gx_ifz_ne_t (tgt := 9) C dX9_takesNewName_4 rfl c4 ?_
    refine gx_aload_n C dX9_takesNewName_9 0 rfl ?_
    refine gx_iload_n C dX9_takesNewName_10 1 rfl ?_
    refine gx_iload_n C dX9_takesNewName_11 2 rfl ?_
    replace hf := gx_bs hf
    obtain ⟨x6, g5, hf⟩ := hf
    refine gx_callV (st := []) C (w_X9_nameHere hlt g5) mh_is gz_497 rfl (lw_V q2802 q2804 qs71 q151 q2805) gz_542 (by decide) rfl rfl (gx_catn (Nat.le_of_ble_eq_true rfl)) dX9_takesNewName_12 ?_
    refine gx_iconst (v := -1) C dX9_takesNewName_15 rfl ?_
    replace hf := gx_ite hf
    rcases hf with ⟨c7, hf⟩ | ⟨c7, hf⟩
    · refine gx_icmp_eq_t (tgt := 25) C dX9_takesNewName_16 rfl c7 ?_
      refine gx_iload_n C dX9_takesNewName_25 1 rfl ?_
      refine gx_bipush (v := 7) C dX9_takesNewName_26 rfl ?_
      refine gx_aload_n C dX9_takesNewName_28 0 rfl ?_
      refine gx_gr C (mh_gr (k := 0) rfl) gz_494 q2634 dX9_takesNewName_29 ?_
      refine gx_iload_n C dX9_takesNewName_32 2 rfl ?_
      replace hf := gx_bs hf
      obtain ⟨x8, g19, hf⟩ := hf
      refine gx_iald C (mh_ai g19) dX9_takesNewName_33 ?_
      refine gx_imul C dX9_takesNewName_34 ?_
      refine gx_iadd C dX9_takesNewName_35 ?_
      refine gx_istn C dX9_takesNewName_36 3 rfl (by decide) [0]  rfl (gx_okn rfl rfl gx_ok0) ?_
      refine gx_aload_n C dX9_takesNewName_37 1 rfl ?_
      refine gx_gr C (mh_gr (k := 0) rfl) gz_494 q2634 dX9_takesNewName_38 ?_
      refine gx_iload_n C dX9_takesNewName_41 0 rfl ?_
      refine gx_aload_n C dX9_takesNewName_42 1 rfl ?_
      refine gx_gi C (mh_gi (k := 18) rfl) gz_535 q2652 dX9_takesNewName_43 ?_
      refine gx_aload_n C dX9_takesNewName_46 1 rfl ?_
      refine gx_gi C (mh_gi (k := 19) rfl) gz_526 q2653 dX9_takesNewName_47 ?_
      refine gx_isub C dX9_takesNewName_50 ?_
      replace hf := gx_bs hf
      obtain ⟨h9, g18, hf⟩ := hf
      refine gx_iast C (mh_si g18) dX9_takesNewName_51 ?_
      refine gx_iconst (v := 0) C dX9_takesNewName_52 rfl ?_
      refine gx_ist C dX9_takesNewName_53 (by decide) [0, 1]  rfl (gx_okr rfl gx_catv_i (gx_okn rfl rfl gx_ok0)) ?_
      refine gx_sub [2, 1, 0] rfl ?_
      exact w_X9_takesNewName_b55 hlt C hx gx_fuel hf
    · refine gx_icmp_eq_f (tgt := 25) C dX9_takesNewName_16 rfl c7 ?_
      refine gx_aload_n C dX9_takesNewName_19 0 rfl ?_
      refine gx_iconst (v := 3) C dX9_takesNewName_20 rfl ?_
      replace hf := gx_b2s hf
      obtain ⟨b21, h22, g20, hf⟩ := hf
      refine gx_callV (st := []) C (w_X9_failsAt hlt g20) mh_is gz_497 rfl (lw_V q2790 q2792 qs68 q151 q2793) gz_540 (by decide) rfl rfl (gx_catn (Nat.le_of_ble_eq_true rfl)) dX9_takesNewName_21 ?_
      obtain ⟨rfl, rfl⟩ := Prod.mk.inj (Option.some.inj hf)
      exact gx_zret (b := _) C dX9_takesNewName_24
  · refine gx_ifz_ne_f (tgt := 9) C dX9_takesNewName_4 rfl c4 ?_
    refine gx_iconst (v := 0) C dX9_takesNewName_7 rfl ?_
    obtain ⟨rfl, rfl⟩ := Prod.mk.inj (Option.some.inj hf)
    exact gx_zret (b := false) C dX9_takesNewName_8
theorem w_X9_takesNewName {l : Launch} (hlt : l.stackTraces = false) {D : gx_D} {b : HX} {o : Nat} {h : MS} {p1 : Int32} {p2 : Int32} {r : Bool} {hz : MS} (hf : f_X9_takesNewName D b o h p1 p2 = some (r, hz)) : gx_Met l yX9_takesNewName cX9_takesNewName 5 (some .boolean) 4 88 D [(va_rf (some o)), (.int p1), (.int p2)] (mh b o h) (some (.int (b2i r))) (mh b o hz) :=
  gx_ofG gz_495 (by simp only [gx_lsr, gx_lsi, gx_lsj, gx_ls0]; decide) mh_le (fun p e R s m args below meth c C hx => by
    simp only [gx_lar, gx_lai, gx_laj, gx_la0, Nat.reduceAdd]
    exact w_X9_takesNewName_b hlt C hx hf)
def f_X9_readNamed_b66 (D : gx_D) (b : HX) (o : Nat) (h : MS) (v2 : Int32) : Option ((Bool) × MS) :=
  (ms_ai h 0 v2).bind fun x20 =>
  (ms_si h 0 v2 (x20 + (1 : Int32))).bind fun h21 =>
  gx_b2 (f_X9_takesSemicolon D b o h21) fun b23 h24 =>
  some (b23, h24)
theorem w_X9_readNamed_b66 {l : Launch} (hlt : l.stackTraces = false) {p : Program} {e : Env} {R : Room} {s : State} {m : MethodId} {args : Array Value} {below : List Frame} {meth : Method} {c : Code} {D : gx_D} {b : HX} {o : Nat} {h0 : MS} {r : Bool} {hz : MS} (C : gx_Ctx p R s m args meth c "ContractMachineModel" cX9_readNamed 4 (some .boolean) 6 131 D (mh b o h0) (mh b o hz)) (hx : meth.name = "readNamed")  {h : MS} {v2 : Int32} (hf : f_X9_readNamed_b66 D b o h v2 = some (r, hz)) : gx_G p l e R s m args below meth c D (mh b o h0) (mh b o hz) 4 (gx_MQ below args s D (mh b o h0) (mh b o hz) (some (.int (b2i r)))) 66 [(0, (va_rf (some o))), (2, (.int v2))] [] (mh b o h) := by
  unfold f_X9_readNamed_b66 at hf
  refine gx_aload_n C dX9_readNamed_66 0 rfl ?_
  refine gx_gr C (mh_gr (k := 0) rfl) gz_494 q2634 dX9_readNamed_67 ?_
  refine gx_iload_n C dX9_readNamed_70 1 rfl ?_
  refine gx_dup2 C dX9_readNamed_71 rfl rfl ?_
  replace hf := gx_bs hf
  obtain ⟨x20, g26, hf⟩ := hf
  refine gx_iald C (mh_ai g26) dX9_readNamed_72 ?_
  refine gx_iconst (v := 1) C dX9_readNamed_73 rfl ?_
  refine gx_iadd C dX9_readNamed_74 ?_
  replace hf := gx_bs hf
  obtain ⟨h21, g25, hf⟩ := hf
  refine gx_iast C (mh_si g25) dX9_readNamed_75 ?_
  refine gx_aload_n C dX9_readNamed_76 0 rfl ?_
  replace hf := gx_b2s hf
  obtain ⟨b23, h24, g22, hf⟩ := hf
  refine gx_callV (st := []) C (w_X9_takesSemicolon hlt g22) mh_is gz_497 rfl (lw_V q2822 q2824 qs76 q151 q2825) gz_554 (by decide) rfl rfl (gx_catn (Nat.le_of_ble_eq_true rfl)) dX9_readNamed_77 ?_
  obtain ⟨rfl, rfl⟩ := Prod.mk.inj (Option.some.inj hf)
  exact gx_zret (b := _) C dX9_readNamed_80
def f_X9_readNamed (D : gx_D) (b : HX) (o : Nat) (h : MS) (p1 : Int32) (p2 : Int32) (p3 : Int32) : Option ((Bool) × MS) :=
  (ms_ai h 0 p2).bind fun x1 =>
  if x1 = p3 then
  gx_b2 (f_X9_failsAt D b o h (5 : Int32)) fun b4 h5 =>
  some (b4, h5)
  else
  (f_X9_advanceToken D b o h).bind fun h7 =>
  gx_b2 (f_X9_takesNewName D b o h7 p1 p2) fun b9 h10 =>
  if b9 = true then
  if p2 = (2 : Int32) then
  gx_b2 (f_X9_takes D b o h10 (0 : Int32)) fun b14 h15 =>
  if b14 = true then
  (ms_ai h15 0 (2 : Int32)).bind fun x17 =>
  (ms_ai h15 7 (0 : Int32)).bind fun x18 =>
  (ms_si h15 0 ((9 : Int32) + x17) x18).bind fun h19 =>
  f_X9_readNamed_b66 D b o h19 p2
  else
  some (false, h15)
  else
  f_X9_readNamed_b66 D b o h10 p2
  else
  some (false, h10)
theorem w_X9_readNamed_b {l : Launch} (hlt : l.stackTraces = false) {p : Program} {e : Env} {R : Room} {s : State} {m : MethodId} {args : Array Value} {below : List Frame} {meth : Method} {c : Code} {D : gx_D} {b : HX} {o : Nat} {h0 : MS} {r : Bool} {hz : MS} (C : gx_Ctx p R s m args meth c "ContractMachineModel" cX9_readNamed 4 (some .boolean) 6 131 D (mh b o h0) (mh b o hz)) (hx : meth.name = "readNamed") {p1 : Int32} {p2 : Int32} {p3 : Int32} (hf : f_X9_readNamed D b o h0 p1 p2 p3 = some (r, hz)) : gx_G p l e R s m args below meth c D (mh b o h0) (mh b o hz) 4 (gx_MQ below args s D (mh b o h0) (mh b o hz) (some (.int (b2i r)))) 0 [(0, (va_rf (some o))), (1, (.int p1)), (2, (.int p2)), (3, (.int p3))] [] (mh b o h0) := by
  unfold f_X9_readNamed at hf
  refine gx_aload_n C dX9_readNamed_0 0 rfl ?_
  refine gx_gr C (mh_gr (k := 0) rfl) gz_494 q2634 dX9_readNamed_1 ?_
  refine gx_iload_n C dX9_readNamed_4 2 rfl ?_
  replace hf := gx_bs hf
  obtain ⟨x1, g30, hf⟩ := hf
  refine gx_iald C (mh_ai g30) dX9_readNamed_5 ?_
  refine gx_iload_n C dX9_readNamed_6 3 rfl ?_
  replace hf := gx_ite hf
  rcases hf with ⟨c2, hf⟩ | ⟨c2, hf⟩
  · refine gx_icmp_ne_f (tgt := 16) C dX9_readNamed_7 rfl c2 ?_
    refine gx_aload_n C dX9_readNamed_10 0 rfl ?_
    refine gx_iconst (v := 5) C dX9_readNamed_11 rfl ?_
    replace hf := gx_b2s hf
    obtain ⟨b4, h5, g3, hf⟩ := hf
    refine gx_callV (st := []) C (w_X9_failsAt hlt g3) mh_is gz_497 rfl (lw_V q2790 q2792 qs68 q151 q2793) gz_540 (by decide) rfl rfl (gx_catn (Nat.le_of_ble_eq_true rfl)) dX9_readNamed_12 ?_
    obtain ⟨rfl, rfl⟩ := Prod.mk.inj (Option.some.inj hf)
    exact gx_zret (b := _) C dX9_readNamed_15
  · refine gx_icmp_ne_t (tgt := 16) C dX9_readNamed_7 rfl c2 ?_
    refine gx_aload_n C dX9_readNamed_16 0 rfl ?_
    replace hf := gx_bs hf
    obtain ⟨h7, g6, hf⟩ := hf
    refine gx_callV (st := []) C (w_X9_advanceToken hlt g6) mh_is gz_497 rfl (lw_V q2759 q2761 qs61 q151 q2762) gz_543 (by decide) rfl rfl (gx_catn (Nat.le_of_ble_eq_true rfl)) dX9_readNamed_17 ?_
    refine gx_aload_n C dX9_readNamed_20 0 rfl ?_
    refine gx_iload_n C dX9_readNamed_21 1 rfl ?_
    refine gx_iload_n C dX9_readNamed_22 2 rfl ?_
    replace hf := gx_b2s hf
    obtain ⟨b9, h10, g8, hf⟩ := hf
    refine gx_callV (st := []) C (w_X9_takesNewName hlt g8) mh_is gz_497 rfl (lw_V q2794 q2796 qs69 q151 q2797) gz_555 (by decide) rfl rfl (gx_catn (Nat.le_of_ble_eq_true rfl)) dX9_readNamed_23 ?_
    replace hf := gx_ite hf
    rcases hf with ⟨c11, hf⟩ | ⟨c11, hf⟩
    · refine gx_ifz_ne_t (tgt := 31) C dX9_readNamed_26 rfl c11 ?_
      refine gx_iload_n C dX9_readNamed_31 2 rfl ?_
      refine gx_iconst (v := 2) C dX9_readNamed_32 rfl ?_
      replace hf := gx_ite hf
      rcases hf with ⟨c12, hf⟩ | ⟨c12, hf⟩
      · refine gx_icmp_ne_f (tgt := 66) C dX9_readNamed_33 rfl c12 ?_
        refine gx_aload_n C dX9_readNamed_36 0 rfl ?_
        refine gx_iconst (v := 0) C dX9_readNamed_37 rfl ?_
        replace hf := gx_b2s hf
        obtain ⟨b14, h15, g13, hf⟩ := hf
        refine gx_callV (st := []) C (w_X9_takes hlt g13) mh_is gz_497 rfl (lw_V q2810 q2812 qs73 q151 q2813) gz_551 (by decide) rfl rfl (gx_catn (Nat.le_of_ble_eq_true rfl)) dX9_readNamed_38 ?_
        replace hf := gx_ite hf
        rcases hf with ⟨c16, hf⟩ | ⟨c16, hf⟩
        · refine gx_ifz_ne_t (tgt := 46) C dX9_readNamed_41 rfl c16 ?_
          refine gx_aload_n C dX9_readNamed_46 0 rfl ?_
          refine gx_gr C (mh_gr (k := 0) rfl) gz_494 q2634 dX9_readNamed_47 ?_
          refine gx_bipush (v := 9) C dX9_readNamed_50 rfl ?_
          refine gx_aload_n C dX9_readNamed_52 0 rfl ?_
          refine gx_gr C (mh_gr (k := 0) rfl) gz_494 q2634 dX9_readNamed_53 ?_
          refine gx_iconst (v := 2) C dX9_readNamed_56 rfl ?_
          replace hf := gx_bs hf
          obtain ⟨x17, g29, hf⟩ := hf
          refine gx_iald C (mh_ai g29) dX9_readNamed_57 ?_
          refine gx_iadd C dX9_readNamed_58 ?_
          refine gx_aload_n C dX9_readNamed_59 0 rfl ?_
          refine gx_gr C (mh_gr (k := 23) rfl) gz_505 q2657 dX9_readNamed_60 ?_
          refine gx_iconst (v := 0) C dX9_readNamed_63 rfl ?_
          replace hf := gx_bs hf
          obtain ⟨x18, g28, hf⟩ := hf
          refine gx_iald C (mh_ai g28) dX9_readNamed_64 ?_
          replace hf := gx_bs hf
          obtain ⟨h19, g27, hf⟩ := hf
          refine gx_iast C (mh_si g27) dX9_readNamed_65 ?_
          refine gx_sub [0, 2] rfl ?_
          exact w_X9_readNamed_b66 hlt C hx hf
        · refine gx_ifz_ne_f (tgt := 46) C dX9_readNamed_41 rfl c16 ?_
          refine gx_iconst (v := 0) C dX9_readNamed_44 rfl ?_
          obtain ⟨rfl, rfl⟩ := Prod.mk.inj (Option.some.inj hf)
          exact gx_zret (b := false) C dX9_readNamed_45
      · refine gx_icmp_ne_t (tgt := 66) C dX9_readNamed_33 rfl c12 ?_
        refine gx_sub [0, 2] rfl ?_
        exact w_X9_readNamed_b66 hlt C hx hf
    · refine gx_ifz_ne_f (tgt := 31) C dX9_readNamed_26 rfl c11 ?_
      refine gx_iconst (v := 0) C dX9_readNamed_29 rfl ?_
      obtain ⟨rfl, rfl⟩ := Prod.mk.inj (Option.some.inj hf)
      exact gx_zret (b := false) C dX9_readNamed_30
theorem w_X9_readNamed {l : Launch} (hlt : l.stackTraces = false) {D : gx_D} {b : HX} {o : Nat} {h : MS} {p1 : Int32} {p2 : Int32} {p3 : Int32} {r : Bool} {hz : MS} (hf : f_X9_readNamed D b o h p1 p2 p3 = some (r, hz)) : gx_Met l yX9_readNamed cX9_readNamed 4 (some .boolean) 6 131 D [(va_rf (some o)), (.int p1), (.int p2), (.int p3)] (mh b o h) (some (.int (b2i r))) (mh b o hz) :=
  gx_ofG gz_495 (by simp only [gx_lsr, gx_lsi, gx_lsj, gx_ls0]; decide) mh_le (fun p e R s m args below meth c C hx => by
    simp only [gx_lar, gx_lai, gx_laj, gx_la0, Nat.reduceAdd]
    exact w_X9_readNamed_b hlt C hx hf)
def f_X9_readTransition_b195 (D : gx_D) (b : HX) (o : Nat) (h : MS) : Option ((Bool) × MS) :=
  gx_b2 (f_X9_takesSemicolon D b o h) fun b60 h61 =>
  some (b60, h61)
theorem w_X9_readTransition_b195 {l : Launch} (hlt : l.stackTraces = false) {p : Program} {e : Env} {R : Room} {s : State} {m : MethodId} {args : Array Value} {below : List Frame} {meth : Method} {c : Code} {D : gx_D} {b : HX} {o : Nat} {h0 : MS} {r : Bool} {hz : MS} (C : gx_Ctx p R s m args meth c "ContractMachineModel" cX9_readTransition 1 (some .boolean) 8 173 D (mh b o h0) (mh b o hz)) (hx : meth.name = "readTransition")  {h : MS} (hf : f_X9_readTransition_b195 D b o h = some (r, hz)) : gx_G p l e R s m args below meth c D (mh b o h0) (mh b o hz) 1 (gx_MQ below args s D (mh b o h0) (mh b o hz) (some (.int (b2i r)))) 195 [(0, (va_rf (some o)))] [] (mh b o h) := by
  unfold f_X9_readTransition_b195 at hf
  refine gx_aload_n C dX9_readTransition_195 0 rfl ?_
  replace hf := gx_b2s hf
  obtain ⟨b60, h61, g59, hf⟩ := hf
  refine gx_callV (st := []) C (w_X9_takesSemicolon hlt g59) mh_is gz_497 rfl (lw_V q2822 q2824 qs76 q151 q2825) gz_554 (by decide) rfl rfl (gx_catn (Nat.le_of_ble_eq_true rfl)) dX9_readTransition_196 ?_
  obtain ⟨rfl, rfl⟩ := Prod.mk.inj (Option.some.inj hf)
  exact gx_zret (b := _) C dX9_readTransition_199
def f_X9_readTransition_b144 (D : gx_D) (b : HX) (o : Nat) (h : MS) : Option ((Bool) × MS) :=
  (f_X9_isWord D b o h (some (D.2.2.1 46))).bind fun b46 =>
  if b46 = true then
  (f_X9_advanceToken D b o h).bind fun h49 =>
  gx_b2 (f_X9_takesThree D b o h49 (6 : Int32) false) fun b51 h52 =>
  if b51 = true then
  (ms_ai h52 7 (6 : Int32)).bind fun x54 =>
  (ms_ai h52 7 (7 : Int32)).bind fun x55 =>
  (ms_ai h52 7 (8 : Int32)).bind fun x56 =>
  (f_X9_acts D b o h52 x54 x55 x56).bind fun h58 =>
  f_X9_readTransition_b195 D b o h58
  else
  some (false, h52)
  else
  f_X9_readTransition_b195 D b o h
theorem w_X9_readTransition_b144 {l : Launch} (hlt : l.stackTraces = false) {p : Program} {e : Env} {R : Room} {s : State} {m : MethodId} {args : Array Value} {below : List Frame} {meth : Method} {c : Code} {D : gx_D} {b : HX} {o : Nat} {h0 : MS} {r : Bool} {hz : MS} (C : gx_Ctx p R s m args meth c "ContractMachineModel" cX9_readTransition 1 (some .boolean) 8 173 D (mh b o h0) (mh b o hz)) (hx : meth.name = "readTransition")  {h : MS} (hf : f_X9_readTransition_b144 D b o h = some (r, hz)) : gx_G p l e R s m args below meth c D (mh b o h0) (mh b o hz) 1 (gx_MQ below args s D (mh b o h0) (mh b o hz) (some (.int (b2i r)))) 144 [(0, (va_rf (some o)))] [] (mh b o h) := by
  unfold f_X9_readTransition_b144 at hf
  refine gx_aload_n C dX9_readTransition_144 0 rfl ?_
  refine gx_ldcwS C 46 rfl dX9_readTransition_145 ?_
  replace hf := gx_bs hf
  obtain ⟨b46, g45, hf⟩ := hf
  refine gx_callV (st := []) C (w_X9_isWord hlt g45) mh_is gz_497 rfl (lw_V q2780 q2782 qs66 q151 q2783) gz_544 (by decide) rfl rfl (gx_catn (Nat.le_of_ble_eq_true rfl)) dX9_readTransition_148 ?_
  replace hf := gx_ite hf
  rcases hf with ⟨c47, hf⟩ | ⟨c47, hf⟩
  · refine gx_ifz_eq_f (tgt := 195) C dX9_readTransition_151 rfl c47 ?_
    refine gx_aload_n C dX9_readTransition_154 0 rfl ?_
    replace hf := gx_bs hf
    obtain ⟨h49, g48, hf⟩ := hf
    refine gx_callV (st := []) C (w_X9_advanceToken hlt g48) mh_is gz_497 rfl (lw_V q2759 q2761 qs61 q151 q2762) gz_543 (by decide) rfl rfl (gx_catn (Nat.le_of_ble_eq_true rfl)) dX9_readTransition_155 ?_
    refine gx_aload_n C dX9_readTransition_158 0 rfl ?_
    refine gx_bipush (v := 6) C dX9_readTransition_159 rfl ?_
    refine gx_iconst (v := 0) C dX9_readTransition_161 rfl ?_
    replace hf := gx_b2s hf
    obtain ⟨b51, h52, g50, hf⟩ := hf
    refine gx_callV (st := []) C (w_X9_takesThree hlt g50) mh_is gz_497 rfl (lw_V q2843 q2845 qs80 q151 q2846) gz_553 (by decide) rfl rfl (gx_catn (Nat.le_of_ble_eq_true rfl)) dX9_readTransition_162 ?_
    replace hf := gx_ite hf
    rcases hf with ⟨c53, hf⟩ | ⟨c53, hf⟩
    · refine gx_ifz_ne_t (tgt := 170) C dX9_readTransition_165 rfl c53 ?_
      refine gx_aload_n C dX9_readTransition_170 0 rfl ?_
      refine gx_aload_n C dX9_readTransition_171 0 rfl ?_
      refine gx_gr C (mh_gr (k := 23) rfl) gz_505 q2657 dX9_readTransition_172 ?_
      refine gx_bipush (v := 6) C dX9_readTransition_175 rfl ?_
      replace hf := gx_bs hf
      obtain ⟨x54, g64, hf⟩ := hf
      refine gx_iald C (mh_ai g64) dX9_readTransition_177 ?_
      refine gx_aload_n C dX9_readTransition_178 0 rfl ?_
      refine gx_gr C (mh_gr (k := 23) rfl) gz_505 q2657 dX9_readTransition_179 ?_
      refine gx_bipush (v := 7) C dX9_readTransition_182 rfl ?_
      replace hf := gx_bs hf
      obtain ⟨x55, g63, hf⟩ := hf
      refine gx_iald C (mh_ai g63) dX9_readTransition_184 ?_
      refine gx_aload_n C dX9_readTransition_185 0 rfl ?_
      refine gx_gr C (mh_gr (k := 23) rfl) gz_505 q2657 dX9_readTransition_186 ?_
      refine gx_bipush (v := 8) C dX9_readTransition_189 rfl ?_
      replace hf := gx_bs hf
      obtain ⟨x56, g62, hf⟩ := hf
      refine gx_iald C (mh_ai g62) dX9_readTransition_191 ?_
      replace hf := gx_bs hf
      obtain ⟨h58, g57, hf⟩ := hf
      refine gx_callV (st := []) C (w_X9_acts hlt g57) mh_is gz_497 rfl (lw_V q2614 q2616 qs54 q151 q2617) gz_515 (by decide) rfl rfl (gx_catn (Nat.le_of_ble_eq_true rfl)) dX9_readTransition_192 ?_
      refine gx_sub [0] rfl ?_
      exact w_X9_readTransition_b195 hlt C hx hf
    · refine gx_ifz_ne_f (tgt := 170) C dX9_readTransition_165 rfl c53 ?_
      refine gx_iconst (v := 0) C dX9_readTransition_168 rfl ?_
      obtain ⟨rfl, rfl⟩ := Prod.mk.inj (Option.some.inj hf)
      exact gx_zret (b := false) C dX9_readTransition_169
  · refine gx_ifz_eq_t (tgt := 195) C dX9_readTransition_151 rfl c47 ?_
    refine gx_sub [0] rfl ?_
    exact w_X9_readTransition_b195 hlt C hx hf
def f_X9_readTransition (D : gx_D) (b : HX) (o : Nat) (h : MS) : Option ((Bool) × MS) :=
  (ms_ai h 0 (3 : Int32)).bind fun x1 =>
  if x1 = (24 : Int32) then
  gx_b2 (f_X9_failsAt D b o h (5 : Int32)) fun b4 h5 =>
  some (b4, h5)
  else
  (f_X9_advanceToken D b o h).bind fun h7 =>
  gx_b2 (f_X9_takesKnown D b o h7 (0 : Int32) (357 : Int32) (0 : Int32)) fun b9 h10 =>
  if b9 = true then
  gx_b2 (f_X9_takesKnown D b o h10 (1 : Int32) (427 : Int32) (1 : Int32)) fun b13 h14 =>
  if b13 = true then
  (f_X9_isWord D b o h14 (some (D.2.2.1 35))).bind fun b17 =>
  gx_b2 (f_X9_takesWord D b o h14 b17) fun b19 h20 =>
  if b19 = true then
  gx_b2 (f_X9_takesKnown D b o h20 (2 : Int32) (357 : Int32) (0 : Int32)) fun b23 h24 =>
  if b23 = true then
  (ms_ai h24 7 (0 : Int32)).bind fun x26 =>
  (ms_ai h24 7 (1 : Int32)).bind fun x27 =>
  (ms_ai h24 7 (2 : Int32)).bind fun x28 =>
  (f_X9_leads D b o h24 x26 x27 x28).bind fun h30 =>
  (f_X9_isWord D b o h30 (some (D.2.2.1 36))).bind fun b32 =>
  if b32 = true then
  (f_X9_advanceToken D b o h30).bind fun h35 =>
  gx_b2 (f_X9_takesThree D b o h35 (3 : Int32) true) fun b37 h38 =>
  if b37 = true then
  (ms_ai h38 7 (3 : Int32)).bind fun x40 =>
  (ms_ai h38 7 (4 : Int32)).bind fun x41 =>
  (ms_ai h38 7 (5 : Int32)).bind fun x42 =>
  (f_X9_guards D b o h38 x40 x41 x42).bind fun h44 =>
  f_X9_readTransition_b144 D b o h44
  else
  some (false, h38)
  else
  f_X9_readTransition_b144 D b o h30
  else
  some (false, h24)
  else
  some (false, h20)
  else
  some (false, h14)
  else
  some (false, h10)
theorem w_X9_readTransition_b {l : Launch} (hlt : l.stackTraces = false) {p : Program} {e : Env} {R : Room} {s : State} {m : MethodId} {args : Array Value} {below : List Frame} {meth : Method} {c : Code} {D : gx_D} {b : HX} {o : Nat} {h0 : MS} {r : Bool} {hz : MS} (C : gx_Ctx p R s m args meth c "ContractMachineModel" cX9_readTransition 1 (some .boolean) 8 173 D (mh b o h0) (mh b o hz)) (hx : meth.name = "readTransition") (hf : f_X9_readTransition D b o h0 = some (r, hz)) : gx_G p l e R s m args below meth c D (mh b o h0) (mh b o hz) 1 (gx_MQ below args s D (mh b o h0) (mh b o hz) (some (.int (b2i r)))) 0 [(0, (va_rf (some o)))] [] (mh b o h0) := by
  unfold f_X9_readTransition at hf
  refine gx_aload_n C dX9_readTransition_0 0 rfl ?_
  refine gx_gr C (mh_gr (k := 0) rfl) gz_494 q2634 dX9_readTransition_1 ?_
  refine gx_iconst (v := 3) C dX9_readTransition_4 rfl ?_
  replace hf := gx_bs hf
  obtain ⟨x1, g71, hf⟩ := hf
  refine gx_iald C (mh_ai g71) dX9_readTransition_5 ?_
  refine gx_bipush (v := 24) C dX9_readTransition_6 rfl ?_
  replace hf := gx_ite hf
  rcases hf with ⟨c2, hf⟩ | ⟨c2, hf⟩
  · refine gx_icmp_ne_f (tgt := 17) C dX9_readTransition_8 rfl c2 ?_
    refine gx_aload_n C dX9_readTransition_11 0 rfl ?_
    refine gx_iconst (v := 5) C dX9_readTransition_12 rfl ?_
    replace hf := gx_b2s hf
    obtain ⟨b4, h5, g3, hf⟩ := hf
    refine gx_callV (st := []) C (w_X9_failsAt hlt g3) mh_is gz_497 rfl (lw_V q2790 q2792 qs68 q151 q2793) gz_540 (by decide) rfl rfl (gx_catn (Nat.le_of_ble_eq_true rfl)) dX9_readTransition_13 ?_
    obtain ⟨rfl, rfl⟩ := Prod.mk.inj (Option.some.inj hf)
    exact gx_zret (b := _) C dX9_readTransition_16
  · refine gx_icmp_ne_t (tgt := 17) C dX9_readTransition_8 rfl c2 ?_
    refine gx_aload_n C dX9_readTransition_17 0 rfl ?_
    replace hf := gx_bs hf
    obtain ⟨h7, g6, hf⟩ := hf
    refine gx_callV (st := []) C (w_X9_advanceToken hlt g6) mh_is gz_497 rfl (lw_V q2759 q2761 qs61 q151 q2762) gz_543 (by decide) rfl rfl (gx_catn (Nat.le_of_ble_eq_true rfl)) dX9_readTransition_18 ?_
    refine gx_aload_n C dX9_readTransition_21 0 rfl ?_
    refine gx_iconst (v := 0) C dX9_readTransition_22 rfl ?_
    refine gx_sipush (v := 357) C dX9_readTransition_23 rfl ?_
    refine gx_iconst (v := 0) C dX9_readTransition_26 rfl ?_
    replace hf := gx_b2s hf
    obtain ⟨b9, h10, g8, hf⟩ := hf
    refine gx_callV (st := []) C (w_X9_takesKnown hlt g8) mh_is gz_497 rfl (lw_V q2833 q2835 qs78 q151 q2836) gz_548 (by decide) rfl rfl (gx_catn (Nat.le_of_ble_eq_true rfl)) dX9_readTransition_27 ?_
    replace hf := gx_ite hf
    rcases hf with ⟨c11, hf⟩ | ⟨c11, hf⟩
    · refine gx_ifz_eq_f (tgt := 59) C dX9_readTransition_30 rfl c11 ?_
      refine gx_aload_n C dX9_readTransition_33 0 rfl ?_
      refine gx_iconst (v := 1) C dX9_readTransition_34 rfl ?_
      refine gx_sipush (v := 427) C dX9_readTransition_35 rfl ?_
      refine gx_iconst (v := 1) C dX9_readTransition_38 rfl ?_
      replace hf := gx_b2s hf
      obtain ⟨b13, h14, g12, hf⟩ := hf
      refine gx_callV (st := []) C (w_X9_takesKnown hlt g12) mh_is gz_497 rfl (lw_V q2833 q2835 qs78 q151 q2836) gz_548 (by decide) rfl rfl (gx_catn (Nat.le_of_ble_eq_true rfl)) dX9_readTransition_39 ?_
      replace hf := gx_ite hf
      rcases hf with ⟨c15, hf⟩ | ⟨c15, hf⟩
      · refine gx_ifz_eq_f (tgt := 59) C dX9_readTransition_42 rfl c15 ?_
        refine gx_aload_n C dX9_readTransition_45 0 rfl ?_
        refine gx_aload_n C dX9_readTransition_46 0 rfl ?_
        refine gx_ldcwS C 35 rfl dX9_readTransition_47 ?_
        replace hf := gx_bs hf
        obtain ⟨b17, g16, hf⟩ := hf
        refine gx_callV (st := [(va_rf (some o))]) C (w_X9_isWord hlt g16) mh_is gz_497 rfl (lw_V q2780 q2782 qs66 q151 q2783) gz_544 (by decide) rfl rfl (gx_catn (Nat.le_of_ble_eq_true rfl)) dX9_readTransition_50 ?_
        replace hf := gx_b2s hf
        obtain ⟨b19, h20, g18, hf⟩ := hf
        refine gx_callV (st := []) C (w_X9_takesWord hlt g18) mh_is gz_497 rfl (lw_V q2838 q2840 qs79 q151 q2841) gz_550 (by decide) rfl rfl (gx_catn (Nat.le_of_ble_eq_true rfl)) dX9_readTransition_53 ?_
        replace hf := gx_ite hf
        rcases hf with ⟨c21, hf⟩ | ⟨c21, hf⟩
        · refine gx_ifz_ne_t (tgt := 61) C dX9_readTransition_56 rfl c21 ?_
          refine gx_aload_n C dX9_readTransition_61 0 rfl ?_
          refine gx_iconst (v := 2) C dX9_readTransition_62 rfl ?_
          refine gx_sipush (v := 357) C dX9_readTransition_63 rfl ?_
          refine gx_iconst (v := 0) C dX9_readTransition_66 rfl ?_
          replace hf := gx_b2s hf
          obtain ⟨b23, h24, g22, hf⟩ := hf
          refine gx_callV (st := []) C (w_X9_takesKnown hlt g22) mh_is gz_497 rfl (lw_V q2833 q2835 qs78 q151 q2836) gz_548 (by decide) rfl rfl (gx_catn (Nat.le_of_ble_eq_true rfl)) dX9_readTransition_67 ?_
          replace hf := gx_ite hf
          rcases hf with ⟨c25, hf⟩ | ⟨c25, hf⟩
          · refine gx_ifz_ne_t (tgt := 75) C dX9_readTransition_70 rfl c25 ?_
            refine gx_aload_n C dX9_readTransition_75 0 rfl ?_
            refine gx_aload_n C dX9_readTransition_76 0 rfl ?_
            refine gx_gr C (mh_gr (k := 23) rfl) gz_505 q2657 dX9_readTransition_77 ?_
            refine gx_iconst (v := 0) C dX9_readTransition_80 rfl ?_
            replace hf := gx_bs hf
            obtain ⟨x26, g70, hf⟩ := hf
            refine gx_iald C (mh_ai g70) dX9_readTransition_81 ?_
            refine gx_aload_n C dX9_readTransition_82 0 rfl ?_
            refine gx_gr C (mh_gr (k := 23) rfl) gz_505 q2657 dX9_readTransition_83 ?_
            refine gx_iconst (v := 1) C dX9_readTransition_86 rfl ?_
            replace hf := gx_bs hf
            obtain ⟨x27, g69, hf⟩ := hf
            refine gx_iald C (mh_ai g69) dX9_readTransition_87 ?_
            refine gx_aload_n C dX9_readTransition_88 0 rfl ?_
            refine gx_gr C (mh_gr (k := 23) rfl) gz_505 q2657 dX9_readTransition_89 ?_
            refine gx_iconst (v := 2) C dX9_readTransition_92 rfl ?_
            replace hf := gx_bs hf
            obtain ⟨x28, g68, hf⟩ := hf
            refine gx_iald C (mh_ai g68) dX9_readTransition_93 ?_
            replace hf := gx_bs hf
            obtain ⟨h30, g29, hf⟩ := hf
            refine gx_callV (st := []) C (w_X9_leads hlt g29) mh_is gz_497 rfl (lw_V q2610 q2612 qs53 q151 q2613) gz_514 (by decide) rfl rfl (gx_catn (Nat.le_of_ble_eq_true rfl)) dX9_readTransition_94 ?_
            refine gx_aload_n C dX9_readTransition_97 0 rfl ?_
            refine gx_ldcwS C 36 rfl dX9_readTransition_98 ?_
            replace hf := gx_bs hf
            obtain ⟨b32, g31, hf⟩ := hf
            refine gx_callV (st := []) C (w_X9_isWord hlt g31) mh_is gz_497 rfl (lw_V q2780 q2782 qs66 q151 q2783) gz_544 (by decide) rfl rfl (gx_catn (Nat.le_of_ble_eq_true rfl)) dX9_readTransition_101 ?_
            replace hf := gx_ite hf
            rcases hf with ⟨c33, hf⟩ | ⟨c33, hf⟩
            · refine gx_ifz_eq_f (tgt := 144) C dX9_readTransition_104 rfl c33 ?_
              refine gx_aload_n C dX9_readTransition_107 0 rfl ?_
              replace hf := gx_bs hf
              obtain ⟨h35, g34, hf⟩ := hf
              refine gx_callV (st := []) C (w_X9_advanceToken hlt g34) mh_is gz_497 rfl (lw_V q2759 q2761 qs61 q151 q2762) gz_543 (by decide) rfl rfl (gx_catn (Nat.le_of_ble_eq_true rfl)) dX9_readTransition_108 ?_
              refine gx_aload_n C dX9_readTransition_111 0 rfl ?_
              refine gx_iconst (v := 3) C dX9_readTransition_112 rfl ?_
              refine gx_iconst (v := 1) C dX9_readTransition_113 rfl ?_
              replace hf := gx_b2s hf
              obtain ⟨b37, h38, g36, hf⟩ := hf
              refine gx_callV (st := []) C (w_X9_takesThree hlt g36) mh_is gz_497 rfl (lw_V q2843 q2845 qs80 q151 q2846) gz_553 (by decide) rfl rfl (gx_catn (Nat.le_of_ble_eq_true rfl)) dX9_readTransition_114 ?_
              replace hf := gx_ite hf
              rcases hf with ⟨c39, hf⟩ | ⟨c39, hf⟩
              · refine gx_ifz_ne_t (tgt := 122) C dX9_readTransition_117 rfl c39 ?_
                refine gx_aload_n C dX9_readTransition_122 0 rfl ?_
                refine gx_aload_n C dX9_readTransition_123 0 rfl ?_
                refine gx_gr C (mh_gr (k := 23) rfl) gz_505 q2657 dX9_readTransition_124 ?_
                refine gx_iconst (v := 3) C dX9_readTransition_127 rfl ?_
                replace hf := gx_bs hf
                obtain ⟨x40, g67, hf⟩ := hf
                refine gx_iald C (mh_ai g67) dX9_readTransition_128 ?_
                refine gx_aload_n C dX9_readTransition_129 0 rfl ?_
                refine gx_gr C (mh_gr (k := 23) rfl) gz_505 q2657 dX9_readTransition_130 ?_
                refine gx_iconst (v := 4) C dX9_readTransition_133 rfl ?_
                replace hf := gx_bs hf
                obtain ⟨x41, g66, hf⟩ := hf
                refine gx_iald C (mh_ai g66) dX9_readTransition_134 ?_
                refine gx_aload_n C dX9_readTransition_135 0 rfl ?_
                refine gx_gr C (mh_gr (k := 23) rfl) gz_505 q2657 dX9_readTransition_136 ?_
                refine gx_iconst (v := 5) C dX9_readTransition_139 rfl ?_
                replace hf := gx_bs hf
                obtain ⟨x42, g65, hf⟩ := hf
                refine gx_iald C (mh_ai g65) dX9_readTransition_140 ?_
                replace hf := gx_bs hf
                obtain ⟨h44, g43, hf⟩ := hf
                refine gx_callV (st := []) C (w_X9_guards hlt g43) mh_is gz_497 rfl (lw_V q2618 q2620 qs55 q151 q2621) gz_516 (by decide) rfl rfl (gx_catn (Nat.le_of_ble_eq_true rfl)) dX9_readTransition_141 ?_
                refine gx_sub [0] rfl ?_
                exact w_X9_readTransition_b144 hlt C hx hf
              · refine gx_ifz_ne_f (tgt := 122) C dX9_readTransition_117 rfl c39 ?_
                refine gx_iconst (v := 0) C dX9_readTransition_120 rfl ?_
                obtain ⟨rfl, rfl⟩ := Prod.mk.inj (Option.some.inj hf)
                exact gx_zret (b := false) C dX9_readTransition_121
            · refine gx_ifz_eq_t (tgt := 144) C dX9_readTransition_104 rfl c33 ?_
              refine gx_sub [0] rfl ?_
              exact w_X9_readTransition_b144 hlt C hx hf
          · refine gx_ifz_ne_f (tgt := 75) C dX9_readTransition_70 rfl c25 ?_
            refine gx_iconst (v := 0) C dX9_readTransition_73 rfl ?_
            obtain ⟨rfl, rfl⟩ := Prod.mk.inj (Option.some.inj hf)
            exact gx_zret (b := false) C dX9_readTransition_74
        · refine gx_ifz_ne_f (tgt := 61) C dX9_readTransition_56 rfl c21 ?_
          refine gx_iconst (v := 0) C dX9_readTransition_59 rfl ?_
          obtain ⟨rfl, rfl⟩ := Prod.mk.inj (Option.some.inj hf)
          exact gx_zret (b := false) C dX9_readTransition_60
      · refine gx_ifz_eq_t (tgt := 59) C dX9_readTransition_42 rfl c15 ?_
        refine gx_iconst (v := 0) C dX9_readTransition_59 rfl ?_
        obtain ⟨rfl, rfl⟩ := Prod.mk.inj (Option.some.inj hf)
        exact gx_zret (b := false) C dX9_readTransition_60
    · refine gx_ifz_eq_t (tgt := 59) C dX9_readTransition_30 rfl c11 ?_
      refine gx_iconst (v := 0) C dX9_readTransition_59 rfl ?_
      obtain ⟨rfl, rfl⟩ := Prod.mk.inj (Option.some.inj hf)
      exact gx_zret (b := false) C dX9_readTransition_60
theorem w_X9_readTransition {l : Launch} (hlt : l.stackTraces = false) {D : gx_D} {b : HX} {o : Nat} {h : MS} {r : Bool} {hz : MS} (hf : f_X9_readTransition D b o h = some (r, hz)) : gx_Met l yX9_readTransition cX9_readTransition 1 (some .boolean) 8 173 D [(va_rf (some o))] (mh b o h) (some (.int (b2i r))) (mh b o hz) :=
  gx_ofG gz_495 (by simp only [gx_lsr, gx_lsi, gx_lsj, gx_ls0]; decide) mh_le (fun p e R s m args below meth c C hx => by
    simp only [gx_lar, gx_lai, gx_laj, gx_la0, Nat.reduceAdd]
    exact w_X9_readTransition_b hlt C hx hf)
def f_X9_readSetupStatement (D : gx_D) (b : HX) (o : Nat) (h : MS) : Option ((Bool) × MS) :=
  (f_X9_isWord D b o h (some (D.2.2.1 31))).bind fun b2 =>
  if b2 = true then
  gx_b2 (f_X9_readNamed D b o h (357 : Int32) (0 : Int32) (10 : Int32)) fun b5 h6 =>
  some (b5, h6)
  else
  (f_X9_isWord D b o h (some (D.2.2.1 32))).bind fun b8 =>
  if b8 = true then
  gx_b2 (f_X9_readNamed D b o h (427 : Int32) (1 : Int32) (8 : Int32)) fun b11 h12 =>
  some (b11, h12)
  else
  (f_X9_isWord D b o h (some (D.2.2.1 33))).bind fun b14 =>
  if b14 = true then
  gx_b2 (f_X9_readNamed D b o h (483 : Int32) (2 : Int32) (3 : Int32)) fun b17 h18 =>
  some (b17, h18)
  else
  (f_X9_isWord D b o h (some (D.2.2.1 34))).bind fun b20 =>
  if b20 = true then
  gx_b2 (f_X9_readTransition D b o h) fun b23 h24 =>
  some (b23, h24)
  else
  (f_X9_isWord D b o h (some (D.2.2.1 47))).bind fun b26 =>
  if b26 = true then
  gx_b2 (f_X9_readInvariant D b o h false) fun b29 h30 =>
  some (b29, h30)
  else
  (f_X9_isWord D b o h (some (D.2.2.1 48))).bind fun b32 =>
  if b32 = true then
  gx_b2 (f_X9_readInvariant D b o h true) fun b35 h36 =>
  some (b35, h36)
  else
  gx_b2 (f_X9_failsAt D b o h (1 : Int32)) fun b38 h39 =>
  some (b38, h39)
theorem w_X9_readSetupStatement_b {l : Launch} (hlt : l.stackTraces = false) {p : Program} {e : Env} {R : Room} {s : State} {m : MethodId} {args : Array Value} {below : List Frame} {meth : Method} {c : Code} {D : gx_D} {b : HX} {o : Nat} {h0 : MS} {r : Bool} {hz : MS} (C : gx_Ctx p R s m args meth c "ContractMachineModel" cX9_readSetupStatement 1 (some .boolean) 9 195 D (mh b o h0) (mh b o hz)) (hx : meth.name = "readSetupStatement") (hf : f_X9_readSetupStatement D b o h0 = some (r, hz)) : gx_G p l e R s m args below meth c D (mh b o h0) (mh b o hz) 1 (gx_MQ below args s D (mh b o h0) (mh b o hz) (some (.int (b2i r)))) 0 [(0, (va_rf (some o)))] [] (mh b o h0) := by
  unfold f_X9_readSetupStatement at hf
  refine gx_aload_n C dX9_readSetupStatement_0 0 rfl ?_
  refine gx_ldcwS C 31 rfl dX9_readSetupStatement_1 ?_
  replace hf := gx_bs hf
  obtain ⟨b2, g1, hf⟩ := hf
  refine gx_callV (st := []) C (w_X9_isWord hlt g1) mh_is gz_497 rfl (lw_V q2780 q2782 qs66 q151 q2783) gz_544 (by decide) rfl rfl (gx_catn (Nat.le_of_ble_eq_true rfl)) dX9_readSetupStatement_4 ?_
  replace hf := gx_ite hf
  rcases hf with ⟨c3, hf⟩ | ⟨c3, hf⟩
  · refine gx_ifz_eq_f (tgt := 21) C dX9_readSetupStatement_7 rfl c3 ?_
    refine gx_aload_n C dX9_readSetupStatement_10 0 rfl ?_
    refine gx_sipush (v := 357) C dX9_readSetupStatement_11 rfl ?_
    refine gx_iconst (v := 0) C dX9_readSetupStatement_14 rfl ?_
    refine gx_bipush (v := 10) C dX9_readSetupStatement_15 rfl ?_
    replace hf := gx_b2s hf
    obtain ⟨b5, h6, g4, hf⟩ := hf
    refine gx_callV (st := []) C (w_X9_readNamed hlt g4) mh_is gz_497 rfl (lw_V q2786 q2788 qs67 q151 q2789) gz_556 (by decide) rfl rfl (gx_catn (Nat.le_of_ble_eq_true rfl)) dX9_readSetupStatement_17 ?_
    obtain ⟨rfl, rfl⟩ := Prod.mk.inj (Option.some.inj hf)
    exact gx_zret (b := _) C dX9_readSetupStatement_20
  · refine gx_ifz_eq_t (tgt := 21) C dX9_readSetupStatement_7 rfl c3 ?_
    refine gx_aload_n C dX9_readSetupStatement_21 0 rfl ?_
    refine gx_ldcwS C 32 rfl dX9_readSetupStatement_22 ?_
    replace hf := gx_bs hf
    obtain ⟨b8, g7, hf⟩ := hf
    refine gx_callV (st := []) C (w_X9_isWord hlt g7) mh_is gz_497 rfl (lw_V q2780 q2782 qs66 q151 q2783) gz_544 (by decide) rfl rfl (gx_catn (Nat.le_of_ble_eq_true rfl)) dX9_readSetupStatement_25 ?_
    replace hf := gx_ite hf
    rcases hf with ⟨c9, hf⟩ | ⟨c9, hf⟩
    · refine gx_ifz_eq_f (tgt := 42) C dX9_readSetupStatement_28 rfl c9 ?_
      refine gx_aload_n C dX9_readSetupStatement_31 0 rfl ?_
      refine gx_sipush (v := 427) C dX9_readSetupStatement_32 rfl ?_
      refine gx_iconst (v := 1) C dX9_readSetupStatement_35 rfl ?_
      refine gx_bipush (v := 8) C dX9_readSetupStatement_36 rfl ?_
      replace hf := gx_b2s hf
      obtain ⟨b11, h12, g10, hf⟩ := hf
      refine gx_callV (st := []) C (w_X9_readNamed hlt g10) mh_is gz_497 rfl (lw_V q2786 q2788 qs67 q151 q2789) gz_556 (by decide) rfl rfl (gx_catn (Nat.le_of_ble_eq_true rfl)) dX9_readSetupStatement_38 ?_
      obtain ⟨rfl, rfl⟩ := Prod.mk.inj (Option.some.inj hf)
      exact gx_zret (b := _) C dX9_readSetupStatement_41
    · refine gx_ifz_eq_t (tgt := 42) C dX9_readSetupStatement_28 rfl c9 ?_
      refine gx_aload_n C dX9_readSetupStatement_42 0 rfl ?_
      refine gx_ldcwS C 33 rfl dX9_readSetupStatement_43 ?_
      replace hf := gx_bs hf
      obtain ⟨b14, g13, hf⟩ := hf
      refine gx_callV (st := []) C (w_X9_isWord hlt g13) mh_is gz_497 rfl (lw_V q2780 q2782 qs66 q151 q2783) gz_544 (by decide) rfl rfl (gx_catn (Nat.le_of_ble_eq_true rfl)) dX9_readSetupStatement_46 ?_
      replace hf := gx_ite hf
      rcases hf with ⟨c15, hf⟩ | ⟨c15, hf⟩
      · refine gx_ifz_eq_f (tgt := 62) C dX9_readSetupStatement_49 rfl c15 ?_
        refine gx_aload_n C dX9_readSetupStatement_52 0 rfl ?_
        refine gx_sipush (v := 483) C dX9_readSetupStatement_53 rfl ?_
        refine gx_iconst (v := 2) C dX9_readSetupStatement_56 rfl ?_
        refine gx_iconst (v := 3) C dX9_readSetupStatement_57 rfl ?_
        replace hf := gx_b2s hf
        obtain ⟨b17, h18, g16, hf⟩ := hf
        refine gx_callV (st := []) C (w_X9_readNamed hlt g16) mh_is gz_497 rfl (lw_V q2786 q2788 qs67 q151 q2789) gz_556 (by decide) rfl rfl (gx_catn (Nat.le_of_ble_eq_true rfl)) dX9_readSetupStatement_58 ?_
        obtain ⟨rfl, rfl⟩ := Prod.mk.inj (Option.some.inj hf)
        exact gx_zret (b := _) C dX9_readSetupStatement_61
      · refine gx_ifz_eq_t (tgt := 62) C dX9_readSetupStatement_49 rfl c15 ?_
        refine gx_aload_n C dX9_readSetupStatement_62 0 rfl ?_
        refine gx_ldcwS C 34 rfl dX9_readSetupStatement_63 ?_
        replace hf := gx_bs hf
        obtain ⟨b20, g19, hf⟩ := hf
        refine gx_callV (st := []) C (w_X9_isWord hlt g19) mh_is gz_497 rfl (lw_V q2780 q2782 qs66 q151 q2783) gz_544 (by decide) rfl rfl (gx_catn (Nat.le_of_ble_eq_true rfl)) dX9_readSetupStatement_66 ?_
        replace hf := gx_ite hf
        rcases hf with ⟨c21, hf⟩ | ⟨c21, hf⟩
        · refine gx_ifz_eq_f (tgt := 77) C dX9_readSetupStatement_69 rfl c21 ?_
          refine gx_aload_n C dX9_readSetupStatement_72 0 rfl ?_
          replace hf := gx_b2s hf
          obtain ⟨b23, h24, g22, hf⟩ := hf
          refine gx_callV (st := []) C (w_X9_readTransition hlt g22) mh_is gz_497 rfl (lw_V q2829 q2831 qs77 q151 q2832) gz_557 (by decide) rfl rfl (gx_catn (Nat.le_of_ble_eq_true rfl)) dX9_readSetupStatement_73 ?_
          obtain ⟨rfl, rfl⟩ := Prod.mk.inj (Option.some.inj hf)
          exact gx_zret (b := _) C dX9_readSetupStatement_76
        · refine gx_ifz_eq_t (tgt := 77) C dX9_readSetupStatement_69 rfl c21 ?_
          refine gx_aload_n C dX9_readSetupStatement_77 0 rfl ?_
          refine gx_ldcwS C 47 rfl dX9_readSetupStatement_78 ?_
          replace hf := gx_bs hf
          obtain ⟨b26, g25, hf⟩ := hf
          refine gx_callV (st := []) C (w_X9_isWord hlt g25) mh_is gz_497 rfl (lw_V q2780 q2782 qs66 q151 q2783) gz_544 (by decide) rfl rfl (gx_catn (Nat.le_of_ble_eq_true rfl)) dX9_readSetupStatement_81 ?_
          replace hf := gx_ite hf
          rcases hf with ⟨c27, hf⟩ | ⟨c27, hf⟩
          · refine gx_ifz_eq_f (tgt := 93) C dX9_readSetupStatement_84 rfl c27 ?_
            refine gx_aload_n C dX9_readSetupStatement_87 0 rfl ?_
            refine gx_iconst (v := 0) C dX9_readSetupStatement_88 rfl ?_
            replace hf := gx_b2s hf
            obtain ⟨b29, h30, g28, hf⟩ := hf
            refine gx_callV (st := []) C (w_X9_readInvariant hlt g28) mh_is gz_497 rfl (lw_V q2866 q2868 qs83 q151 q2869) gz_558 (by decide) rfl rfl (gx_catn (Nat.le_of_ble_eq_true rfl)) dX9_readSetupStatement_89 ?_
            obtain ⟨rfl, rfl⟩ := Prod.mk.inj (Option.some.inj hf)
            exact gx_zret (b := _) C dX9_readSetupStatement_92
          · refine gx_ifz_eq_t (tgt := 93) C dX9_readSetupStatement_84 rfl c27 ?_
            refine gx_aload_n C dX9_readSetupStatement_93 0 rfl ?_
            refine gx_ldcwS C 48 rfl dX9_readSetupStatement_94 ?_
            replace hf := gx_bs hf
            obtain ⟨b32, g31, hf⟩ := hf
            refine gx_callV (st := []) C (w_X9_isWord hlt g31) mh_is gz_497 rfl (lw_V q2780 q2782 qs66 q151 q2783) gz_544 (by decide) rfl rfl (gx_catn (Nat.le_of_ble_eq_true rfl)) dX9_readSetupStatement_97 ?_
            replace hf := gx_ite hf
            rcases hf with ⟨c33, hf⟩ | ⟨c33, hf⟩
            · refine gx_ifz_eq_f (tgt := 111) C dX9_readSetupStatement_100 rfl c33 ?_
              refine gx_aload_n C dX9_readSetupStatement_103 0 rfl ?_
              refine gx_iconst (v := 1) C dX9_readSetupStatement_104 rfl ?_
              replace hf := gx_b2s hf
              obtain ⟨b35, h36, g34, hf⟩ := hf
              refine gx_callV (st := []) C (w_X9_readInvariant hlt g34) mh_is gz_497 rfl (lw_V q2866 q2868 qs83 q151 q2869) gz_558 (by decide) rfl rfl (gx_catn (Nat.le_of_ble_eq_true rfl)) dX9_readSetupStatement_105 ?_
              refine gx_goto (tgt := 116) C dX9_readSetupStatement_108 rfl ?_
              obtain ⟨rfl, rfl⟩ := Prod.mk.inj (Option.some.inj hf)
              exact gx_zret (b := _) C dX9_readSetupStatement_116
            · refine gx_ifz_eq_t (tgt := 111) C dX9_readSetupStatement_100 rfl c33 ?_
              refine gx_aload_n C dX9_readSetupStatement_111 0 rfl ?_
              refine gx_iconst (v := 1) C dX9_readSetupStatement_112 rfl ?_
              replace hf := gx_b2s hf
              obtain ⟨b38, h39, g37, hf⟩ := hf
              refine gx_callV (st := []) C (w_X9_failsAt hlt g37) mh_is gz_497 rfl (lw_V q2790 q2792 qs68 q151 q2793) gz_540 (by decide) rfl rfl (gx_catn (Nat.le_of_ble_eq_true rfl)) dX9_readSetupStatement_113 ?_
              obtain ⟨rfl, rfl⟩ := Prod.mk.inj (Option.some.inj hf)
              exact gx_zret (b := _) C dX9_readSetupStatement_116
theorem w_X9_readSetupStatement {l : Launch} (hlt : l.stackTraces = false) {D : gx_D} {b : HX} {o : Nat} {h : MS} {r : Bool} {hz : MS} (hf : f_X9_readSetupStatement D b o h = some (r, hz)) : gx_Met l yX9_readSetupStatement cX9_readSetupStatement 1 (some .boolean) 9 195 D [(va_rf (some o))] (mh b o h) (some (.int (b2i r))) (mh b o hz) :=
  gx_ofG gz_495 (by simp only [gx_lsr, gx_lsi, gx_lsj, gx_ls0]; decide) mh_le (fun p e R s m args below meth c C hx => by
    simp only [gx_lar, gx_lai, gx_laj, gx_la0, Nat.reduceAdd]
    exact w_X9_readSetupStatement_b hlt C hx hf)
def f_X9_start (D : gx_D) (b : HX) (o : Nat) (h : MS) : Option Int32 :=
  (ms_ai h 0 (9 : Int32)).bind fun x1 =>
  (ms_ai h 0 (10 : Int32)).bind fun x2 =>
  (ms_ai h 0 (11 : Int32)).bind fun x3 =>
  some (((x1 + ((10 : Int32) * x2)) + ((100 : Int32) * x3)))
theorem w_X9_start_b {l : Launch} (hlt : l.stackTraces = false) {p : Program} {e : Env} {R : Room} {s : State} {m : MethodId} {args : Array Value} {below : List Frame} {meth : Method} {c : Code} {D : gx_D} {b : HX} {o : Nat} {h0 : MS} {r : Int32} (C : gx_Ctx p R s m args meth c "ContractMachineModel" cX9_start 1 (some .int) 1 24 D (mh b o h0) (mh b o h0)) (hx : meth.name = "start") (hf : f_X9_start D b o h0 = some r) : gx_G p l e R s m args below meth c D (mh b o h0) (mh b o h0) 1 (gx_MQ below args s D (mh b o h0) (mh b o h0) (some (.int r))) 0 [(0, (va_rf (some o)))] [] (mh b o h0) := by
  unfold f_X9_start at hf
  refine gx_aload_n C dX9_start_0 0 rfl ?_
  refine gx_gr C (mh_gr (k := 0) rfl) gz_494 q2634 dX9_start_1 ?_
  refine gx_bipush (v := 9) C dX9_start_4 rfl ?_
  replace hf := gx_bs hf
  obtain ⟨x1, g6, hf⟩ := hf
  refine gx_iald C (mh_ai g6) dX9_start_6 ?_
  refine gx_bipush (v := 10) C dX9_start_7 rfl ?_
  refine gx_aload_n C dX9_start_9 0 rfl ?_
  refine gx_gr C (mh_gr (k := 0) rfl) gz_494 q2634 dX9_start_10 ?_
  refine gx_bipush (v := 10) C dX9_start_13 rfl ?_
  replace hf := gx_bs hf
  obtain ⟨x2, g5, hf⟩ := hf
  refine gx_iald C (mh_ai g5) dX9_start_15 ?_
  refine gx_imul C dX9_start_16 ?_
  refine gx_iadd C dX9_start_17 ?_
  refine gx_bipush (v := 100) C dX9_start_18 rfl ?_
  refine gx_aload_n C dX9_start_20 0 rfl ?_
  refine gx_gr C (mh_gr (k := 0) rfl) gz_494 q2634 dX9_start_21 ?_
  refine gx_bipush (v := 11) C dX9_start_24 rfl ?_
  replace hf := gx_bs hf
  obtain ⟨x3, g4, hf⟩ := hf
  refine gx_iald C (mh_ai g4) dX9_start_26 ?_
  refine gx_imul C dX9_start_27 ?_
  refine gx_iadd C dX9_start_28 ?_
  obtain rfl := Option.some.inj hf
  exact gx_iret C dX9_start_29
theorem w_X9_start {l : Launch} (hlt : l.stackTraces = false) {D : gx_D} {b : HX} {o : Nat} {h : MS} {r : Int32} (hf : f_X9_start D b o h = some r) : gx_Met l yX9_start cX9_start 1 (some .int) 1 24 D [(va_rf (some o))] (mh b o h) (some (.int r)) (mh b o h) :=
  gx_ofG gz_495 (by simp only [gx_lsr, gx_lsi, gx_lsj, gx_ls0]; decide) gx_le.rf (fun p e R s m args below meth c C hx => by
    simp only [gx_lar, gx_lai, gx_laj, gx_la0, Nat.reduceAdd]
    exact w_X9_start_b hlt C hx hf)
def f_X9_readText_b47 (D : gx_D) (b : HX) (o : Nat) (h : MS) : Option ((Bool) × MS) :=
  gx_b2 (f_X9_failsAt D b o h (6 : Int32)) fun b7 h8 =>
  some (b7, h8)
theorem w_X9_readText_b47 {l : Launch} (hlt : l.stackTraces = false) {p : Program} {e : Env} {R : Room} {s : State} {m : MethodId} {args : Array Value} {below : List Frame} {meth : Method} {c : Code} {D : gx_D} {b : HX} {o : Nat} {h0 : MS} {r : Bool} {hz : MS} (C : gx_Ctx p R s m args meth c "ContractMachineModel" cX9_readText 1 (some .boolean) 10 215 D (mh b o h0) (mh b o hz)) (hx : meth.name = "readText")  {h : MS} (hf : f_X9_readText_b47 D b o h = some (r, hz)) : gx_G p l e R s m args below meth c D (mh b o h0) (mh b o hz) 1 (gx_MQ below args s D (mh b o h0) (mh b o hz) (some (.int (b2i r)))) 47 [(0, (va_rf (some o)))] [] (mh b o h) := by
  unfold f_X9_readText_b47 at hf
  refine gx_aload_n C dX9_readText_47 0 rfl ?_
  refine gx_bipush (v := 6) C dX9_readText_48 rfl ?_
  replace hf := gx_b2s hf
  obtain ⟨b7, h8, g6, hf⟩ := hf
  refine gx_callV (st := []) C (w_X9_failsAt hlt g6) mh_is gz_497 rfl (lw_V q2790 q2792 qs68 q151 q2793) gz_540 (by decide) rfl rfl (gx_catn (Nat.le_of_ble_eq_true rfl)) dX9_readText_50 ?_
  obtain ⟨rfl, rfl⟩ := Prod.mk.inj (Option.some.inj hf)
  exact gx_zret (b := _) C dX9_readText_53
def f_X9_readText_b20 (D : gx_D) (b : HX) (o : Nat) (h : MS) : Option ((Bool) × MS) :=
  (ms_ai h 0 (0 : Int32)).bind fun x4 =>
  if x4 = 0 then
  f_X9_readText_b47 D b o h
  else
  (ms_ai h 0 (1 : Int32)).bind fun x9 =>
  if x9 = 0 then
  f_X9_readText_b47 D b o h
  else
  (ms_ai h 0 (2 : Int32)).bind fun x11 =>
  if x11 = 0 then
  f_X9_readText_b47 D b o h
  else
  (f_X9_start D b o h).bind fun x14 =>
  (f_X9_firstBroken D b o h x14).bind fun x16 =>
  if x16 = (-1 : Int32) then
  some (true, h)
  else
  gx_b2 (f_X9_failsAt D b o h (7 : Int32)) fun b19 h20 =>
  if b19 = true then
  some (true, h20)
  else
  some (false, h20)
theorem w_X9_readText_b20 {l : Launch} (hlt : l.stackTraces = false) {p : Program} {e : Env} {R : Room} {s : State} {m : MethodId} {args : Array Value} {below : List Frame} {meth : Method} {c : Code} {D : gx_D} {b : HX} {o : Nat} {h0 : MS} {r : Bool} {hz : MS} (C : gx_Ctx p R s m args meth c "ContractMachineModel" cX9_readText 1 (some .boolean) 10 215 D (mh b o h0) (mh b o hz)) (hx : meth.name = "readText")  {h : MS} (hf : f_X9_readText_b20 D b o h = some (r, hz)) : gx_G p l e R s m args below meth c D (mh b o h0) (mh b o hz) 1 (gx_MQ below args s D (mh b o h0) (mh b o hz) (some (.int (b2i r)))) 20 [(0, (va_rf (some o)))] [] (mh b o h) := by
  unfold f_X9_readText_b20 at hf
  refine gx_aload_n C dX9_readText_20 0 rfl ?_
  refine gx_gr C (mh_gr (k := 0) rfl) gz_494 q2634 dX9_readText_21 ?_
  refine gx_iconst (v := 0) C dX9_readText_24 rfl ?_
  replace hf := gx_bs hf
  obtain ⟨x4, g24, hf⟩ := hf
  refine gx_iald C (mh_ai g24) dX9_readText_25 ?_
  replace hf := gx_ite hf
  rcases hf with ⟨c5, hf⟩ | ⟨c5, hf⟩
  · refine gx_if_eq_t (tgt := 47) C dX9_readText_26 rfl c5 ?_
    refine gx_sub [0] rfl ?_
    exact w_X9_readText_b47 hlt C hx hf
  · refine gx_if_eq_f (tgt := 47) C dX9_readText_26 rfl c5 ?_
    refine gx_aload_n C dX9_readText_29 0 rfl ?_
    refine gx_gr C (mh_gr (k := 0) rfl) gz_494 q2634 dX9_readText_30 ?_
    refine gx_iconst (v := 1) C dX9_readText_33 rfl ?_
    replace hf := gx_bs hf
    obtain ⟨x9, g23, hf⟩ := hf
    refine gx_iald C (mh_ai g23) dX9_readText_34 ?_
    replace hf := gx_ite hf
    rcases hf with ⟨c10, hf⟩ | ⟨c10, hf⟩
    · refine gx_if_eq_t (tgt := 47) C dX9_readText_35 rfl c10 ?_
      refine gx_sub [0] rfl ?_
      exact w_X9_readText_b47 hlt C hx hf
    · refine gx_if_eq_f (tgt := 47) C dX9_readText_35 rfl c10 ?_
      refine gx_aload_n C dX9_readText_38 0 rfl ?_
      refine gx_gr C (mh_gr (k := 0) rfl) gz_494 q2634 dX9_readText_39 ?_
      refine gx_iconst (v := 2) C dX9_readText_42 rfl ?_
      replace hf := gx_bs hf
      obtain ⟨x11, g22, hf⟩ := hf
      refine gx_iald C (mh_ai g22) dX9_readText_43 ?_
      replace hf := gx_ite hf
      rcases hf with ⟨c12, hf⟩ | ⟨c12, hf⟩
      · refine gx_if_ne_f (tgt := 54) C dX9_readText_44 rfl c12 ?_
        refine gx_sub [0] rfl ?_
        exact w_X9_readText_b47 hlt C hx hf
      · refine gx_if_ne_t (tgt := 54) C dX9_readText_44 rfl c12 ?_
        refine gx_aload_n C dX9_readText_54 0 rfl ?_
        refine gx_aload_n C dX9_readText_55 0 rfl ?_
        replace hf := gx_bs hf
        obtain ⟨x14, g13, hf⟩ := hf
        refine gx_callV (st := [(va_rf (some o))]) C (w_X9_start hlt g13) mh_is gz_497 rfl (lw_V q2871 q2873 qs84 q151 q2874) gz_559 (by decide) rfl rfl (gx_catn (Nat.le_of_ble_eq_true rfl)) dX9_readText_56 ?_
        replace hf := gx_bs hf
        obtain ⟨x16, g15, hf⟩ := hf
        refine gx_callV (st := []) C (w_X9_firstBroken hlt g15) mh_is gz_497 rfl (lw_V q2875 q2877 qs85 q151 q2878) gz_560 (by decide) rfl rfl (gx_catn (Nat.le_of_ble_eq_true rfl)) dX9_readText_59 ?_
        refine gx_iconst (v := -1) C dX9_readText_62 rfl ?_
        replace hf := gx_ite hf
        rcases hf with ⟨c17, hf⟩ | ⟨c17, hf⟩
        · refine gx_icmp_eq_t (tgt := 75) C dX9_readText_63 rfl c17 ?_
          refine gx_iconst (v := 1) C dX9_readText_75 rfl ?_
          refine gx_goto (tgt := 80) C dX9_readText_76 rfl ?_
          obtain ⟨rfl, rfl⟩ := Prod.mk.inj (Option.some.inj hf)
          exact gx_zret (b := true) C dX9_readText_80
        · refine gx_icmp_eq_f (tgt := 75) C dX9_readText_63 rfl c17 ?_
          refine gx_aload_n C dX9_readText_66 0 rfl ?_
          refine gx_bipush (v := 7) C dX9_readText_67 rfl ?_
          replace hf := gx_b2s hf
          obtain ⟨b19, h20, g18, hf⟩ := hf
          refine gx_callV (st := []) C (w_X9_failsAt hlt g18) mh_is gz_497 rfl (lw_V q2790 q2792 qs68 q151 q2793) gz_540 (by decide) rfl rfl (gx_catn (Nat.le_of_ble_eq_true rfl)) dX9_readText_69 ?_
          replace hf := gx_ite hf
          rcases hf with ⟨c21, hf⟩ | ⟨c21, hf⟩
          · refine gx_ifz_eq_f (tgt := 79) C dX9_readText_72 rfl c21 ?_
            refine gx_iconst (v := 1) C dX9_readText_75 rfl ?_
            refine gx_goto (tgt := 80) C dX9_readText_76 rfl ?_
            obtain ⟨rfl, rfl⟩ := Prod.mk.inj (Option.some.inj hf)
            exact gx_zret (b := true) C dX9_readText_80
          · refine gx_ifz_eq_t (tgt := 79) C dX9_readText_72 rfl c21 ?_
            refine gx_iconst (v := 0) C dX9_readText_79 rfl ?_
            obtain ⟨rfl, rfl⟩ := Prod.mk.inj (Option.some.inj hf)
            exact gx_zret (b := false) C dX9_readText_80
def f_X9_readText_b4 (D : gx_D) (b : HX) (o : Nat) : Nat → MS → Option ((Bool) × MS)
  | 0, _ => none
  | n + 1, h =>
  if (h.1 21) = 0 then
  f_X9_readText_b20 D b o h
  else
  gx_b2 (f_X9_readSetupStatement D b o h) fun b26 h27 =>
  if b26 = true then
  (f_X9_readText_b4 D b o n) h27
  else
  some (false, h27)
theorem w_X9_readText_b4 {l : Launch} (hlt : l.stackTraces = false) {p : Program} {e : Env} {R : Room} {s : State} {m : MethodId} {args : Array Value} {below : List Frame} {meth : Method} {c : Code} {D : gx_D} {b : HX} {o : Nat} {h0 : MS} {r : Bool} {hz : MS} (C : gx_Ctx p R s m args meth c "ContractMachineModel" cX9_readText 1 (some .boolean) 10 215 D (mh b o h0) (mh b o hz)) (hx : meth.name = "readText")  : ∀ (n : Nat) ⦃h : MS⦄, f_X9_readText_b4 D b o n h = some (r, hz) → gx_G p l e R s m args below meth c D (mh b o h0) (mh b o hz) 1 (gx_MQ below args s D (mh b o h0) (mh b o hz) (some (.int (b2i r)))) 4 [(0, (va_rf (some o)))] [] (mh b o h) := by
  intro n
  induction n with
  | zero => intro h hf; unfold f_X9_readText_b4 at hf; cases hf
  | succ n wk4 =>
    intro h hf
    unfold f_X9_readText_b4 at hf
    refine gx_aload_n C dX9_readText_4 0 rfl ?_
    refine gx_gi C (mh_gi (k := 21) rfl) gz_534 q2655 dX9_readText_5 ?_
    replace hf := gx_ite hf
    rcases hf with ⟨c3, hf⟩ | ⟨c3, hf⟩
    · refine gx_if_eq_t (tgt := 20) C dX9_readText_8 rfl c3 ?_
      refine gx_sub [0] rfl ?_
      exact w_X9_readText_b20 hlt C hx hf
    · refine gx_if_eq_f (tgt := 20) C dX9_readText_8 rfl c3 ?_
      refine gx_aload_n C dX9_readText_11 0 rfl ?_
      replace hf := gx_b2s hf
      obtain ⟨b26, h27, g25, hf⟩ := hf
      refine gx_callV (st := []) C (w_X9_readSetupStatement hlt g25) mh_is gz_497 rfl (lw_V q2775 q2777 qs65 q151 q2778) gz_561 (by decide) rfl rfl (gx_catn (Nat.le_of_ble_eq_true rfl)) dX9_readText_12 ?_
      replace hf := gx_ite hf
      rcases hf with ⟨c28, hf⟩ | ⟨c28, hf⟩
      · refine gx_ifz_ne_t (tgt := 4) C dX9_readText_15 rfl c28 ?_
        refine gx_sub [0] rfl ?_
        exact wk4 hf
      · refine gx_ifz_ne_f (tgt := 4) C dX9_readText_15 rfl c28 ?_
        refine gx_iconst (v := 0) C dX9_readText_18 rfl ?_
        obtain ⟨rfl, rfl⟩ := Prod.mk.inj (Option.some.inj hf)
        exact gx_zret (b := false) C dX9_readText_19
def f_X9_readText (D : gx_D) (b : HX) (o : Nat) (h : MS) : Option ((Bool) × MS) :=
  (f_X9_begins D b o h).bind fun h2 =>
  f_X9_readText_b4 D b o gx_fuel h2
theorem w_X9_readText_b {l : Launch} (hlt : l.stackTraces = false) {p : Program} {e : Env} {R : Room} {s : State} {m : MethodId} {args : Array Value} {below : List Frame} {meth : Method} {c : Code} {D : gx_D} {b : HX} {o : Nat} {h0 : MS} {r : Bool} {hz : MS} (C : gx_Ctx p R s m args meth c "ContractMachineModel" cX9_readText 1 (some .boolean) 10 215 D (mh b o h0) (mh b o hz)) (hx : meth.name = "readText") (hf : f_X9_readText D b o h0 = some (r, hz)) : gx_G p l e R s m args below meth c D (mh b o h0) (mh b o hz) 1 (gx_MQ below args s D (mh b o h0) (mh b o hz) (some (.int (b2i r)))) 0 [(0, (va_rf (some o)))] [] (mh b o h0) := by
  unfold f_X9_readText at hf
  refine gx_aload_n C dX9_readText_0 0 rfl ?_
  replace hf := gx_bs hf
  obtain ⟨h2, g1, hf⟩ := hf
  refine gx_callV (st := []) C (w_X9_begins hlt g1) mh_is gz_497 rfl (lw_V q2602 q2604 qs51 q151 q2605) gz_512 (by decide) rfl rfl (gx_catn (Nat.le_of_ble_eq_true rfl)) dX9_readText_1 ?_
  refine gx_sub [0] rfl ?_
  exact w_X9_readText_b4 hlt C hx gx_fuel hf
theorem w_X9_readText {l : Launch} (hlt : l.stackTraces = false) {D : gx_D} {b : HX} {o : Nat} {h : MS} {r : Bool} {hz : MS} (hf : f_X9_readText D b o h = some (r, hz)) : gx_Met l yX9_readText cX9_readText 1 (some .boolean) 10 215 D [(va_rf (some o))] (mh b o h) (some (.int (b2i r))) (mh b o hz) :=
  gx_ofG gz_495 (by simp only [gx_lsr, gx_lsi, gx_lsj, gx_ls0]; decide) mh_le (fun p e R s m args below meth c C hx => by
    simp only [gx_lar, gx_lai, gx_laj, gx_la0, Nat.reduceAdd]
    exact w_X9_readText_b hlt C hx hf)
def f_X9_startsText (D : gx_D) (b : HX) (o : Nat) (h : MS) : Option MS :=
  (ms_pf h 16 (0 : Int32)).bind fun h1 =>
  (ms_pf h1 17 (-1 : Int32)).bind fun h2 =>
  (ms_pf h2 26 (0 : Int32)).bind fun h3 =>
  (ms_pf h3 18 (0 : Int32)).bind fun h4 =>
  (f_X9_advanceToken D b o h4).bind fun h6 =>
  some h6
theorem w_X9_startsText_b {l : Launch} (hlt : l.stackTraces = false) {p : Program} {e : Env} {R : Room} {s : State} {m : MethodId} {args : Array Value} {below : List Frame} {meth : Method} {c : Code} {D : gx_D} {b : HX} {o : Nat} {h0 : MS} {hz : MS} (C : gx_Ctx p R s m args meth c "ContractMachineModel" cX9_startsText 1 none 4 88 D (mh b o h0) (mh b o hz)) (hx : meth.name = "startsText") (hf : f_X9_startsText D b o h0 = some hz) : gx_G p l e R s m args below meth c D (mh b o h0) (mh b o hz) 1 (gx_MQ below args s D (mh b o h0) (mh b o hz) none) 0 [(0, (va_rf (some o)))] [] (mh b o h0) := by
  unfold f_X9_startsText at hf
  refine gx_aload_n C dX9_startsText_0 0 rfl ?_
  refine gx_iconst (v := 0) C dX9_startsText_1 rfl ?_
  replace hf := gx_bs hf
  obtain ⟨h1, g10, hf⟩ := hf
  refine gx_putv C (mh_pg (by decide) (fun _ _ => mh_p16) g10) gz_523 gz_1 rfl rfl q2650 dX9_startsText_2 ?_
  refine gx_aload_n C dX9_startsText_5 0 rfl ?_
  refine gx_iconst (v := -1) C dX9_startsText_6 rfl ?_
  replace hf := gx_bs hf
  obtain ⟨h2, g9, hf⟩ := hf
  refine gx_putv C (mh_pg (by decide) (fun _ _ => mh_p17) g9) gz_525 gz_1 rfl rfl q2651 dX9_startsText_7 ?_
  refine gx_aload_n C dX9_startsText_10 0 rfl ?_
  refine gx_iconst (v := 0) C dX9_startsText_11 rfl ?_
  replace hf := gx_bs hf
  obtain ⟨h3, g8, hf⟩ := hf
  refine gx_putv C (mh_pg (by decide) (fun _ _ => mh_p26) g8) gz_562 gz_1 rfl rfl q2660 dX9_startsText_12 ?_
  refine gx_aload_n C dX9_startsText_15 0 rfl ?_
  refine gx_iconst (v := 0) C dX9_startsText_16 rfl ?_
  replace hf := gx_bs hf
  obtain ⟨h4, g7, hf⟩ := hf
  refine gx_putv C (mh_pg (by decide) (fun _ _ => mh_p18) g7) gz_535 gz_1 rfl rfl q2652 dX9_startsText_17 ?_
  refine gx_aload_n C dX9_startsText_20 0 rfl ?_
  replace hf := gx_bs hf
  obtain ⟨h6, g5, hf⟩ := hf
  refine gx_callV (st := []) C (w_X9_advanceToken hlt g5) mh_is gz_497 rfl (lw_V q2759 q2761 qs61 q151 q2762) gz_543 (by decide) rfl rfl (gx_catn (Nat.le_of_ble_eq_true rfl)) dX9_startsText_21 ?_
  obtain rfl := Option.some.inj hf
  exact gx_vret C dX9_startsText_24
theorem w_X9_startsText {l : Launch} (hlt : l.stackTraces = false) {D : gx_D} {b : HX} {o : Nat} {h : MS} {hz : MS} (hf : f_X9_startsText D b o h = some hz) : gx_Met l yX9_startsText cX9_startsText 1 none 4 88 D [(va_rf (some o))] (mh b o h) none (mh b o hz) :=
  gx_ofG gz_495 (by simp only [gx_lsr, gx_lsi, gx_lsj, gx_ls0]; decide) mh_le (fun p e R s m args below meth c C hx => by
    simp only [gx_lar, gx_lai, gx_laj, gx_la0, Nat.reduceAdd]
    exact w_X9_startsText_b hlt C hx hf)
def f_X9_loadMachine (D : gx_D) (b : HX) (o : Nat) (h : MS) : Option ((Int32) × MS) :=
  (ms_pf h 6 (0 : Int32)).bind fun h1 =>
  (f_X9_copies D b o h1 0 (0 : Int32) 1 (0 : Int32)).bind fun h3 =>
  (f_X9_startsText D b o h3).bind fun h5 =>
  gx_b2 (f_X9_readText D b o h5) fun b7 h8 =>
  (f_X9_endsText D b o h8).bind fun h10 =>
  if b7 = true then
  (f_X9_starts D b o h10).bind fun h13 =>
  (ms_pf h13 4 (0 : Int32)).bind fun h14 =>
  (ms_pf h14 5 (0 : Int32)).bind fun h15 =>
  (ms_ai h15 0 (0 : Int32)).bind fun x16 =>
  some (x16, h15)
  else
  (f_X9_copies D b o h10 1 (0 : Int32) 0 (0 : Int32)).bind fun h21 =>
  some ((-1 : Int32), h21)
theorem w_X9_loadMachine_b {l : Launch} (hlt : l.stackTraces = false) {p : Program} {e : Env} {R : Room} {s : State} {m : MethodId} {args : Array Value} {below : List Frame} {meth : Method} {c : Code} {D : gx_D} {b : HX} {o : Nat} {h0 : MS} {r : Int32} {hz : MS} (C : gx_Ctx p R s m args meth c "ContractMachineModel" cX9_loadMachine 2 (some .int) 11 235 D (mh b o h0) (mh b o hz)) (hx : meth.name = "loadMachine") (hf : f_X9_loadMachine D b o h0 = some (r, hz)) : gx_G p l e R s m args below meth c D (mh b o h0) (mh b o hz) 2 (gx_MQ below args s D (mh b o h0) (mh b o hz) (some (.int r))) 0 [(0, (va_rf (some o)))] [] (mh b o h0) := by
  unfold f_X9_loadMachine at hf
  refine gx_aload_n C dX9_loadMachine_0 0 rfl ?_
  refine gx_iconst (v := 0) C dX9_loadMachine_1 rfl ?_
  replace hf := gx_bs hf
  obtain ⟨h1, g22, hf⟩ := hf
  refine gx_putv C (mh_pg (by decide) (fun _ _ => mh_p6) g22) gz_519 gz_1 rfl rfl q2640 dX9_loadMachine_2 ?_
  refine gx_aload_n C dX9_loadMachine_5 0 rfl ?_
  refine gx_gr C (mh_gr (k := 0) rfl) gz_494 q2634 dX9_loadMachine_6 ?_
  refine gx_iconst (v := 0) C dX9_loadMachine_9 rfl ?_
  refine gx_aload_n C dX9_loadMachine_10 0 rfl ?_
  refine gx_gr C (mh_gr (k := 1) rfl) gz_498 q2635 dX9_loadMachine_11 ?_
  refine gx_iconst (v := 0) C dX9_loadMachine_14 rfl ?_
  replace hf := gx_bs hf
  obtain ⟨h3, g2, hf⟩ := hf
  refine gx_callS (st := []) C (w_X9_copies hlt g2) (lw_S q2752 q2753 q151 q2754) gz_568 (by decide) rfl rfl (gx_catn (Nat.le_of_ble_eq_true rfl)) dX9_loadMachine_15 ?_
  refine gx_aload_n C dX9_loadMachine_18 0 rfl ?_
  replace hf := gx_bs hf
  obtain ⟨h5, g4, hf⟩ := hf
  refine gx_callV (st := []) C (w_X9_startsText hlt g4) mh_is gz_497 rfl (lw_V q2755 q2757 qs60 q151 q2758) gz_563 (by decide) rfl rfl (gx_catn (Nat.le_of_ble_eq_true rfl)) dX9_loadMachine_19 ?_
  refine gx_aload_n C dX9_loadMachine_22 0 rfl ?_
  replace hf := gx_b2s hf
  obtain ⟨b7, h8, g6, hf⟩ := hf
  refine gx_callV (st := []) C (w_X9_readText hlt g6) mh_is gz_497 rfl (lw_V q2771 q2773 qs64 q151 q2774) gz_564 (by decide) rfl rfl (gx_catn (Nat.le_of_ble_eq_true rfl)) dX9_loadMachine_23 ?_
  refine gx_istn C dX9_loadMachine_26 1 rfl (by decide) [0]  rfl (gx_okr rfl gx_catv_r gx_ok0) ?_
  refine gx_aload_n C dX9_loadMachine_27 1 rfl ?_
  replace hf := gx_bs hf
  obtain ⟨h10, g9, hf⟩ := hf
  refine gx_callV (st := []) C (w_X9_endsText hlt g9) mh_is gz_497 rfl (lw_V q2903 q2905 qs89 q151 q2906) gz_565 (by decide) rfl rfl (gx_catn (Nat.le_of_ble_eq_true rfl)) dX9_loadMachine_28 ?_
  refine gx_iload_n C dX9_loadMachine_31 0 rfl ?_
  replace hf := gx_ite hf
  rcases hf with ⟨c11, hf⟩ | ⟨c11, hf⟩
  · refine gx_ifz_ne_t (tgt := 50) C dX9_loadMachine_32 rfl c11 ?_
    refine gx_aload_n C dX9_loadMachine_50 1 rfl ?_
    replace hf := gx_bs hf
    obtain ⟨h13, g12, hf⟩ := hf
    refine gx_callV (st := []) C (w_X9_starts hlt g12) mh_is gz_497 rfl (lw_V q2626 q2628 qs57 q151 q2629) gz_518 (by decide) rfl rfl (gx_catn (Nat.le_of_ble_eq_true rfl)) dX9_loadMachine_51 ?_
    refine gx_aload_n C dX9_loadMachine_54 1 rfl ?_
    refine gx_iconst (v := 0) C dX9_loadMachine_55 rfl ?_
    replace hf := gx_bs hf
    obtain ⟨h14, g19, hf⟩ := hf
    refine gx_putv C (mh_pg (by decide) (fun _ _ => mh_p4) g19) gz_566 gz_1 rfl rfl q2638 dX9_loadMachine_56 ?_
    refine gx_aload_n C dX9_loadMachine_59 1 rfl ?_
    refine gx_iconst (v := 0) C dX9_loadMachine_60 rfl ?_
    replace hf := gx_bs hf
    obtain ⟨h15, g18, hf⟩ := hf
    refine gx_putv C (mh_pg (by decide) (fun _ _ => mh_p5) g18) gz_567 gz_248 rfl rfl q2639 dX9_loadMachine_61 ?_
    refine gx_aload_n C dX9_loadMachine_64 1 rfl ?_
    refine gx_gr C (mh_gr (k := 0) rfl) gz_494 q2634 dX9_loadMachine_65 ?_
    refine gx_iconst (v := 0) C dX9_loadMachine_68 rfl ?_
    replace hf := gx_bs hf
    obtain ⟨x16, g17, hf⟩ := hf
    refine gx_iald C (mh_ai g17) dX9_loadMachine_69 ?_
    obtain ⟨rfl, rfl⟩ := Prod.mk.inj (Option.some.inj hf)
    exact gx_iret C dX9_loadMachine_70
  · refine gx_ifz_ne_f (tgt := 50) C dX9_loadMachine_32 rfl c11 ?_
    refine gx_aload_n C dX9_loadMachine_35 1 rfl ?_
    refine gx_gr C (mh_gr (k := 1) rfl) gz_498 q2635 dX9_loadMachine_36 ?_
    refine gx_iconst (v := 0) C dX9_loadMachine_39 rfl ?_
    refine gx_aload_n C dX9_loadMachine_40 1 rfl ?_
    refine gx_gr C (mh_gr (k := 0) rfl) gz_494 q2634 dX9_loadMachine_41 ?_
    refine gx_iconst (v := 0) C dX9_loadMachine_44 rfl ?_
    replace hf := gx_bs hf
    obtain ⟨h21, g20, hf⟩ := hf
    refine gx_callS (st := []) C (w_X9_copies hlt g20) (lw_S q2752 q2753 q151 q2754) gz_568 (by decide) rfl rfl (gx_catn (Nat.le_of_ble_eq_true rfl)) dX9_loadMachine_45 ?_
    refine gx_iconst (v := -1) C dX9_loadMachine_48 rfl ?_
    obtain ⟨rfl, rfl⟩ := Prod.mk.inj (Option.some.inj hf)
    exact gx_iret C dX9_loadMachine_49
theorem w_X9_loadMachine {l : Launch} (hlt : l.stackTraces = false) {D : gx_D} {b : HX} {o : Nat} {h : MS} {r : Int32} {hz : MS} (hf : f_X9_loadMachine D b o h = some (r, hz)) : gx_Met l yX9_loadMachine cX9_loadMachine 2 (some .int) 11 235 D [(va_rf (some o))] (mh b o h) (some (.int r)) (mh b o hz) :=
  gx_ofG gz_495 (by simp only [gx_lsr, gx_lsi, gx_lsj, gx_ls0]; decide) mh_le (fun p e R s m args below meth c C hx => by
    simp only [gx_lar, gx_lai, gx_laj, gx_la0, Nat.reduceAdd]
    exact w_X9_loadMachine_b hlt C hx hf)
def f_X9_clears_b52 (D : gx_D) (b : HX) (o : Nat) (h : MS) (v1 : Int32) : Option ((Int32) × MS) :=
  (ms_si h 0 (18 : Int32) (0 : Int32)).bind fun h4 =>
  (ms_ai h4 0 (5 : Int32)).bind fun x5 =>
  (ms_si h4 0 ((59 : Int32) + x5) (1 : Int32)).bind fun h6 =>
  some (v1, h6)
theorem w_X9_clears_b52 {l : Launch} (hlt : l.stackTraces = false) {p : Program} {e : Env} {R : Room} {s : State} {m : MethodId} {args : Array Value} {below : List Frame} {meth : Method} {c : Code} {D : gx_D} {b : HX} {o : Nat} {h0 : MS} {r : Int32} {hz : MS} (C : gx_Ctx p R s m args meth c "ContractMachineModel" cX9_clears 3 (some .int) 1 24 D (mh b o h0) (mh b o hz)) (hx : meth.name = "clears")  {h : MS} {v1 : Int32} (hf : f_X9_clears_b52 D b o h v1 = some (r, hz)) : gx_G p l e R s m args below meth c D (mh b o h0) (mh b o hz) 3 (gx_MQ below args s D (mh b o h0) (mh b o hz) (some (.int r))) 52 [(0, (va_rf (some o))), (1, (.int v1))] [] (mh b o h) := by
  unfold f_X9_clears_b52 at hf
  refine gx_aload_n C dX9_clears_52 0 rfl ?_
  refine gx_gr C (mh_gr (k := 0) rfl) gz_494 q2634 dX9_clears_53 ?_
  refine gx_bipush (v := 18) C dX9_clears_56 rfl ?_
  refine gx_iconst (v := 0) C dX9_clears_58 rfl ?_
  replace hf := gx_bs hf
  obtain ⟨h4, g9, hf⟩ := hf
  refine gx_iast C (mh_si g9) dX9_clears_59 ?_
  refine gx_aload_n C dX9_clears_60 0 rfl ?_
  refine gx_gr C (mh_gr (k := 0) rfl) gz_494 q2634 dX9_clears_61 ?_
  refine gx_bipush (v := 59) C dX9_clears_64 rfl ?_
  refine gx_aload_n C dX9_clears_66 0 rfl ?_
  refine gx_gr C (mh_gr (k := 0) rfl) gz_494 q2634 dX9_clears_67 ?_
  refine gx_iconst (v := 5) C dX9_clears_70 rfl ?_
  replace hf := gx_bs hf
  obtain ⟨x5, g8, hf⟩ := hf
  refine gx_iald C (mh_ai g8) dX9_clears_71 ?_
  refine gx_iadd C dX9_clears_72 ?_
  refine gx_iconst (v := 1) C dX9_clears_73 rfl ?_
  replace hf := gx_bs hf
  obtain ⟨h6, g7, hf⟩ := hf
  refine gx_iast C (mh_si g7) dX9_clears_74 ?_
  refine gx_iload_n C dX9_clears_75 1 rfl ?_
  obtain ⟨rfl, rfl⟩ := Prod.mk.inj (Option.some.inj hf)
  exact gx_iret C dX9_clears_76
def f_X9_clears_b33 (D : gx_D) (b : HX) (o : Nat) : Nat → MS → Int32 → Int32 → Option ((Int32) × MS)
  | 0, _, _, _ => none
  | n + 1, h, v1, v2 =>
  if (93 : Int32) ≤ v2 then
  f_X9_clears_b52 D b o h v1
  else
  (ms_si h 0 v2 (0 : Int32)).bind fun h10 =>
  (f_X9_clears_b33 D b o n) h10 v1 ((v2 + (1 : Int32)))
theorem w_X9_clears_b33 {l : Launch} (hlt : l.stackTraces = false) {p : Program} {e : Env} {R : Room} {s : State} {m : MethodId} {args : Array Value} {below : List Frame} {meth : Method} {c : Code} {D : gx_D} {b : HX} {o : Nat} {h0 : MS} {r : Int32} {hz : MS} (C : gx_Ctx p R s m args meth c "ContractMachineModel" cX9_clears 3 (some .int) 1 24 D (mh b o h0) (mh b o hz)) (hx : meth.name = "clears")  : ∀ (n : Nat) ⦃h : MS⦄ ⦃v1 : Int32⦄ ⦃v2 : Int32⦄, f_X9_clears_b33 D b o n h v1 v2 = some (r, hz) → gx_G p l e R s m args below meth c D (mh b o h0) (mh b o hz) 3 (gx_MQ below args s D (mh b o h0) (mh b o hz) (some (.int r))) 33 [(0, (va_rf (some o))), (1, (.int v1)), (2, (.int v2))] [] (mh b o h) := by
  intro n
  induction n with
  | zero => intro h v1 v2 hf; unfold f_X9_clears_b33 at hf; cases hf
  | succ n wk33 =>
    intro h v1 v2 hf
    unfold f_X9_clears_b33 at hf
    refine gx_iload_n C dX9_clears_33 2 rfl ?_
    refine gx_bipush (v := 93) C dX9_clears_34 rfl ?_
    replace hf := gx_ite hf
    rcases hf with ⟨c3, hf⟩ | ⟨c3, hf⟩
    · refine gx_icmp_ge_t (tgt := 52) C dX9_clears_36 rfl c3 ?_
      refine gx_sub [0, 1] rfl ?_
      exact w_X9_clears_b52 hlt C hx hf
    · refine gx_icmp_ge_f (tgt := 52) C dX9_clears_36 rfl c3 ?_
      refine gx_aload_n C dX9_clears_39 0 rfl ?_
      refine gx_gr C (mh_gr (k := 0) rfl) gz_494 q2634 dX9_clears_40 ?_
      refine gx_iload_n C dX9_clears_43 2 rfl ?_
      refine gx_iconst (v := 0) C dX9_clears_44 rfl ?_
      replace hf := gx_bs hf
      obtain ⟨h10, g11, hf⟩ := hf
      refine gx_iast C (mh_si g11) dX9_clears_45 ?_
      refine gx_inc (v := 1) C dX9_clears_46 2 rfl rfl (by decide) [0, 1] rfl (gx_okn rfl rfl (gx_okr rfl gx_catv_i gx_ok0)) ?_
      refine gx_goto (tgt := 33) C dX9_clears_49 rfl ?_
      refine gx_sub [1, 2, 0] rfl ?_
      exact wk33 hf
def f_X9_clears_b30 (D : gx_D) (b : HX) (o : Nat) (h : MS) (v1 : Int32) : Option ((Int32) × MS) :=
  f_X9_clears_b33 D b o gx_fuel h v1 ((59 : Int32))
theorem w_X9_clears_b30 {l : Launch} (hlt : l.stackTraces = false) {p : Program} {e : Env} {R : Room} {s : State} {m : MethodId} {args : Array Value} {below : List Frame} {meth : Method} {c : Code} {D : gx_D} {b : HX} {o : Nat} {h0 : MS} {r : Int32} {hz : MS} (C : gx_Ctx p R s m args meth c "ContractMachineModel" cX9_clears 3 (some .int) 1 24 D (mh b o h0) (mh b o hz)) (hx : meth.name = "clears")  {h : MS} {v1 : Int32} (hf : f_X9_clears_b30 D b o h v1 = some (r, hz)) : gx_G p l e R s m args below meth c D (mh b o h0) (mh b o hz) 3 (gx_MQ below args s D (mh b o h0) (mh b o hz) (some (.int r))) 30 [(0, (va_rf (some o))), (1, (.int v1))] [] (mh b o h) := by
  unfold f_X9_clears_b30 at hf
  refine gx_bipush (v := 59) C dX9_clears_30 rfl ?_
  refine gx_istn C dX9_clears_32 2 rfl (by decide) [0, 1]  rfl (gx_okn rfl rfl (gx_okr rfl gx_catv_i gx_ok0)) ?_
  refine gx_sub [1, 2, 0] rfl ?_
  exact w_X9_clears_b33 hlt C hx gx_fuel hf
def f_X9_clears_b11 (D : gx_D) (b : HX) (o : Nat) : Nat → MS → Int32 → Int32 → Option ((Int32) × MS)
  | 0, _, _, _ => none
  | n + 1, h, v1, v2 =>
  if (17 : Int32) < v2 then
  f_X9_clears_b30 D b o h v1
  else
  (ms_si h 0 v2 (0 : Int32)).bind fun h12 =>
  (f_X9_clears_b11 D b o n) h12 v1 ((v2 + (1 : Int32)))
theorem w_X9_clears_b11 {l : Launch} (hlt : l.stackTraces = false) {p : Program} {e : Env} {R : Room} {s : State} {m : MethodId} {args : Array Value} {below : List Frame} {meth : Method} {c : Code} {D : gx_D} {b : HX} {o : Nat} {h0 : MS} {r : Int32} {hz : MS} (C : gx_Ctx p R s m args meth c "ContractMachineModel" cX9_clears 3 (some .int) 1 24 D (mh b o h0) (mh b o hz)) (hx : meth.name = "clears")  : ∀ (n : Nat) ⦃h : MS⦄ ⦃v1 : Int32⦄ ⦃v2 : Int32⦄, f_X9_clears_b11 D b o n h v1 v2 = some (r, hz) → gx_G p l e R s m args below meth c D (mh b o h0) (mh b o hz) 3 (gx_MQ below args s D (mh b o h0) (mh b o hz) (some (.int r))) 11 [(0, (va_rf (some o))), (1, (.int v1)), (2, (.int v2))] [] (mh b o h) := by
  intro n
  induction n with
  | zero => intro h v1 v2 hf; unfold f_X9_clears_b11 at hf; cases hf
  | succ n wk11 =>
    intro h v1 v2 hf
    unfold f_X9_clears_b11 at hf
    refine gx_iload_n C dX9_clears_11 2 rfl ?_
    refine gx_bipush (v := 17) C dX9_clears_12 rfl ?_
    replace hf := gx_ite hf
    rcases hf with ⟨c2, hf⟩ | ⟨c2, hf⟩
    · refine gx_icmp_gt_t (tgt := 30) C dX9_clears_14 rfl c2 ?_
      refine gx_sub [0, 1] rfl ?_
      exact w_X9_clears_b30 hlt C hx hf
    · refine gx_icmp_gt_f (tgt := 30) C dX9_clears_14 rfl c2 ?_
      refine gx_aload_n C dX9_clears_17 0 rfl ?_
      refine gx_gr C (mh_gr (k := 0) rfl) gz_494 q2634 dX9_clears_18 ?_
      refine gx_iload_n C dX9_clears_21 2 rfl ?_
      refine gx_iconst (v := 0) C dX9_clears_22 rfl ?_
      replace hf := gx_bs hf
      obtain ⟨h12, g13, hf⟩ := hf
      refine gx_iast C (mh_si g13) dX9_clears_23 ?_
      refine gx_inc (v := 1) C dX9_clears_24 2 rfl rfl (by decide) [0, 1] rfl (gx_okn rfl rfl (gx_okr rfl gx_catv_i gx_ok0)) ?_
      refine gx_goto (tgt := 11) C dX9_clears_27 rfl ?_
      refine gx_sub [1, 2, 0] rfl ?_
      exact wk11 hf
def f_X9_clears (D : gx_D) (b : HX) (o : Nat) (h : MS) : Option ((Int32) × MS) :=
  (ms_ai h 0 (12 : Int32)).bind fun x1 =>
  f_X9_clears_b11 D b o gx_fuel h x1 ((12 : Int32))
theorem w_X9_clears_b {l : Launch} (hlt : l.stackTraces = false) {p : Program} {e : Env} {R : Room} {s : State} {m : MethodId} {args : Array Value} {below : List Frame} {meth : Method} {c : Code} {D : gx_D} {b : HX} {o : Nat} {h0 : MS} {r : Int32} {hz : MS} (C : gx_Ctx p R s m args meth c "ContractMachineModel" cX9_clears 3 (some .int) 1 24 D (mh b o h0) (mh b o hz)) (hx : meth.name = "clears") (hf : f_X9_clears D b o h0 = some (r, hz)) : gx_G p l e R s m args below meth c D (mh b o h0) (mh b o hz) 3 (gx_MQ below args s D (mh b o h0) (mh b o hz) (some (.int r))) 0 [(0, (va_rf (some o)))] [] (mh b o h0) := by
  unfold f_X9_clears at hf
  refine gx_aload_n C dX9_clears_0 0 rfl ?_
  refine gx_gr C (mh_gr (k := 0) rfl) gz_494 q2634 dX9_clears_1 ?_
  refine gx_bipush (v := 12) C dX9_clears_4 rfl ?_
  replace hf := gx_bs hf
  obtain ⟨x1, g14, hf⟩ := hf
  refine gx_iald C (mh_ai g14) dX9_clears_6 ?_
  refine gx_istn C dX9_clears_7 1 rfl (by decide) [0]  rfl (gx_okr rfl gx_catv_r gx_ok0) ?_
  refine gx_bipush (v := 12) C dX9_clears_8 rfl ?_
  refine gx_istn C dX9_clears_10 2 rfl (by decide) [0, 1]  rfl (gx_okr rfl gx_catv_i (gx_okn rfl rfl gx_ok0)) ?_
  refine gx_sub [2, 1, 0] rfl ?_
  exact w_X9_clears_b11 hlt C hx gx_fuel hf
theorem w_X9_clears {l : Launch} (hlt : l.stackTraces = false) {D : gx_D} {b : HX} {o : Nat} {h : MS} {r : Int32} {hz : MS} (hf : f_X9_clears D b o h = some (r, hz)) : gx_Met l yX9_clears cX9_clears 3 (some .int) 1 24 D [(va_rf (some o))] (mh b o h) (some (.int r)) (mh b o hz) :=
  gx_ofG gz_495 (by simp only [gx_lsr, gx_lsi, gx_lsj, gx_ls0]; decide) mh_le (fun p e R s m args below meth c C hx => by
    simp only [gx_lar, gx_lai, gx_laj, gx_la0, Nat.reduceAdd]
    exact w_X9_clears_b hlt C hx hf)
def f_X9_here (D : gx_D) (b : HX) (o : Nat) (h : MS) : Option Int32 :=
  (ms_ai h 0 (5 : Int32)).bind fun x1 =>
  (ms_ai h 0 (6 : Int32)).bind fun x2 =>
  (ms_ai h 0 (7 : Int32)).bind fun x3 =>
  (ms_ai h 0 (8 : Int32)).bind fun x4 =>
  some ((((((1000 : Int32) * x1) + x2) + ((10 : Int32) * x3)) + ((100 : Int32) * x4)))
theorem w_X9_here_b {l : Launch} (hlt : l.stackTraces = false) {p : Program} {e : Env} {R : Room} {s : State} {m : MethodId} {args : Array Value} {below : List Frame} {meth : Method} {c : Code} {D : gx_D} {b : HX} {o : Nat} {h0 : MS} {r : Int32} (C : gx_Ctx p R s m args meth c "ContractMachineModel" cX9_here 1 (some .int) 1 24 D (mh b o h0) (mh b o h0)) (hx : meth.name = "here") (hf : f_X9_here D b o h0 = some r) : gx_G p l e R s m args below meth c D (mh b o h0) (mh b o h0) 1 (gx_MQ below args s D (mh b o h0) (mh b o h0) (some (.int r))) 0 [(0, (va_rf (some o)))] [] (mh b o h0) := by
  unfold f_X9_here at hf
  refine gx_sipush (v := 1000) C dX9_here_0 rfl ?_
  refine gx_aload_n C dX9_here_3 0 rfl ?_
  refine gx_gr C (mh_gr (k := 0) rfl) gz_494 q2634 dX9_here_4 ?_
  refine gx_iconst (v := 5) C dX9_here_7 rfl ?_
  replace hf := gx_bs hf
  obtain ⟨x1, g8, hf⟩ := hf
  refine gx_iald C (mh_ai g8) dX9_here_8 ?_
  refine gx_imul C dX9_here_9 ?_
  refine gx_aload_n C dX9_here_10 0 rfl ?_
  refine gx_gr C (mh_gr (k := 0) rfl) gz_494 q2634 dX9_here_11 ?_
  refine gx_bipush (v := 6) C dX9_here_14 rfl ?_
  replace hf := gx_bs hf
  obtain ⟨x2, g7, hf⟩ := hf
  refine gx_iald C (mh_ai g7) dX9_here_16 ?_
  refine gx_iadd C dX9_here_17 ?_
  refine gx_bipush (v := 10) C dX9_here_18 rfl ?_
  refine gx_aload_n C dX9_here_20 0 rfl ?_
  refine gx_gr C (mh_gr (k := 0) rfl) gz_494 q2634 dX9_here_21 ?_
  refine gx_bipush (v := 7) C dX9_here_24 rfl ?_
  replace hf := gx_bs hf
  obtain ⟨x3, g6, hf⟩ := hf
  refine gx_iald C (mh_ai g6) dX9_here_26 ?_
  refine gx_imul C dX9_here_27 ?_
  refine gx_iadd C dX9_here_28 ?_
  refine gx_bipush (v := 100) C dX9_here_29 rfl ?_
  refine gx_aload_n C dX9_here_31 0 rfl ?_
  refine gx_gr C (mh_gr (k := 0) rfl) gz_494 q2634 dX9_here_32 ?_
  refine gx_bipush (v := 8) C dX9_here_35 rfl ?_
  replace hf := gx_bs hf
  obtain ⟨x4, g5, hf⟩ := hf
  refine gx_iald C (mh_ai g5) dX9_here_37 ?_
  refine gx_imul C dX9_here_38 ?_
  refine gx_iadd C dX9_here_39 ?_
  obtain rfl := Option.some.inj hf
  exact gx_iret C dX9_here_40
theorem w_X9_here {l : Launch} (hlt : l.stackTraces = false) {D : gx_D} {b : HX} {o : Nat} {h : MS} {r : Int32} (hf : f_X9_here D b o h = some r) : gx_Met l yX9_here cX9_here 1 (some .int) 1 24 D [(va_rf (some o))] (mh b o h) (some (.int r)) (mh b o h) :=
  gx_ofG gz_495 (by simp only [gx_lsr, gx_lsi, gx_lsj, gx_ls0]; decide) gx_le.rf (fun p e R s m args below meth c C hx => by
    simp only [gx_lar, gx_lai, gx_laj, gx_la0, Nat.reduceAdd]
    exact w_X9_here_b hlt C hx hf)
def f_X9_traces_b93 (D : gx_D) (b : HX) (o : Nat) (h : MS) (v1 : Int32) (v2 : Int32) : Option MS :=
  (ms_si h 0 (19 : Int32) v1).bind fun h5 =>
  (ms_si h5 0 (20 : Int32) v2).bind fun h6 =>
  some h6
theorem w_X9_traces_b93 {l : Launch} (hlt : l.stackTraces = false) {p : Program} {e : Env} {R : Room} {s : State} {m : MethodId} {args : Array Value} {below : List Frame} {meth : Method} {c : Code} {D : gx_D} {b : HX} {o : Nat} {h0 : MS} {hz : MS} (C : gx_Ctx p R s m args meth c "ContractMachineModel" cX9_traces 4 none 1 24 D (mh b o h0) (mh b o hz)) (hx : meth.name = "traces")  {h : MS} {v1 : Int32} {v2 : Int32} (hf : f_X9_traces_b93 D b o h v1 v2 = some hz) : gx_G p l e R s m args below meth c D (mh b o h0) (mh b o hz) 4 (gx_MQ below args s D (mh b o h0) (mh b o hz) none) 93 [(0, (va_rf (some o))), (1, (.int v1)), (2, (.int v2))] [] (mh b o h) := by
  unfold f_X9_traces_b93 at hf
  refine gx_aload_n C dX9_traces_93 0 rfl ?_
  refine gx_gr C (mh_gr (k := 0) rfl) gz_494 q2634 dX9_traces_94 ?_
  refine gx_bipush (v := 19) C dX9_traces_97 rfl ?_
  refine gx_iload_n C dX9_traces_99 1 rfl ?_
  replace hf := gx_bs hf
  obtain ⟨h5, g8, hf⟩ := hf
  refine gx_iast C (mh_si g8) dX9_traces_100 ?_
  refine gx_aload_n C dX9_traces_101 0 rfl ?_
  refine gx_gr C (mh_gr (k := 0) rfl) gz_494 q2634 dX9_traces_102 ?_
  refine gx_bipush (v := 20) C dX9_traces_105 rfl ?_
  refine gx_iload_n C dX9_traces_107 2 rfl ?_
  replace hf := gx_bs hf
  obtain ⟨h6, g7, hf⟩ := hf
  refine gx_iast C (mh_si g7) dX9_traces_108 ?_
  obtain rfl := Option.some.inj hf
  exact gx_vret C dX9_traces_109
def f_X9_traces_b33 (D : gx_D) (b : HX) (o : Nat) : Nat → MS → Int32 → Int32 → Int32 → Option MS
  | 0, _, _, _, _ => none
  | n + 1, h, v1, v2, v3 =>
  if v3 ≤ 0 then
  f_X9_traces_b93 D b o h v1 v2
  else
  (ms_ai h 0 (((19 : Int32) + ((2 : Int32) * v3)) - (2 : Int32))).bind fun x9 =>
  (ms_si h 0 ((19 : Int32) + ((2 : Int32) * v3)) x9).bind fun h10 =>
  (ms_ai h10 0 (((19 : Int32) + ((2 : Int32) * v3)) - (1 : Int32))).bind fun x11 =>
  (ms_si h10 0 (((19 : Int32) + ((2 : Int32) * v3)) + (1 : Int32)) x11).bind fun h12 =>
  (f_X9_traces_b33 D b o n) h12 v1 v2 ((v3 + (-1 : Int32)))
theorem w_X9_traces_b33 {l : Launch} (hlt : l.stackTraces = false) {p : Program} {e : Env} {R : Room} {s : State} {m : MethodId} {args : Array Value} {below : List Frame} {meth : Method} {c : Code} {D : gx_D} {b : HX} {o : Nat} {h0 : MS} {hz : MS} (C : gx_Ctx p R s m args meth c "ContractMachineModel" cX9_traces 4 none 1 24 D (mh b o h0) (mh b o hz)) (hx : meth.name = "traces")  : ∀ (n : Nat) ⦃h : MS⦄ ⦃v1 : Int32⦄ ⦃v2 : Int32⦄ ⦃v3 : Int32⦄, f_X9_traces_b33 D b o n h v1 v2 v3 = some hz → gx_G p l e R s m args below meth c D (mh b o h0) (mh b o hz) 4 (gx_MQ below args s D (mh b o h0) (mh b o hz) none) 33 [(0, (va_rf (some o))), (1, (.int v1)), (2, (.int v2)), (3, (.int v3))] [] (mh b o h) := by
  intro n
  induction n with
  | zero => intro h v1 v2 v3 hf; unfold f_X9_traces_b33 at hf; cases hf
  | succ n wk33 =>
    intro h v1 v2 v3 hf
    unfold f_X9_traces_b33 at hf
    refine gx_iload_n C dX9_traces_33 3 rfl ?_
    replace hf := gx_ite hf
    rcases hf with ⟨c4, hf⟩ | ⟨c4, hf⟩
    · refine gx_if_le_t (tgt := 93) C dX9_traces_34 rfl c4 ?_
      refine gx_sub [0, 1, 2] rfl ?_
      exact w_X9_traces_b93 hlt C hx hf
    · refine gx_if_le_f (tgt := 93) C dX9_traces_34 rfl c4 ?_
      refine gx_aload_n C dX9_traces_37 0 rfl ?_
      refine gx_gr C (mh_gr (k := 0) rfl) gz_494 q2634 dX9_traces_38 ?_
      refine gx_bipush (v := 19) C dX9_traces_41 rfl ?_
      refine gx_iconst (v := 2) C dX9_traces_43 rfl ?_
      refine gx_iload_n C dX9_traces_44 3 rfl ?_
      refine gx_imul C dX9_traces_45 ?_
      refine gx_iadd C dX9_traces_46 ?_
      refine gx_aload_n C dX9_traces_47 0 rfl ?_
      refine gx_gr C (mh_gr (k := 0) rfl) gz_494 q2634 dX9_traces_48 ?_
      refine gx_bipush (v := 19) C dX9_traces_51 rfl ?_
      refine gx_iconst (v := 2) C dX9_traces_53 rfl ?_
      refine gx_iload_n C dX9_traces_54 3 rfl ?_
      refine gx_imul C dX9_traces_55 ?_
      refine gx_iadd C dX9_traces_56 ?_
      refine gx_iconst (v := 2) C dX9_traces_57 rfl ?_
      refine gx_isub C dX9_traces_58 ?_
      replace hf := gx_bs hf
      obtain ⟨x9, g16, hf⟩ := hf
      refine gx_iald C (mh_ai g16) dX9_traces_59 ?_
      replace hf := gx_bs hf
      obtain ⟨h10, g15, hf⟩ := hf
      refine gx_iast C (mh_si g15) dX9_traces_60 ?_
      refine gx_aload_n C dX9_traces_61 0 rfl ?_
      refine gx_gr C (mh_gr (k := 0) rfl) gz_494 q2634 dX9_traces_62 ?_
      refine gx_bipush (v := 19) C dX9_traces_65 rfl ?_
      refine gx_iconst (v := 2) C dX9_traces_67 rfl ?_
      refine gx_iload_n C dX9_traces_68 3 rfl ?_
      refine gx_imul C dX9_traces_69 ?_
      refine gx_iadd C dX9_traces_70 ?_
      refine gx_iconst (v := 1) C dX9_traces_71 rfl ?_
      refine gx_iadd C dX9_traces_72 ?_
      refine gx_aload_n C dX9_traces_73 0 rfl ?_
      refine gx_gr C (mh_gr (k := 0) rfl) gz_494 q2634 dX9_traces_74 ?_
      refine gx_bipush (v := 19) C dX9_traces_77 rfl ?_
      refine gx_iconst (v := 2) C dX9_traces_79 rfl ?_
      refine gx_iload_n C dX9_traces_80 3 rfl ?_
      refine gx_imul C dX9_traces_81 ?_
      refine gx_iadd C dX9_traces_82 ?_
      refine gx_iconst (v := 1) C dX9_traces_83 rfl ?_
      refine gx_isub C dX9_traces_84 ?_
      replace hf := gx_bs hf
      obtain ⟨x11, g14, hf⟩ := hf
      refine gx_iald C (mh_ai g14) dX9_traces_85 ?_
      replace hf := gx_bs hf
      obtain ⟨h12, g13, hf⟩ := hf
      refine gx_iast C (mh_si g13) dX9_traces_86 ?_
      refine gx_inc (v := -1) C dX9_traces_87 3 rfl rfl (by decide) [0, 1, 2] rfl (gx_okn rfl rfl (gx_okn rfl rfl (gx_okr rfl gx_catv_i gx_ok0))) ?_
      refine gx_goto (tgt := 33) C dX9_traces_90 rfl ?_
      refine gx_sub [1, 2, 3, 0] rfl ?_
      exact wk33 hf
def f_X9_traces_b23 (D : gx_D) (b : HX) (o : Nat) (h : MS) (v1 : Int32) (v2 : Int32) : Option MS :=
  (ms_ai h 0 (18 : Int32)).bind fun x3 =>
  f_X9_traces_b33 D b o gx_fuel h v1 v2 ((x3 - (1 : Int32)))
theorem w_X9_traces_b23 {l : Launch} (hlt : l.stackTraces = false) {p : Program} {e : Env} {R : Room} {s : State} {m : MethodId} {args : Array Value} {below : List Frame} {meth : Method} {c : Code} {D : gx_D} {b : HX} {o : Nat} {h0 : MS} {hz : MS} (C : gx_Ctx p R s m args meth c "ContractMachineModel" cX9_traces 4 none 1 24 D (mh b o h0) (mh b o hz)) (hx : meth.name = "traces")  {h : MS} {v1 : Int32} {v2 : Int32} (hf : f_X9_traces_b23 D b o h v1 v2 = some hz) : gx_G p l e R s m args below meth c D (mh b o h0) (mh b o hz) 4 (gx_MQ below args s D (mh b o h0) (mh b o hz) none) 23 [(0, (va_rf (some o))), (1, (.int v1)), (2, (.int v2))] [] (mh b o h) := by
  unfold f_X9_traces_b23 at hf
  refine gx_aload_n C dX9_traces_23 0 rfl ?_
  refine gx_gr C (mh_gr (k := 0) rfl) gz_494 q2634 dX9_traces_24 ?_
  refine gx_bipush (v := 18) C dX9_traces_27 rfl ?_
  replace hf := gx_bs hf
  obtain ⟨x3, g17, hf⟩ := hf
  refine gx_iald C (mh_ai g17) dX9_traces_29 ?_
  refine gx_iconst (v := 1) C dX9_traces_30 rfl ?_
  refine gx_isub C dX9_traces_31 ?_
  refine gx_istn C dX9_traces_32 3 rfl (by decide) [0, 1, 2]  rfl (gx_okn rfl rfl (gx_okn rfl rfl (gx_okr rfl gx_catv_i gx_ok0))) ?_
  refine gx_sub [1, 2, 3, 0] rfl ?_
  exact w_X9_traces_b33 hlt C hx gx_fuel hf
def f_X9_traces (D : gx_D) (b : HX) (o : Nat) (h : MS) (p1 : Int32) (p2 : Int32) : Option MS :=
  (ms_ai h 0 (18 : Int32)).bind fun x1 =>
  if (20 : Int32) ≤ x1 then
  f_X9_traces_b23 D b o h p1 p2
  else
  (ms_ai h 0 (18 : Int32)).bind fun x18 =>
  (ms_si h 0 (18 : Int32) (x18 + (1 : Int32))).bind fun h19 =>
  f_X9_traces_b23 D b o h19 p1 p2
theorem w_X9_traces_b {l : Launch} (hlt : l.stackTraces = false) {p : Program} {e : Env} {R : Room} {s : State} {m : MethodId} {args : Array Value} {below : List Frame} {meth : Method} {c : Code} {D : gx_D} {b : HX} {o : Nat} {h0 : MS} {hz : MS} (C : gx_Ctx p R s m args meth c "ContractMachineModel" cX9_traces 4 none 1 24 D (mh b o h0) (mh b o hz)) (hx : meth.name = "traces") {p1 : Int32} {p2 : Int32} (hf : f_X9_traces D b o h0 p1 p2 = some hz) : gx_G p l e R s m args below meth c D (mh b o h0) (mh b o hz) 4 (gx_MQ below args s D (mh b o h0) (mh b o hz) none) 0 [(0, (va_rf (some o))), (1, (.int p1)), (2, (.int p2))] [] (mh b o h0) := by
  unfold f_X9_traces at hf
  refine gx_aload_n C dX9_traces_0 0 rfl ?_
  refine gx_gr C (mh_gr (k := 0) rfl) gz_494 q2634 dX9_traces_1 ?_
  refine gx_bipush (v := 18) C dX9_traces_4 rfl ?_
  replace hf := gx_bs hf
  obtain ⟨x1, g22, hf⟩ := hf
  refine gx_iald C (mh_ai g22) dX9_traces_6 ?_
  refine gx_bipush (v := 20) C dX9_traces_7 rfl ?_
  replace hf := gx_ite hf
  rcases hf with ⟨c2, hf⟩ | ⟨c2, hf⟩
  · refine gx_icmp_ge_t (tgt := 23) C dX9_traces_9 rfl c2 ?_
    refine gx_sub [0, 1, 2] rfl ?_
    exact w_X9_traces_b23 hlt C hx hf
  · refine gx_icmp_ge_f (tgt := 23) C dX9_traces_9 rfl c2 ?_
    refine gx_aload_n C dX9_traces_12 0 rfl ?_
    refine gx_gr C (mh_gr (k := 0) rfl) gz_494 q2634 dX9_traces_13 ?_
    refine gx_bipush (v := 18) C dX9_traces_16 rfl ?_
    refine gx_dup2 C dX9_traces_18 rfl rfl ?_
    replace hf := gx_bs hf
    obtain ⟨x18, g21, hf⟩ := hf
    refine gx_iald C (mh_ai g21) dX9_traces_19 ?_
    refine gx_iconst (v := 1) C dX9_traces_20 rfl ?_
    refine gx_iadd C dX9_traces_21 ?_
    replace hf := gx_bs hf
    obtain ⟨h19, g20, hf⟩ := hf
    refine gx_iast C (mh_si g20) dX9_traces_22 ?_
    refine gx_sub [0, 1, 2] rfl ?_
    exact w_X9_traces_b23 hlt C hx hf
theorem w_X9_traces {l : Launch} (hlt : l.stackTraces = false) {D : gx_D} {b : HX} {o : Nat} {h : MS} {p1 : Int32} {p2 : Int32} {hz : MS} (hf : f_X9_traces D b o h p1 p2 = some hz) : gx_Met l yX9_traces cX9_traces 4 none 1 24 D [(va_rf (some o)), (.int p1), (.int p2)] (mh b o h) none (mh b o hz) :=
  gx_ofG gz_495 (by simp only [gx_lsr, gx_lsi, gx_lsj, gx_ls0]; decide) mh_le (fun p e R s m args below meth c C hx => by
    simp only [gx_lar, gx_lai, gx_laj, gx_la0, Nat.reduceAdd]
    exact w_X9_traces_b hlt C hx hf)
def f_X9_of (D : gx_D) (b : HX) (o : Nat) (h : MS) (p1 : Int32) (p2 : Int32) : Option Int32 :=
  (ms_ai h 0 (((93 : Int32) + ((9 : Int32) * p1)) + p2)).bind fun x1 =>
  some x1
theorem w_X9_of_b {l : Launch} (hlt : l.stackTraces = false) {p : Program} {e : Env} {R : Room} {s : State} {m : MethodId} {args : Array Value} {below : List Frame} {meth : Method} {c : Code} {D : gx_D} {b : HX} {o : Nat} {h0 : MS} {r : Int32} (C : gx_Ctx p R s m args meth c "ContractMachineModel" cX9_of 3 (some .int) 1 24 D (mh b o h0) (mh b o h0)) (hx : meth.name = "of") {p1 : Int32} {p2 : Int32} (hf : f_X9_of D b o h0 p1 p2 = some r) : gx_G p l e R s m args below meth c D (mh b o h0) (mh b o h0) 3 (gx_MQ below args s D (mh b o h0) (mh b o h0) (some (.int r))) 0 [(0, (va_rf (some o))), (1, (.int p1)), (2, (.int p2))] [] (mh b o h0) := by
  unfold f_X9_of at hf
  refine gx_aload_n C dX9_of_0 0 rfl ?_
  refine gx_gr C (mh_gr (k := 0) rfl) gz_494 q2634 dX9_of_1 ?_
  refine gx_bipush (v := 93) C dX9_of_4 rfl ?_
  refine gx_bipush (v := 9) C dX9_of_6 rfl ?_
  refine gx_iload_n C dX9_of_8 1 rfl ?_
  refine gx_imul C dX9_of_9 ?_
  refine gx_iadd C dX9_of_10 ?_
  refine gx_iload_n C dX9_of_11 2 rfl ?_
  refine gx_iadd C dX9_of_12 ?_
  replace hf := gx_bs hf
  obtain ⟨x1, g2, hf⟩ := hf
  refine gx_iald C (mh_ai g2) dX9_of_13 ?_
  obtain rfl := Option.some.inj hf
  exact gx_iret C dX9_of_14
theorem w_X9_of {l : Launch} (hlt : l.stackTraces = false) {D : gx_D} {b : HX} {o : Nat} {h : MS} {p1 : Int32} {p2 : Int32} {r : Int32} (hf : f_X9_of D b o h p1 p2 = some r) : gx_Met l yX9_of cX9_of 3 (some .int) 1 24 D [(va_rf (some o)), (.int p1), (.int p2)] (mh b o h) (some (.int r)) (mh b o h) :=
  gx_ofG gz_495 (by simp only [gx_lsr, gx_lsi, gx_lsj, gx_ls0]; decide) gx_le.rf (fun p e R s m args below meth c C hx => by
    simp only [gx_lar, gx_lai, gx_laj, gx_la0, Nat.reduceAdd]
    exact w_X9_of_b hlt C hx hf)
def f_X9_acted (D : gx_D) (b : HX) (o : Nat) (h : MS) (p1 : Int32) (p2 : Int32) : Option Int32 :=
  (f_X9_of D b o h p1 (8 : Int32)).bind fun x2 =>
  (f_X9_of D b o h p1 (7 : Int32)).bind fun x4 =>
  if x4 = (0 : Int32) then
  some ((p2 + x2))
  else
  if x4 = (1 : Int32) then
  some ((p2 - x2))
  else
  some x2
theorem w_X9_acted_b {l : Launch} (hlt : l.stackTraces = false) {p : Program} {e : Env} {R : Room} {s : State} {m : MethodId} {args : Array Value} {below : List Frame} {meth : Method} {c : Code} {D : gx_D} {b : HX} {o : Nat} {h0 : MS} {r : Int32} (C : gx_Ctx p R s m args meth c "ContractMachineModel" cX9_acted 4 (some .int) 2 46 D (mh b o h0) (mh b o h0)) (hx : meth.name = "acted") {p1 : Int32} {p2 : Int32} (hf : f_X9_acted D b o h0 p1 p2 = some r) : gx_G p l e R s m args below meth c D (mh b o h0) (mh b o h0) 4 (gx_MQ below args s D (mh b o h0) (mh b o h0) (some (.int r))) 0 [(0, (va_rf (some o))), (1, (.int p1)), (2, (.int p2))] [] (mh b o h0) := by
  unfold f_X9_acted at hf
  refine gx_aload_n C dX9_acted_0 0 rfl ?_
  refine gx_iload_n C dX9_acted_1 1 rfl ?_
  refine gx_bipush (v := 8) C dX9_acted_2 rfl ?_
  replace hf := gx_bs hf
  obtain ⟨x2, g1, hf⟩ := hf
  refine gx_callV (st := []) C (w_X9_of hlt g1) mh_is gz_497 rfl (lw_V q2950 q2952 qs99 q151 q2953) gz_569 (by decide) rfl rfl (gx_catn (Nat.le_of_ble_eq_true rfl)) dX9_acted_4 ?_
  refine gx_istn C dX9_acted_7 3 rfl (by decide) [0, 1, 2]  rfl (gx_okn rfl rfl (gx_okn rfl rfl (gx_okr rfl gx_catv_i gx_ok0))) ?_
  refine gx_aload_n C dX9_acted_8 1 rfl ?_
  refine gx_iload_n C dX9_acted_9 2 rfl ?_
  refine gx_bipush (v := 7) C dX9_acted_10 rfl ?_
  replace hf := gx_bs hf
  obtain ⟨x4, g3, hf⟩ := hf
  refine gx_callV (st := []) C (w_X9_of hlt g3) mh_is gz_497 rfl (lw_V q2950 q2952 qs99 q151 q2953) gz_569 (by decide) rfl rfl (gx_catn (Nat.le_of_ble_eq_true rfl)) dX9_acted_12 ?_
  replace hf := gx_ite hf
  rcases hf with ⟨c5, hf⟩ | ⟨c5, hf⟩
  · refine gx_lsw (tgt := 40) (off := 25) C dX9_acted_15 (by decide) (by rw [c5]; decide) rfl ?_
    refine gx_iload_n C dX9_acted_40 3 rfl ?_
    refine gx_iload_n C dX9_acted_41 0 rfl ?_
    refine gx_iadd C dX9_acted_42 ?_
    obtain rfl := Option.some.inj hf
    exact gx_iret C dX9_acted_43
  replace hf := gx_ite hf
  rcases hf with ⟨c6, hf⟩ | ⟨c6, hf⟩
  · refine gx_lsw (tgt := 44) (off := 29) C dX9_acted_15 (by decide) (by rw [c6]; decide) rfl ?_
    refine gx_iload_n C dX9_acted_44 3 rfl ?_
    refine gx_iload_n C dX9_acted_45 0 rfl ?_
    refine gx_isub C dX9_acted_46 ?_
    obtain rfl := Option.some.inj hf
    exact gx_iret C dX9_acted_47
  refine gx_lsw (tgt := 48) (off := 33) C dX9_acted_15 (by decide) (gx_lswd (gx_lq1 (gx_lsn2 (by decide) c5) (gx_lq1 (gx_lsn2 (by decide) c6) gx_lq0))) rfl ?_
  refine gx_iload_n C dX9_acted_48 0 rfl ?_
  obtain rfl := Option.some.inj hf
  exact gx_iret C dX9_acted_49
theorem w_X9_acted {l : Launch} (hlt : l.stackTraces = false) {D : gx_D} {b : HX} {o : Nat} {h : MS} {p1 : Int32} {p2 : Int32} {r : Int32} (hf : f_X9_acted D b o h p1 p2 = some r) : gx_Met l yX9_acted cX9_acted 4 (some .int) 2 46 D [(va_rf (some o)), (.int p1), (.int p2)] (mh b o h) (some (.int r)) (mh b o h) :=
  gx_ofG gz_495 (by simp only [gx_lsr, gx_lsi, gx_lsj, gx_ls0]; decide) gx_le.rf (fun p e R s m args below meth c C hx => by
    simp only [gx_lar, gx_lai, gx_laj, gx_la0, Nat.reduceAdd]
    exact w_X9_acted_b hlt C hx hf)
def f_X9_isGuardRight (D : gx_D) (b : HX) (o : Nat) (h : MS) (p1 : Int32) (p2 : Int32) : Option Bool :=
  (f_X9_of D b o h p1 (3 : Int32)).bind fun x2 =>
  if x2 = (-1 : Int32) then
  some true
  else
  (f_X9_valueIn D b o h p2 x2).bind fun x5 =>
  (f_X9_of D b o h p1 (4 : Int32)).bind fun x7 =>
  (f_X9_of D b o h p1 (5 : Int32)).bind fun x9 =>
  (f_X9_holds D b o h x5 x7 x9).bind fun b11 =>
  if b11 = true then
  some true
  else
  some false
theorem w_X9_isGuardRight_b {l : Launch} (hlt : l.stackTraces = false) {p : Program} {e : Env} {R : Room} {s : State} {m : MethodId} {args : Array Value} {below : List Frame} {meth : Method} {c : Code} {D : gx_D} {b : HX} {o : Nat} {h0 : MS} {r : Bool} (C : gx_Ctx p R s m args meth c "ContractMachineModel" cX9_isGuardRight 4 (some .boolean) 3 65 D (mh b o h0) (mh b o h0)) (hx : meth.name = "isGuardRight") {p1 : Int32} {p2 : Int32} (hf : f_X9_isGuardRight D b o h0 p1 p2 = some r) : gx_G p l e R s m args below meth c D (mh b o h0) (mh b o h0) 4 (gx_MQ below args s D (mh b o h0) (mh b o h0) (some (.int (b2i r)))) 0 [(0, (va_rf (some o))), (1, (.int p1)), (2, (.int p2))] [] (mh b o h0) := by
  unfold f_X9_isGuardRight at hf
  refine gx_aload_n C dX9_isGuardRight_0 0 rfl ?_
  refine gx_iload_n C dX9_isGuardRight_1 1 rfl ?_
  refine gx_iconst (v := 3) C dX9_isGuardRight_2 rfl ?_
  replace hf := gx_bs hf
  obtain ⟨x2, g1, hf⟩ := hf
  refine gx_callV (st := []) C (w_X9_of hlt g1) mh_is gz_497 rfl (lw_V q2950 q2952 qs99 q151 q2953) gz_569 (by decide) rfl rfl (gx_catn (Nat.le_of_ble_eq_true rfl)) dX9_isGuardRight_3 ?_
  refine gx_istn C dX9_isGuardRight_6 3 rfl (by decide) [0, 1, 2]  rfl (gx_okn rfl rfl (gx_okn rfl rfl (gx_okr rfl gx_catv_i gx_ok0))) ?_
  refine gx_iload_n C dX9_isGuardRight_7 0 rfl ?_
  refine gx_iconst (v := -1) C dX9_isGuardRight_8 rfl ?_
  replace hf := gx_ite hf
  rcases hf with ⟨c3, hf⟩ | ⟨c3, hf⟩
  · refine gx_icmp_eq_t (tgt := 35) C dX9_isGuardRight_9 rfl c3 ?_
    refine gx_iconst (v := 1) C dX9_isGuardRight_35 rfl ?_
    refine gx_goto (tgt := 40) C dX9_isGuardRight_36 rfl ?_
    obtain rfl := Option.some.inj hf
    exact gx_zret (b := true) C dX9_isGuardRight_40
  · refine gx_icmp_eq_f (tgt := 35) C dX9_isGuardRight_9 rfl c3 ?_
    refine gx_iload_n C dX9_isGuardRight_12 3 rfl ?_
    refine gx_iload_n C dX9_isGuardRight_13 0 rfl ?_
    replace hf := gx_bs hf
    obtain ⟨x5, g4, hf⟩ := hf
    refine gx_callS (st := []) C (w_X9_valueIn hlt g4) (lw_S q2894 q2895 q151 q2896) gz_530 (by decide) rfl rfl (gx_catn (Nat.le_of_ble_eq_true rfl)) dX9_isGuardRight_14 ?_
    refine gx_aload_n C dX9_isGuardRight_17 1 rfl ?_
    refine gx_iload_n C dX9_isGuardRight_18 2 rfl ?_
    refine gx_iconst (v := 4) C dX9_isGuardRight_19 rfl ?_
    replace hf := gx_bs hf
    obtain ⟨x7, g6, hf⟩ := hf
    refine gx_callV (st := [(.int x5)]) C (w_X9_of hlt g6) mh_is gz_497 rfl (lw_V q2950 q2952 qs99 q151 q2953) gz_569 (by decide) rfl rfl (gx_catn (Nat.le_of_ble_eq_true rfl)) dX9_isGuardRight_20 ?_
    refine gx_aload_n C dX9_isGuardRight_23 1 rfl ?_
    refine gx_iload_n C dX9_isGuardRight_24 2 rfl ?_
    refine gx_iconst (v := 5) C dX9_isGuardRight_25 rfl ?_
    replace hf := gx_bs hf
    obtain ⟨x9, g8, hf⟩ := hf
    refine gx_callV (st := [(.int x7), (.int x5)]) C (w_X9_of hlt g8) mh_is gz_497 rfl (lw_V q2950 q2952 qs99 q151 q2953) gz_569 (by decide) rfl rfl (gx_catn (Nat.le_of_ble_eq_true rfl)) dX9_isGuardRight_26 ?_
    replace hf := gx_bs hf
    obtain ⟨b11, g10, hf⟩ := hf
    refine gx_callS (st := []) C (w_X9_holds hlt g10) (lw_S q2900 q2901 q151 q2902) gz_529 (by decide) rfl rfl (gx_catn (Nat.le_of_ble_eq_true rfl)) dX9_isGuardRight_29 ?_
    replace hf := gx_ite hf
    rcases hf with ⟨c12, hf⟩ | ⟨c12, hf⟩
    · refine gx_ifz_eq_f (tgt := 39) C dX9_isGuardRight_32 rfl c12 ?_
      refine gx_iconst (v := 1) C dX9_isGuardRight_35 rfl ?_
      refine gx_goto (tgt := 40) C dX9_isGuardRight_36 rfl ?_
      obtain rfl := Option.some.inj hf
      exact gx_zret (b := true) C dX9_isGuardRight_40
    · refine gx_ifz_eq_t (tgt := 39) C dX9_isGuardRight_32 rfl c12 ?_
      refine gx_iconst (v := 0) C dX9_isGuardRight_39 rfl ?_
      obtain rfl := Option.some.inj hf
      exact gx_zret (b := false) C dX9_isGuardRight_40
theorem w_X9_isGuardRight {l : Launch} (hlt : l.stackTraces = false) {D : gx_D} {b : HX} {o : Nat} {h : MS} {p1 : Int32} {p2 : Int32} {r : Bool} (hf : f_X9_isGuardRight D b o h p1 p2 = some r) : gx_Met l yX9_isGuardRight cX9_isGuardRight 4 (some .boolean) 3 65 D [(va_rf (some o)), (.int p1), (.int p2)] (mh b o h) (some (.int (b2i r))) (mh b o h) :=
  gx_ofG gz_495 (by simp only [gx_lsr, gx_lsi, gx_lsj, gx_ls0]; decide) gx_le.rf (fun p e R s m args below meth c C hx => by
    simp only [gx_lar, gx_lai, gx_laj, gx_la0, Nat.reduceAdd]
    exact w_X9_isGuardRight_b hlt C hx hf)
def f_X9_choose_b75 (D : gx_D) (b : HX) (o : Nat) (k10 : MS → Int32 → Int32 → Bool → Int32 → Option ((Bool) × MS)) (h : MS) (v1 : Int32) (v2 : Int32) (v3 : Bool) (v4 : Int32) : Option ((Bool) × MS) :=
  k10 h v1 v2 v3 ((v4 + (1 : Int32)))
theorem w_X9_choose_b75 {l : Launch} (hlt : l.stackTraces = false) {p : Program} {e : Env} {R : Room} {s : State} {m : MethodId} {args : Array Value} {below : List Frame} {meth : Method} {c : Code} {D : gx_D} {b : HX} {o : Nat} {h0 : MS} {r : Bool} {hz : MS} (C : gx_Ctx p R s m args meth c "ContractMachineModel" cX9_choose 5 (some .boolean) 4 88 D (mh b o h0) (mh b o hz)) (hx : meth.name = "choose")  {k10 : MS → Int32 → Int32 → Bool → Int32 → Option ((Bool) × MS)} (wk10 : ∀ ⦃h : MS⦄ ⦃v1 : Int32⦄ ⦃v2 : Int32⦄ ⦃v3 : Bool⦄ ⦃v4 : Int32⦄, k10 h v1 v2 v3 v4 = some (r, hz) → gx_G p l e R s m args below meth c D (mh b o h0) (mh b o hz) 5 (gx_MQ below args s D (mh b o h0) (mh b o hz) (some (.int (b2i r)))) 10 [(0, (va_rf (some o))), (1, (.int v1)), (2, (.int v2)), (3, (.int (b2i v3))), (4, (.int v4))] [] (mh b o h)) {h : MS} {v1 : Int32} {v2 : Int32} {v3 : Bool} {v4 : Int32} (hf : f_X9_choose_b75 D b o k10 h v1 v2 v3 v4 = some (r, hz)) : gx_G p l e R s m args below meth c D (mh b o h0) (mh b o hz) 5 (gx_MQ below args s D (mh b o h0) (mh b o hz) (some (.int (b2i r)))) 75 [(0, (va_rf (some o))), (1, (.int v1)), (2, (.int v2)), (3, (.int (b2i v3))), (4, (.int v4))] [] (mh b o h) := by
  unfold f_X9_choose_b75 at hf
  refine gx_inc (v := 1) C dX9_choose_75 4 rfl rfl (by decide) [0, 1, 2, 3] rfl (gx_okn rfl rfl (gx_okn rfl rfl (gx_okn rfl rfl (gx_okr rfl gx_catv_i gx_ok0)))) ?_
  refine gx_goto (tgt := 10) C dX9_choose_78 rfl ?_
  refine gx_sub [1, 2, 3, 4, 0] rfl ?_
  exact wk10 hf
def f_X9_choose_b10 (D : gx_D) (b : HX) (o : Nat) : Nat → MS → Int32 → Int32 → Bool → Int32 → Option ((Bool) × MS)
  | 0, _, _, _, _, _ => none
  | n + 1, h, v1, v2, v3, v4 =>
  (ms_ai h 0 (3 : Int32)).bind fun x2 =>
  if x2 ≤ v4 then
  some (v3, h)
  else
  if (h.1 7) = (-1 : Int32) then
  (f_X9_of D b o h v4 (0 : Int32)).bind fun x6 =>
  (f_X9_stateIn D b o h v1).bind fun x8 =>
  if x6 = x8 then
  (f_X9_of D b o h v4 (1 : Int32)).bind fun x11 =>
  if x11 = v2 then
  (f_X9_isGuardRight D b o h v4 v1).bind fun b14 =>
  if b14 = true then
  (ms_pf h 7 v4).bind fun h16 =>
  f_X9_choose_b75 D b o (f_X9_choose_b10 D b o n) h16 v1 v2 true v4
  else
  f_X9_choose_b75 D b o (f_X9_choose_b10 D b o n) h v1 v2 true v4
  else
  f_X9_choose_b75 D b o (f_X9_choose_b10 D b o n) h v1 v2 v3 v4
  else
  f_X9_choose_b75 D b o (f_X9_choose_b10 D b o n) h v1 v2 v3 v4
  else
  some (v3, h)
theorem w_X9_choose_b10 {l : Launch} (hlt : l.stackTraces = false) {p : Program} {e : Env} {R : Room} {s : State} {m : MethodId} {args : Array Value} {below : List Frame} {meth : Method} {c : Code} {D : gx_D} {b : HX} {o : Nat} {h0 : MS} {r : Bool} {hz : MS} (C : gx_Ctx p R s m args meth c "ContractMachineModel" cX9_choose 5 (some .boolean) 4 88 D (mh b o h0) (mh b o hz)) (hx : meth.name = "choose")  : ∀ (n : Nat) ⦃h : MS⦄ ⦃v1 : Int32⦄ ⦃v2 : Int32⦄ ⦃v3 : Bool⦄ ⦃v4 : Int32⦄, f_X9_choose_b10 D b o n h v1 v2 v3 v4 = some (r, hz) → gx_G p l e R s m args below meth c D (mh b o h0) (mh b o hz) 5 (gx_MQ below args s D (mh b o h0) (mh b o hz) (some (.int (b2i r)))) 10 [(0, (va_rf (some o))), (1, (.int v1)), (2, (.int v2)), (3, (.int (b2i v3))), (4, (.int v4))] [] (mh b o h) := by
  intro n
  induction n with
  | zero => intro h v1 v2 v3 v4 hf; unfold f_X9_choose_b10 at hf; cases hf
  | succ n wk10 =>
    intro h v1 v2 v3 v4 hf
    unfold f_X9_choose_b10 at hf
    refine gx_iload C dX9_choose_10 4 rfl ?_
    refine gx_aload_n C dX9_choose_12 0 rfl ?_
    refine gx_gr C (mh_gr (k := 0) rfl) gz_494 q2634 dX9_choose_13 ?_
    refine gx_iconst (v := 3) C dX9_choose_16 rfl ?_
    replace hf := gx_bs hf
    obtain ⟨x2, g18, hf⟩ := hf
    refine gx_iald C (mh_ai g18) dX9_choose_17 ?_
    replace hf := gx_ite hf
    rcases hf with ⟨c3, hf⟩ | ⟨c3, hf⟩
    · refine gx_icmp_ge_t (tgt := 81) C dX9_choose_18 rfl c3 ?_
      refine gx_iload_n C dX9_choose_81 3 rfl ?_
      obtain ⟨rfl, rfl⟩ := Prod.mk.inj (Option.some.inj hf)
      exact gx_zret (b := _) C dX9_choose_82
    · refine gx_icmp_ge_f (tgt := 81) C dX9_choose_18 rfl c3 ?_
      refine gx_aload_n C dX9_choose_21 0 rfl ?_
      refine gx_gi C (mh_gi (k := 7) rfl) gz_570 q2641 dX9_choose_22 ?_
      refine gx_iconst (v := -1) C dX9_choose_25 rfl ?_
      replace hf := gx_ite hf
      rcases hf with ⟨c4, hf⟩ | ⟨c4, hf⟩
      · refine gx_icmp_ne_f (tgt := 81) C dX9_choose_26 rfl c4 ?_
        refine gx_aload_n C dX9_choose_29 0 rfl ?_
        refine gx_iload C dX9_choose_30 4 rfl ?_
        refine gx_iconst (v := 0) C dX9_choose_32 rfl ?_
        replace hf := gx_bs hf
        obtain ⟨x6, g5, hf⟩ := hf
        refine gx_callV (st := []) C (w_X9_of hlt g5) mh_is gz_497 rfl (lw_V q2950 q2952 qs99 q151 q2953) gz_569 (by decide) rfl rfl (gx_catn (Nat.le_of_ble_eq_true rfl)) dX9_choose_33 ?_
        refine gx_iload_n C dX9_choose_36 1 rfl ?_
        replace hf := gx_bs hf
        obtain ⟨x8, g7, hf⟩ := hf
        refine gx_callS (st := [(.int x6)]) C (w_X9_stateIn hlt g7) (lw_S q2887 q2888 q151 q2889) gz_532 (by decide) rfl rfl (gx_catn (Nat.le_of_ble_eq_true rfl)) dX9_choose_37 ?_
        replace hf := gx_ite hf
        rcases hf with ⟨c9, hf⟩ | ⟨c9, hf⟩
        · refine gx_icmp_ne_f (tgt := 75) C dX9_choose_40 rfl c9 ?_
          refine gx_aload_n C dX9_choose_43 0 rfl ?_
          refine gx_iload C dX9_choose_44 4 rfl ?_
          refine gx_iconst (v := 1) C dX9_choose_46 rfl ?_
          replace hf := gx_bs hf
          obtain ⟨x11, g10, hf⟩ := hf
          refine gx_callV (st := []) C (w_X9_of hlt g10) mh_is gz_497 rfl (lw_V q2950 q2952 qs99 q151 q2953) gz_569 (by decide) rfl rfl (gx_catn (Nat.le_of_ble_eq_true rfl)) dX9_choose_47 ?_
          refine gx_iload_n C dX9_choose_50 2 rfl ?_
          replace hf := gx_ite hf
          rcases hf with ⟨c12, hf⟩ | ⟨c12, hf⟩
          · refine gx_icmp_eq_t (tgt := 57) C dX9_choose_51 rfl c12 ?_
            refine gx_iconst (v := 1) C dX9_choose_57 rfl ?_
            refine gx_istn C dX9_choose_58 3 rfl (by decide) [0, 1, 2, 4]  rfl (gx_okn rfl rfl (gx_okn rfl rfl (gx_okr rfl gx_catv_i (gx_okn rfl rfl gx_ok0)))) ?_
            refine gx_aload_n C dX9_choose_59 1 rfl ?_
            refine gx_iload C dX9_choose_60 4 rfl ?_
            refine gx_iload_n C dX9_choose_62 2 rfl ?_
            replace hf := gx_bs hf
            obtain ⟨b14, g13, hf⟩ := hf
            refine gx_callV (st := []) C (w_X9_isGuardRight hlt g13) mh_is gz_497 rfl (lw_V q2954 q2956 qs100 q151 q2957) gz_571 (by decide) rfl rfl (gx_catn (Nat.le_of_ble_eq_true rfl)) dX9_choose_63 ?_
            replace hf := gx_ite hf
            rcases hf with ⟨c15, hf⟩ | ⟨c15, hf⟩
            · refine gx_ifz_eq_f (tgt := 75) C dX9_choose_66 rfl c15 ?_
              refine gx_aload_n C dX9_choose_69 1 rfl ?_
              refine gx_iload C dX9_choose_70 4 rfl ?_
              replace hf := gx_bs hf
              obtain ⟨h16, g17, hf⟩ := hf
              refine gx_putv C (mh_pg (by decide) (fun _ _ => mh_p7) g17) gz_570 gz_1 rfl rfl q2641 dX9_choose_72 ?_
              refine gx_sub [1, 2, 3, 0, 4] rfl ?_
              exact w_X9_choose_b75 hlt C hx wk10 hf
            · refine gx_ifz_eq_t (tgt := 75) C dX9_choose_66 rfl c15 ?_
              refine gx_sub [1, 2, 3, 0, 4] rfl ?_
              exact w_X9_choose_b75 hlt C hx wk10 hf
          · refine gx_icmp_eq_f (tgt := 57) C dX9_choose_51 rfl c12 ?_
            refine gx_goto (tgt := 75) C dX9_choose_54 rfl ?_
            refine gx_sub [0, 1, 2, 3, 4] rfl ?_
            exact w_X9_choose_b75 hlt C hx wk10 hf
        · refine gx_icmp_ne_t (tgt := 75) C dX9_choose_40 rfl c9 ?_
          refine gx_sub [0, 1, 2, 3, 4] rfl ?_
          exact w_X9_choose_b75 hlt C hx wk10 hf
      · refine gx_icmp_ne_t (tgt := 81) C dX9_choose_26 rfl c4 ?_
        refine gx_iload_n C dX9_choose_81 3 rfl ?_
        obtain ⟨rfl, rfl⟩ := Prod.mk.inj (Option.some.inj hf)
        exact gx_zret (b := _) C dX9_choose_82
def f_X9_choose (D : gx_D) (b : HX) (o : Nat) (h : MS) (p1 : Int32) (p2 : Int32) : Option ((Bool) × MS) :=
  (ms_pf h 7 (-1 : Int32)).bind fun h1 =>
  f_X9_choose_b10 D b o gx_fuel h1 p1 p2 false ((0 : Int32))
theorem w_X9_choose_b {l : Launch} (hlt : l.stackTraces = false) {p : Program} {e : Env} {R : Room} {s : State} {m : MethodId} {args : Array Value} {below : List Frame} {meth : Method} {c : Code} {D : gx_D} {b : HX} {o : Nat} {h0 : MS} {r : Bool} {hz : MS} (C : gx_Ctx p R s m args meth c "ContractMachineModel" cX9_choose 5 (some .boolean) 4 88 D (mh b o h0) (mh b o hz)) (hx : meth.name = "choose") {p1 : Int32} {p2 : Int32} (hf : f_X9_choose D b o h0 p1 p2 = some (r, hz)) : gx_G p l e R s m args below meth c D (mh b o h0) (mh b o hz) 5 (gx_MQ below args s D (mh b o h0) (mh b o hz) (some (.int (b2i r)))) 0 [(0, (va_rf (some o))), (1, (.int p1)), (2, (.int p2))] [] (mh b o h0) := by
  unfold f_X9_choose at hf
  refine gx_iconst (v := 0) C dX9_choose_0 rfl ?_
  refine gx_istn C dX9_choose_1 3 rfl (by decide) [0, 1, 2]  rfl (gx_okn rfl rfl (gx_okn rfl rfl (gx_okr rfl gx_catv_i gx_ok0))) ?_
  refine gx_aload_n C dX9_choose_2 1 rfl ?_
  refine gx_iconst (v := -1) C dX9_choose_3 rfl ?_
  replace hf := gx_bs hf
  obtain ⟨h1, g19, hf⟩ := hf
  refine gx_putv C (mh_pg (by decide) (fun _ _ => mh_p7) g19) gz_570 gz_1 rfl rfl q2641 dX9_choose_4 ?_
  refine gx_iconst (v := 0) C dX9_choose_7 rfl ?_
  refine gx_ist C dX9_choose_8 (by decide) [0, 1, 2, 3]  rfl (gx_okr rfl gx_catv_i (gx_okn rfl rfl (gx_okn rfl rfl (gx_okn rfl rfl gx_ok0)))) ?_
  refine gx_sub [2, 3, 4, 1, 0] rfl ?_
  exact w_X9_choose_b10 hlt C hx gx_fuel hf
theorem w_X9_choose {l : Launch} (hlt : l.stackTraces = false) {D : gx_D} {b : HX} {o : Nat} {h : MS} {p1 : Int32} {p2 : Int32} {r : Bool} {hz : MS} (hf : f_X9_choose D b o h p1 p2 = some (r, hz)) : gx_Met l yX9_choose cX9_choose 5 (some .boolean) 4 88 D [(va_rf (some o)), (.int p1), (.int p2)] (mh b o h) (some (.int (b2i r))) (mh b o hz) :=
  gx_ofG gz_495 (by simp only [gx_lsr, gx_lsi, gx_lsj, gx_ls0]; decide) mh_le (fun p e R s m args below meth c C hx => by
    simp only [gx_lar, gx_lai, gx_laj, gx_la0, Nat.reduceAdd]
    exact w_X9_choose_b hlt C hx hf)
def f_X9_with (D : gx_D) (b : HX) (o : Nat) (h : MS) (p0 : Int32) (p1 : Int32) (p2 : Int32) : Option Int32 :=
  (f_X9_weight D b o h p1).bind fun x2 =>
  (f_X9_valueIn D b o h p0 p1).bind fun x4 =>
  some ((p0 + (x2 * (p2 - x4))))
theorem w_X9_with_b {l : Launch} (hlt : l.stackTraces = false) {p : Program} {e : Env} {R : Room} {s : State} {m : MethodId} {args : Array Value} {below : List Frame} {meth : Method} {c : Code} {D : gx_D} {b : HX} {o : Nat} {h0 : MS} {r : Int32} (C : gx_Ctx p R s m args meth c "ContractMachineModel" cX9_with 3 (some .int) 3 65 D (mh b o h0) (mh b o h0)) (hx : meth.name = "with") {p0 : Int32} {p1 : Int32} {p2 : Int32} (hf : f_X9_with D b o h0 p0 p1 p2 = some r) : gx_G p l e R s m args below meth c D (mh b o h0) (mh b o h0) 3 (gx_MQ below args s D (mh b o h0) (mh b o h0) (some (.int r))) 0 [(0, (.int p0)), (1, (.int p1)), (2, (.int p2))] [] (mh b o h0) := by
  unfold f_X9_with at hf
  refine gx_iload_n C dX9_with_0 0 rfl ?_
  refine gx_iload_n C dX9_with_1 1 rfl ?_
  replace hf := gx_bs hf
  obtain ⟨x2, g1, hf⟩ := hf
  refine gx_callS (st := [(.int p0)]) C (w_X9_weight hlt g1) (lw_S q2897 q2898 q151 q2899) gz_527 (by decide) rfl rfl (gx_catn (Nat.le_of_ble_eq_true rfl)) dX9_with_2 ?_
  refine gx_iload_n C dX9_with_5 2 rfl ?_
  refine gx_iload_n C dX9_with_6 0 rfl ?_
  refine gx_iload_n C dX9_with_7 1 rfl ?_
  replace hf := gx_bs hf
  obtain ⟨x4, g3, hf⟩ := hf
  refine gx_callS (st := [(.int p2), (.int x2), (.int p0)]) C (w_X9_valueIn hlt g3) (lw_S q2894 q2895 q151 q2896) gz_530 (by decide) rfl rfl (gx_catn (Nat.le_of_ble_eq_true rfl)) dX9_with_8 ?_
  refine gx_isub C dX9_with_11 ?_
  refine gx_imul C dX9_with_12 ?_
  refine gx_iadd C dX9_with_13 ?_
  obtain rfl := Option.some.inj hf
  exact gx_iret C dX9_with_14
theorem w_X9_with {l : Launch} (hlt : l.stackTraces = false) {D : gx_D} {b : HX} {o : Nat} {h : MS} {p0 : Int32} {p1 : Int32} {p2 : Int32} {r : Int32} (hf : f_X9_with D b o h p0 p1 p2 = some r) : gx_Met l yX9_with cX9_with 3 (some .int) 3 65 D [(.int p0), (.int p1), (.int p2)] (mh b o h) (some (.int r)) (mh b o h) :=
  gx_ofG gz_495 (by simp only [gx_lsr, gx_lsi, gx_lsj, gx_ls0]; decide) gx_le.rf (fun p e R s m args below meth c C hx => by
    simp only [gx_lar, gx_lai, gx_laj, gx_la0, Nat.reduceAdd]
    exact w_X9_with_b hlt C hx hf)
def f_X9_verdict_b103 (D : gx_D) (b : HX) (o : Nat) (h : MS) (v3 : Int32) : Option ((Int32) × MS) :=
  (ms_pf h 8 v3).bind fun h14 =>
  (f_X9_firstBroken D b o h14 v3).bind fun x16 =>
  if x16 = (-1 : Int32) then
  some ((0 : Int32), h14)
  else
  some ((4 : Int32), h14)
theorem w_X9_verdict_b103 {l : Launch} (hlt : l.stackTraces = false) {p : Program} {e : Env} {R : Room} {s : State} {m : MethodId} {args : Array Value} {below : List Frame} {meth : Method} {c : Code} {D : gx_D} {b : HX} {o : Nat} {h0 : MS} {r : Int32} {hz : MS} (C : gx_Ctx p R s m args meth c "ContractMachineModel" cX9_verdict 6 (some .int) 6 132 D (mh b o h0) (mh b o hz)) (hx : meth.name = "verdict")  {h : MS} {v3 : Int32} (hf : f_X9_verdict_b103 D b o h v3 = some (r, hz)) : gx_G p l e R s m args below meth c D (mh b o h0) (mh b o hz) 6 (gx_MQ below args s D (mh b o h0) (mh b o hz) (some (.int r))) 103 [(0, (va_rf (some o))), (3, (.int v3))] [] (mh b o h) := by
  unfold f_X9_verdict_b103 at hf
  refine gx_aload_n C dX9_verdict_103 0 rfl ?_
  refine gx_iload_n C dX9_verdict_104 1 rfl ?_
  replace hf := gx_bs hf
  obtain ⟨h14, g18, hf⟩ := hf
  refine gx_putv C (mh_pg (by decide) (fun _ _ => mh_p8) g18) gz_572 gz_1 rfl rfl q2642 dX9_verdict_105 ?_
  refine gx_aload_n C dX9_verdict_108 0 rfl ?_
  refine gx_iload_n C dX9_verdict_109 1 rfl ?_
  replace hf := gx_bs hf
  obtain ⟨x16, g15, hf⟩ := hf
  refine gx_callV (st := []) C (w_X9_firstBroken hlt g15) mh_is gz_497 rfl (lw_V q2875 q2877 qs85 q151 q2878) gz_560 (by decide) rfl rfl (gx_catn (Nat.le_of_ble_eq_true rfl)) dX9_verdict_110 ?_
  refine gx_iconst (v := -1) C dX9_verdict_113 rfl ?_
  replace hf := gx_ite hf
  rcases hf with ⟨c17, hf⟩ | ⟨c17, hf⟩
  · refine gx_icmp_eq_t (tgt := 121) C dX9_verdict_114 rfl c17 ?_
    refine gx_iconst (v := 0) C dX9_verdict_121 rfl ?_
    obtain ⟨rfl, rfl⟩ := Prod.mk.inj (Option.some.inj hf)
    exact gx_iret C dX9_verdict_122
  · refine gx_icmp_eq_f (tgt := 121) C dX9_verdict_114 rfl c17 ?_
    refine gx_iconst (v := 4) C dX9_verdict_117 rfl ?_
    refine gx_goto (tgt := 122) C dX9_verdict_118 rfl ?_
    obtain ⟨rfl, rfl⟩ := Prod.mk.inj (Option.some.inj hf)
    exact gx_iret C dX9_verdict_122
def f_X9_verdict (D : gx_D) (b : HX) (o : Nat) (h : MS) (p1 : Int32) (p2 : Int32) : Option ((Int32) × MS) :=
  (ms_pf h 8 p1).bind fun h1 =>
  gx_b2 (f_X9_choose D b o h1 p1 p2) fun b3 h4 =>
  if b3 = true then
  if (h4.1 7) = (-1 : Int32) then
  some ((2 : Int32), h4)
  else
  (f_X9_of D b o h4 (h4.1 7) (2 : Int32)).bind fun x8 =>
  (f_X9_stateIn D b o h4 p1).bind fun x10 =>
  (f_X9_of D b o h4 (h4.1 7) (6 : Int32)).bind fun x12 =>
  if x12 = (-1 : Int32) then
  f_X9_verdict_b103 D b o h4 ((p1 + ((1000 : Int32) * (x8 - x10))))
  else
  (f_X9_valueIn D b o h4 p1 x12).bind fun x20 =>
  (f_X9_acted D b o h4 (h4.1 7) x20).bind fun x22 =>
  (f_X9_inRange D b o h4 x22 (0 : Int32) (9 : Int32)).bind fun b24 =>
  if b24 = true then
  (f_X9_with D b o h4 (p1 + ((1000 : Int32) * (x8 - x10))) x12 x22).bind fun x27 =>
  f_X9_verdict_b103 D b o h4 x27
  else
  some ((3 : Int32), h4)
  else
  some ((1 : Int32), h4)
theorem w_X9_verdict_b {l : Launch} (hlt : l.stackTraces = false) {p : Program} {e : Env} {R : Room} {s : State} {m : MethodId} {args : Array Value} {below : List Frame} {meth : Method} {c : Code} {D : gx_D} {b : HX} {o : Nat} {h0 : MS} {r : Int32} {hz : MS} (C : gx_Ctx p R s m args meth c "ContractMachineModel" cX9_verdict 6 (some .int) 6 132 D (mh b o h0) (mh b o hz)) (hx : meth.name = "verdict") {p1 : Int32} {p2 : Int32} (hf : f_X9_verdict D b o h0 p1 p2 = some (r, hz)) : gx_G p l e R s m args below meth c D (mh b o h0) (mh b o hz) 6 (gx_MQ below args s D (mh b o h0) (mh b o hz) (some (.int r))) 0 [(0, (va_rf (some o))), (1, (.int p1)), (2, (.int p2))] [] (mh b o h0) := by
  unfold f_X9_verdict at hf
  refine gx_aload_n C dX9_verdict_0 0 rfl ?_
  refine gx_iload_n C dX9_verdict_1 1 rfl ?_
  replace hf := gx_bs hf
  obtain ⟨h1, g28, hf⟩ := hf
  refine gx_putv C (mh_pg (by decide) (fun _ _ => mh_p8) g28) gz_572 gz_1 rfl rfl q2642 dX9_verdict_2 ?_
  refine gx_aload_n C dX9_verdict_5 0 rfl ?_
  refine gx_iload_n C dX9_verdict_6 1 rfl ?_
  refine gx_iload_n C dX9_verdict_7 2 rfl ?_
  replace hf := gx_b2s hf
  obtain ⟨b3, h4, g2, hf⟩ := hf
  refine gx_callV (st := []) C (w_X9_choose hlt g2) mh_is gz_497 rfl (lw_V q2946 q2948 qs98 q151 q2949) gz_573 (by decide) rfl rfl (gx_catn (Nat.le_of_ble_eq_true rfl)) dX9_verdict_8 ?_
  replace hf := gx_ite hf
  rcases hf with ⟨c5, hf⟩ | ⟨c5, hf⟩
  · refine gx_ifz_ne_t (tgt := 16) C dX9_verdict_11 rfl c5 ?_
    refine gx_aload_n C dX9_verdict_16 0 rfl ?_
    refine gx_gi C (mh_gi (k := 7) rfl) gz_570 q2641 dX9_verdict_17 ?_
    refine gx_iconst (v := -1) C dX9_verdict_20 rfl ?_
    replace hf := gx_ite hf
    rcases hf with ⟨c6, hf⟩ | ⟨c6, hf⟩
    · refine gx_icmp_ne_f (tgt := 26) C dX9_verdict_21 rfl c6 ?_
      refine gx_iconst (v := 2) C dX9_verdict_24 rfl ?_
      obtain ⟨rfl, rfl⟩ := Prod.mk.inj (Option.some.inj hf)
      exact gx_iret C dX9_verdict_25
    · refine gx_icmp_ne_t (tgt := 26) C dX9_verdict_21 rfl c6 ?_
      refine gx_iload_n C dX9_verdict_26 1 rfl ?_
      refine gx_sipush (v := 1000) C dX9_verdict_27 rfl ?_
      refine gx_aload_n C dX9_verdict_30 0 rfl ?_
      refine gx_aload_n C dX9_verdict_31 0 rfl ?_
      refine gx_gi C (mh_gi (k := 7) rfl) gz_570 q2641 dX9_verdict_32 ?_
      refine gx_iconst (v := 2) C dX9_verdict_35 rfl ?_
      replace hf := gx_bs hf
      obtain ⟨x8, g7, hf⟩ := hf
      refine gx_callV (st := [(.int (1000 : Int32)), (.int p1)]) C (w_X9_of hlt g7) mh_is gz_497 rfl (lw_V q2950 q2952 qs99 q151 q2953) gz_569 (by decide) rfl rfl (gx_catn (Nat.le_of_ble_eq_true rfl)) dX9_verdict_36 ?_
      refine gx_iload_n C dX9_verdict_39 1 rfl ?_
      replace hf := gx_bs hf
      obtain ⟨x10, g9, hf⟩ := hf
      refine gx_callS (st := [(.int x8), (.int (1000 : Int32)), (.int p1)]) C (w_X9_stateIn hlt g9) (lw_S q2887 q2888 q151 q2889) gz_532 (by decide) rfl rfl (gx_catn (Nat.le_of_ble_eq_true rfl)) dX9_verdict_40 ?_
      refine gx_isub C dX9_verdict_43 ?_
      refine gx_imul C dX9_verdict_44 ?_
      refine gx_iadd C dX9_verdict_45 ?_
      refine gx_istn C dX9_verdict_46 3 rfl (by decide) [0, 1]  rfl (gx_okn rfl rfl (gx_okn rfl rfl gx_ok0)) ?_
      refine gx_aload_n C dX9_verdict_47 1 rfl ?_
      refine gx_aload_n C dX9_verdict_48 1 rfl ?_
      refine gx_gi C (mh_gi (k := 7) rfl) gz_570 q2641 dX9_verdict_49 ?_
      refine gx_bipush (v := 6) C dX9_verdict_52 rfl ?_
      replace hf := gx_bs hf
      obtain ⟨x12, g11, hf⟩ := hf
      refine gx_callV (st := []) C (w_X9_of hlt g11) mh_is gz_497 rfl (lw_V q2950 q2952 qs99 q151 q2953) gz_569 (by decide) rfl rfl (gx_catn (Nat.le_of_ble_eq_true rfl)) dX9_verdict_54 ?_
      refine gx_ist C dX9_verdict_57 (by decide) [0, 1, 2]  rfl (gx_okr rfl gx_catv_i (gx_okn rfl rfl (gx_okn rfl rfl gx_ok0))) ?_
      refine gx_iload C dX9_verdict_59 0 rfl ?_
      refine gx_iconst (v := -1) C dX9_verdict_61 rfl ?_
      replace hf := gx_ite hf
      rcases hf with ⟨c13, hf⟩ | ⟨c13, hf⟩
      · refine gx_icmp_eq_t (tgt := 103) C dX9_verdict_62 rfl c13 ?_
        refine gx_sub [2, 1] rfl ?_
        exact w_X9_verdict_b103 hlt C hx hf
      · refine gx_icmp_eq_f (tgt := 103) C dX9_verdict_62 rfl c13 ?_
        refine gx_aload_n C dX9_verdict_65 2 rfl ?_
        refine gx_aload_n C dX9_verdict_66 2 rfl ?_
        refine gx_gi C (mh_gi (k := 7) rfl) gz_570 q2641 dX9_verdict_67 ?_
        refine gx_iload_n C dX9_verdict_70 3 rfl ?_
        refine gx_iload C dX9_verdict_71 0 rfl ?_
        replace hf := gx_bs hf
        obtain ⟨x20, g19, hf⟩ := hf
        refine gx_callS (st := [(.int (h4.1 7)), (va_rf (some o))]) C (w_X9_valueIn hlt g19) (lw_S q2894 q2895 q151 q2896) gz_530 (by decide) rfl rfl (gx_catn (Nat.le_of_ble_eq_true rfl)) dX9_verdict_73 ?_
        replace hf := gx_bs hf
        obtain ⟨x22, g21, hf⟩ := hf
        refine gx_callV (st := []) C (w_X9_acted hlt g21) mh_is gz_497 rfl (lw_V q2958 q2960 qs101 q151 q2961) gz_574 (by decide) rfl rfl (gx_catn (Nat.le_of_ble_eq_true rfl)) dX9_verdict_76 ?_
        refine gx_ist C dX9_verdict_79 (by decide) [0, 1, 2]  rfl (gx_okr rfl gx_catv_i (gx_okn rfl rfl (gx_okn rfl rfl gx_ok0))) ?_
        refine gx_iload C dX9_verdict_81 0 rfl ?_
        refine gx_iconst (v := 0) C dX9_verdict_83 rfl ?_
        refine gx_bipush (v := 9) C dX9_verdict_84 rfl ?_
        replace hf := gx_bs hf
        obtain ⟨b24, g23, hf⟩ := hf
        refine gx_callS (st := []) C (w_X9_inRange hlt g23) (lw_S q2745 q2746 q151 q2747) gz_522 (by decide) rfl rfl (gx_catn (Nat.le_of_ble_eq_true rfl)) dX9_verdict_86 ?_
        replace hf := gx_ite hf
        rcases hf with ⟨c25, hf⟩ | ⟨c25, hf⟩
        · refine gx_ifz_ne_t (tgt := 94) C dX9_verdict_89 rfl c25 ?_
          refine gx_iload_n C dX9_verdict_94 2 rfl ?_
          refine gx_iload C dX9_verdict_95 1 rfl ?_
          refine gx_iload C dX9_verdict_97 0 rfl ?_
          replace hf := gx_bs hf
          obtain ⟨x27, g26, hf⟩ := hf
          refine gx_callS (st := []) C (w_X9_with hlt g26) (lw_S q2962 q2963 q151 q2964) gz_575 (by decide) rfl rfl (gx_catn (Nat.le_of_ble_eq_true rfl)) dX9_verdict_99 ?_
          refine gx_istn C dX9_verdict_102 3 rfl (by decide) [3]  rfl (gx_okn rfl rfl gx_ok0) ?_
          refine gx_sub [1, 0] rfl ?_
          exact w_X9_verdict_b103 hlt C hx hf
        · refine gx_ifz_ne_f (tgt := 94) C dX9_verdict_89 rfl c25 ?_
          refine gx_iconst (v := 3) C dX9_verdict_92 rfl ?_
          obtain ⟨rfl, rfl⟩ := Prod.mk.inj (Option.some.inj hf)
          exact gx_iret C dX9_verdict_93
  · refine gx_ifz_ne_f (tgt := 16) C dX9_verdict_11 rfl c5 ?_
    refine gx_iconst (v := 1) C dX9_verdict_14 rfl ?_
    obtain ⟨rfl, rfl⟩ := Prod.mk.inj (Option.some.inj hf)
    exact gx_iret C dX9_verdict_15
theorem w_X9_verdict {l : Launch} (hlt : l.stackTraces = false) {D : gx_D} {b : HX} {o : Nat} {h : MS} {p1 : Int32} {p2 : Int32} {r : Int32} {hz : MS} (hf : f_X9_verdict D b o h p1 p2 = some (r, hz)) : gx_Met l yX9_verdict cX9_verdict 6 (some .int) 6 132 D [(va_rf (some o)), (.int p1), (.int p2)] (mh b o h) (some (.int r)) (mh b o hz) :=
  gx_ofG gz_495 (by simp only [gx_lsr, gx_lsi, gx_lsj, gx_ls0]; decide) mh_le (fun p e R s m args below meth c C hx => by
    simp only [gx_lar, gx_lai, gx_laj, gx_la0, Nat.reduceAdd]
    exact w_X9_verdict_b hlt C hx hf)
def f_X9_fires_b83 (D : gx_D) (b : HX) (o : Nat) (h : MS) (v1 : Int32) (v2 : Int32) : Option ((Int32) × MS) :=
  (ms_ai h 0 (12 : Int32)).bind fun x11 =>
  (ms_si h 0 (12 : Int32) (x11 + (1 : Int32))).bind fun h12 =>
  (ms_ai h12 0 ((69 : Int32) + (h12.1 7))).bind fun x13 =>
  (ms_si h12 0 ((69 : Int32) + (h12.1 7)) (x13 + (1 : Int32))).bind fun h14 =>
  (ms_ai h14 0 (5 : Int32)).bind fun x15 =>
  (ms_ai h14 0 ((59 : Int32) + x15)).bind fun x16 =>
  (ms_si h14 0 ((59 : Int32) + x15) (x16 + (1 : Int32))).bind fun h17 =>
  (f_X9_traces D b o h17 v1 (h17.1 7)).bind fun h19 =>
  some (v2, h19)
theorem w_X9_fires_b83 {l : Launch} (hlt : l.stackTraces = false) {p : Program} {e : Env} {R : Room} {s : State} {m : MethodId} {args : Array Value} {below : List Frame} {meth : Method} {c : Code} {D : gx_D} {b : HX} {o : Nat} {h0 : MS} {r : Int32} {hz : MS} (C : gx_Ctx p R s m args meth c "ContractMachineModel" cX9_fires 4 (some .int) 7 157 D (mh b o h0) (mh b o hz)) (hx : meth.name = "fires")  {h : MS} {v1 : Int32} {v2 : Int32} (hf : f_X9_fires_b83 D b o h v1 v2 = some (r, hz)) : gx_G p l e R s m args below meth c D (mh b o h0) (mh b o hz) 4 (gx_MQ below args s D (mh b o h0) (mh b o hz) (some (.int r))) 83 [(0, (va_rf (some o))), (1, (.int v1)), (2, (.int v2))] [] (mh b o h) := by
  unfold f_X9_fires_b83 at hf
  refine gx_aload_n C dX9_fires_83 0 rfl ?_
  refine gx_gr C (mh_gr (k := 0) rfl) gz_494 q2634 dX9_fires_84 ?_
  refine gx_bipush (v := 12) C dX9_fires_87 rfl ?_
  refine gx_dup2 C dX9_fires_89 rfl rfl ?_
  replace hf := gx_bs hf
  obtain ⟨x11, g26, hf⟩ := hf
  refine gx_iald C (mh_ai g26) dX9_fires_90 ?_
  refine gx_iconst (v := 1) C dX9_fires_91 rfl ?_
  refine gx_iadd C dX9_fires_92 ?_
  replace hf := gx_bs hf
  obtain ⟨h12, g25, hf⟩ := hf
  refine gx_iast C (mh_si g25) dX9_fires_93 ?_
  refine gx_aload_n C dX9_fires_94 0 rfl ?_
  refine gx_gr C (mh_gr (k := 0) rfl) gz_494 q2634 dX9_fires_95 ?_
  refine gx_bipush (v := 69) C dX9_fires_98 rfl ?_
  refine gx_aload_n C dX9_fires_100 0 rfl ?_
  refine gx_gi C (mh_gi (k := 7) rfl) gz_570 q2641 dX9_fires_101 ?_
  refine gx_iadd C dX9_fires_104 ?_
  refine gx_dup2 C dX9_fires_105 rfl rfl ?_
  replace hf := gx_bs hf
  obtain ⟨x13, g24, hf⟩ := hf
  refine gx_iald C (mh_ai g24) dX9_fires_106 ?_
  refine gx_iconst (v := 1) C dX9_fires_107 rfl ?_
  refine gx_iadd C dX9_fires_108 ?_
  replace hf := gx_bs hf
  obtain ⟨h14, g23, hf⟩ := hf
  refine gx_iast C (mh_si g23) dX9_fires_109 ?_
  refine gx_aload_n C dX9_fires_110 0 rfl ?_
  refine gx_gr C (mh_gr (k := 0) rfl) gz_494 q2634 dX9_fires_111 ?_
  refine gx_bipush (v := 59) C dX9_fires_114 rfl ?_
  refine gx_aload_n C dX9_fires_116 0 rfl ?_
  refine gx_gr C (mh_gr (k := 0) rfl) gz_494 q2634 dX9_fires_117 ?_
  refine gx_iconst (v := 5) C dX9_fires_120 rfl ?_
  replace hf := gx_bs hf
  obtain ⟨x15, g22, hf⟩ := hf
  refine gx_iald C (mh_ai g22) dX9_fires_121 ?_
  refine gx_iadd C dX9_fires_122 ?_
  refine gx_dup2 C dX9_fires_123 rfl rfl ?_
  replace hf := gx_bs hf
  obtain ⟨x16, g21, hf⟩ := hf
  refine gx_iald C (mh_ai g21) dX9_fires_124 ?_
  refine gx_iconst (v := 1) C dX9_fires_125 rfl ?_
  refine gx_iadd C dX9_fires_126 ?_
  replace hf := gx_bs hf
  obtain ⟨h17, g20, hf⟩ := hf
  refine gx_iast C (mh_si g20) dX9_fires_127 ?_
  refine gx_aload_n C dX9_fires_128 0 rfl ?_
  refine gx_iload_n C dX9_fires_129 1 rfl ?_
  refine gx_aload_n C dX9_fires_130 0 rfl ?_
  refine gx_gi C (mh_gi (k := 7) rfl) gz_570 q2641 dX9_fires_131 ?_
  replace hf := gx_bs hf
  obtain ⟨h19, g18, hf⟩ := hf
  refine gx_callV (st := []) C (w_X9_traces hlt g18) mh_is gz_497 rfl (lw_V q2965 q2967 qs102 q151 q2968) gz_578 (by decide) rfl rfl (gx_catn (Nat.le_of_ble_eq_true rfl)) dX9_fires_134 ?_
  refine gx_iload_n C dX9_fires_137 2 rfl ?_
  obtain ⟨rfl, rfl⟩ := Prod.mk.inj (Option.some.inj hf)
  exact gx_iret C dX9_fires_138
def f_X9_fires_b55 (D : gx_D) (b : HX) (o : Nat) : Nat → MS → Int32 → Int32 → Int32 → Option ((Int32) × MS)
  | 0, _, _, _, _ => none
  | n + 1, h, v1, v2, v3 =>
  if (3 : Int32) ≤ v3 then
  f_X9_fires_b83 D b o h v1 v2
  else
  (f_X9_valueIn D b o h (h.1 8) v3).bind fun x28 =>
  (ms_si h 0 ((6 : Int32) + v3) x28).bind fun h29 =>
  (f_X9_fires_b55 D b o n) h29 v1 v2 ((v3 + (1 : Int32)))
theorem w_X9_fires_b55 {l : Launch} (hlt : l.stackTraces = false) {p : Program} {e : Env} {R : Room} {s : State} {m : MethodId} {args : Array Value} {below : List Frame} {meth : Method} {c : Code} {D : gx_D} {b : HX} {o : Nat} {h0 : MS} {r : Int32} {hz : MS} (C : gx_Ctx p R s m args meth c "ContractMachineModel" cX9_fires 4 (some .int) 7 157 D (mh b o h0) (mh b o hz)) (hx : meth.name = "fires")  : ∀ (n : Nat) ⦃h : MS⦄ ⦃v1 : Int32⦄ ⦃v2 : Int32⦄ ⦃v3 : Int32⦄, f_X9_fires_b55 D b o n h v1 v2 v3 = some (r, hz) → gx_G p l e R s m args below meth c D (mh b o h0) (mh b o hz) 4 (gx_MQ below args s D (mh b o h0) (mh b o hz) (some (.int r))) 55 [(0, (va_rf (some o))), (1, (.int v1)), (2, (.int v2)), (3, (.int v3))] [] (mh b o h) := by
  intro n
  induction n with
  | zero => intro h v1 v2 v3 hf; unfold f_X9_fires_b55 at hf; cases hf
  | succ n wk55 =>
    intro h v1 v2 v3 hf
    unfold f_X9_fires_b55 at hf
    refine gx_iload_n C dX9_fires_55 3 rfl ?_
    refine gx_iconst (v := 3) C dX9_fires_56 rfl ?_
    replace hf := gx_ite hf
    rcases hf with ⟨c10, hf⟩ | ⟨c10, hf⟩
    · refine gx_icmp_ge_t (tgt := 83) C dX9_fires_57 rfl c10 ?_
      refine gx_sub [0, 1, 2] rfl ?_
      exact w_X9_fires_b83 hlt C hx hf
    · refine gx_icmp_ge_f (tgt := 83) C dX9_fires_57 rfl c10 ?_
      refine gx_aload_n C dX9_fires_60 0 rfl ?_
      refine gx_gr C (mh_gr (k := 0) rfl) gz_494 q2634 dX9_fires_61 ?_
      refine gx_bipush (v := 6) C dX9_fires_64 rfl ?_
      refine gx_iload_n C dX9_fires_66 3 rfl ?_
      refine gx_iadd C dX9_fires_67 ?_
      refine gx_aload_n C dX9_fires_68 0 rfl ?_
      refine gx_gi C (mh_gi (k := 8) rfl) gz_572 q2642 dX9_fires_69 ?_
      refine gx_iload_n C dX9_fires_72 3 rfl ?_
      replace hf := gx_bs hf
      obtain ⟨x28, g27, hf⟩ := hf
      refine gx_callS (st := [(.int ((6 : Int32) + v3)), (va_rf (some (o + 1 + 0)))]) C (w_X9_valueIn hlt g27) (lw_S q2894 q2895 q151 q2896) gz_530 (by decide) rfl rfl (gx_catn (Nat.le_of_ble_eq_true rfl)) dX9_fires_73 ?_
      replace hf := gx_bs hf
      obtain ⟨h29, g30, hf⟩ := hf
      refine gx_iast C (mh_si g30) dX9_fires_76 ?_
      refine gx_inc (v := 1) C dX9_fires_77 3 rfl rfl (by decide) [0, 1, 2] rfl (gx_okn rfl rfl (gx_okn rfl rfl (gx_okr rfl gx_catv_i gx_ok0))) ?_
      refine gx_goto (tgt := 55) C dX9_fires_80 rfl ?_
      refine gx_sub [1, 2, 3, 0] rfl ?_
      exact wk55 hf
def f_X9_fires (D : gx_D) (b : HX) (o : Nat) (h : MS) (p1 : Int32) : Option ((Int32) × MS) :=
  (f_X9_here D b o h).bind fun x2 =>
  gx_b2 (f_X9_verdict D b o h x2 p1) fun x4 h5 =>
  if x4 = 0 then
  (f_X9_stateIn D b o h5 (h5.1 8)).bind fun x8 =>
  (ms_si h5 0 (5 : Int32) x8).bind fun h9 =>
  f_X9_fires_b55 D b o gx_fuel h9 p1 x4 ((0 : Int32))
  else
  (ms_ai h5 0 ((12 : Int32) + x4)).bind fun x32 =>
  (ms_si h5 0 ((12 : Int32) + x4) (x32 + (1 : Int32))).bind fun h33 =>
  (ms_ai h33 0 (17 : Int32)).bind fun x34 =>
  (ms_si h33 0 (17 : Int32) (x34 + (1 : Int32))).bind fun h35 =>
  some (x4, h35)
theorem w_X9_fires_b {l : Launch} (hlt : l.stackTraces = false) {p : Program} {e : Env} {R : Room} {s : State} {m : MethodId} {args : Array Value} {below : List Frame} {meth : Method} {c : Code} {D : gx_D} {b : HX} {o : Nat} {h0 : MS} {r : Int32} {hz : MS} (C : gx_Ctx p R s m args meth c "ContractMachineModel" cX9_fires 4 (some .int) 7 157 D (mh b o h0) (mh b o hz)) (hx : meth.name = "fires") {p1 : Int32} (hf : f_X9_fires D b o h0 p1 = some (r, hz)) : gx_G p l e R s m args below meth c D (mh b o h0) (mh b o hz) 4 (gx_MQ below args s D (mh b o h0) (mh b o hz) (some (.int r))) 0 [(0, (va_rf (some o))), (1, (.int p1))] [] (mh b o h0) := by
  unfold f_X9_fires at hf
  refine gx_aload_n C dX9_fires_0 0 rfl ?_
  refine gx_aload_n C dX9_fires_1 0 rfl ?_
  replace hf := gx_bs hf
  obtain ⟨x2, g1, hf⟩ := hf
  refine gx_callV (st := [(va_rf (some o))]) C (w_X9_here hlt g1) mh_is gz_497 rfl (lw_V q2938 q2940 qs96 q151 q2941) gz_576 (by decide) rfl rfl (gx_catn (Nat.le_of_ble_eq_true rfl)) dX9_fires_2 ?_
  refine gx_iload_n C dX9_fires_5 1 rfl ?_
  replace hf := gx_b2s hf
  obtain ⟨x4, h5, g3, hf⟩ := hf
  refine gx_callV (st := []) C (w_X9_verdict hlt g3) mh_is gz_497 rfl (lw_V q2942 q2944 qs97 q151 q2945) gz_577 (by decide) rfl rfl (gx_catn (Nat.le_of_ble_eq_true rfl)) dX9_fires_6 ?_
  refine gx_istn C dX9_fires_9 2 rfl (by decide) [0, 1]  rfl (gx_okn rfl rfl (gx_okr rfl gx_catv_i gx_ok0)) ?_
  refine gx_iload_n C dX9_fires_10 0 rfl ?_
  replace hf := gx_ite hf
  rcases hf with ⟨c6, hf⟩ | ⟨c6, hf⟩
  · refine gx_if_eq_t (tgt := 40) C dX9_fires_11 rfl c6 ?_
    refine gx_aload_n C dX9_fires_40 1 rfl ?_
    refine gx_gr C (mh_gr (k := 0) rfl) gz_494 q2634 dX9_fires_41 ?_
    refine gx_iconst (v := 5) C dX9_fires_44 rfl ?_
    refine gx_aload_n C dX9_fires_45 1 rfl ?_
    refine gx_gi C (mh_gi (k := 8) rfl) gz_572 q2642 dX9_fires_46 ?_
    replace hf := gx_bs hf
    obtain ⟨x8, g7, hf⟩ := hf
    refine gx_callS (st := [(.int (5 : Int32)), (va_rf (some (o + 1 + 0)))]) C (w_X9_stateIn hlt g7) (lw_S q2887 q2888 q151 q2889) gz_532 (by decide) rfl rfl (gx_catn (Nat.le_of_ble_eq_true rfl)) dX9_fires_49 ?_
    replace hf := gx_bs hf
    obtain ⟨h9, g31, hf⟩ := hf
    refine gx_iast C (mh_si g31) dX9_fires_52 ?_
    refine gx_iconst (v := 0) C dX9_fires_53 rfl ?_
    refine gx_istn C dX9_fires_54 3 rfl (by decide) [0, 1, 2]  rfl (gx_okr rfl gx_catv_i (gx_okn rfl rfl (gx_okn rfl rfl gx_ok0))) ?_
    refine gx_sub [2, 3, 1, 0] rfl ?_
    exact w_X9_fires_b55 hlt C hx gx_fuel hf
  · refine gx_if_eq_f (tgt := 40) C dX9_fires_11 rfl c6 ?_
    refine gx_aload_n C dX9_fires_14 1 rfl ?_
    refine gx_gr C (mh_gr (k := 0) rfl) gz_494 q2634 dX9_fires_15 ?_
    refine gx_bipush (v := 12) C dX9_fires_18 rfl ?_
    refine gx_iload_n C dX9_fires_20 0 rfl ?_
    refine gx_iadd C dX9_fires_21 ?_
    refine gx_dup2 C dX9_fires_22 rfl rfl ?_
    replace hf := gx_bs hf
    obtain ⟨x32, g39, hf⟩ := hf
    refine gx_iald C (mh_ai g39) dX9_fires_23 ?_
    refine gx_iconst (v := 1) C dX9_fires_24 rfl ?_
    refine gx_iadd C dX9_fires_25 ?_
    replace hf := gx_bs hf
    obtain ⟨h33, g38, hf⟩ := hf
    refine gx_iast C (mh_si g38) dX9_fires_26 ?_
    refine gx_aload_n C dX9_fires_27 1 rfl ?_
    refine gx_gr C (mh_gr (k := 0) rfl) gz_494 q2634 dX9_fires_28 ?_
    refine gx_bipush (v := 17) C dX9_fires_31 rfl ?_
    refine gx_dup2 C dX9_fires_33 rfl rfl ?_
    replace hf := gx_bs hf
    obtain ⟨x34, g37, hf⟩ := hf
    refine gx_iald C (mh_ai g37) dX9_fires_34 ?_
    refine gx_iconst (v := 1) C dX9_fires_35 rfl ?_
    refine gx_iadd C dX9_fires_36 ?_
    replace hf := gx_bs hf
    obtain ⟨h35, g36, hf⟩ := hf
    refine gx_iast C (mh_si g36) dX9_fires_37 ?_
    refine gx_iload_n C dX9_fires_38 0 rfl ?_
    obtain ⟨rfl, rfl⟩ := Prod.mk.inj (Option.some.inj hf)
    exact gx_iret C dX9_fires_39
theorem w_X9_fires {l : Launch} (hlt : l.stackTraces = false) {D : gx_D} {b : HX} {o : Nat} {h : MS} {p1 : Int32} {r : Int32} {hz : MS} (hf : f_X9_fires D b o h p1 = some (r, hz)) : gx_Met l yX9_fires cX9_fires 4 (some .int) 7 157 D [(va_rf (some o)), (.int p1)] (mh b o h) (some (.int r)) (mh b o hz) :=
  gx_ofG gz_495 (by simp only [gx_lsr, gx_lsi, gx_lsj, gx_ls0]; decide) mh_le (fun p e R s m args below meth c C hx => by
    simp only [gx_lar, gx_lai, gx_laj, gx_la0, Nat.reduceAdd]
    exact w_X9_fires_b hlt C hx hf)
def f_X9_maySet (D : gx_D) (b : HX) (o : Nat) (h : MS) (p1 : Int32) (p2 : Int32) : Option Bool :=
  (f_X9_here D b o h).bind fun x2 =>
  (f_X9_with D b o h x2 p1 p2).bind fun x4 =>
  (f_X9_firstBroken D b o h x4).bind fun x6 =>
  if x6 = (-1 : Int32) then
  some true
  else
  some false
theorem w_X9_maySet_b {l : Launch} (hlt : l.stackTraces = false) {p : Program} {e : Env} {R : Room} {s : State} {m : MethodId} {args : Array Value} {below : List Frame} {meth : Method} {c : Code} {D : gx_D} {b : HX} {o : Nat} {h0 : MS} {r : Bool} (C : gx_Ctx p R s m args meth c "ContractMachineModel" cX9_maySet 3 (some .boolean) 6 132 D (mh b o h0) (mh b o h0)) (hx : meth.name = "maySet") {p1 : Int32} {p2 : Int32} (hf : f_X9_maySet D b o h0 p1 p2 = some r) : gx_G p l e R s m args below meth c D (mh b o h0) (mh b o h0) 3 (gx_MQ below args s D (mh b o h0) (mh b o h0) (some (.int (b2i r)))) 0 [(0, (va_rf (some o))), (1, (.int p1)), (2, (.int p2))] [] (mh b o h0) := by
  unfold f_X9_maySet at hf
  refine gx_aload_n C dX9_maySet_0 0 rfl ?_
  refine gx_aload_n C dX9_maySet_1 0 rfl ?_
  replace hf := gx_bs hf
  obtain ⟨x2, g1, hf⟩ := hf
  refine gx_callV (st := [(va_rf (some o))]) C (w_X9_here hlt g1) mh_is gz_497 rfl (lw_V q2938 q2940 qs96 q151 q2941) gz_576 (by decide) rfl rfl (gx_catn (Nat.le_of_ble_eq_true rfl)) dX9_maySet_2 ?_
  refine gx_iload_n C dX9_maySet_5 1 rfl ?_
  refine gx_iload_n C dX9_maySet_6 2 rfl ?_
  replace hf := gx_bs hf
  obtain ⟨x4, g3, hf⟩ := hf
  refine gx_callS (st := [(va_rf (some o))]) C (w_X9_with hlt g3) (lw_S q2962 q2963 q151 q2964) gz_575 (by decide) rfl rfl (gx_catn (Nat.le_of_ble_eq_true rfl)) dX9_maySet_7 ?_
  replace hf := gx_bs hf
  obtain ⟨x6, g5, hf⟩ := hf
  refine gx_callV (st := []) C (w_X9_firstBroken hlt g5) mh_is gz_497 rfl (lw_V q2875 q2877 qs85 q151 q2878) gz_560 (by decide) rfl rfl (gx_catn (Nat.le_of_ble_eq_true rfl)) dX9_maySet_10 ?_
  refine gx_iconst (v := -1) C dX9_maySet_13 rfl ?_
  replace hf := gx_ite hf
  rcases hf with ⟨c7, hf⟩ | ⟨c7, hf⟩
  · refine gx_icmp_ne_f (tgt := 21) C dX9_maySet_14 rfl c7 ?_
    refine gx_iconst (v := 1) C dX9_maySet_17 rfl ?_
    refine gx_goto (tgt := 22) C dX9_maySet_18 rfl ?_
    obtain rfl := Option.some.inj hf
    exact gx_zret (b := true) C dX9_maySet_22
  · refine gx_icmp_ne_t (tgt := 21) C dX9_maySet_14 rfl c7 ?_
    refine gx_iconst (v := 0) C dX9_maySet_21 rfl ?_
    obtain rfl := Option.some.inj hf
    exact gx_zret (b := false) C dX9_maySet_22
theorem w_X9_maySet {l : Launch} (hlt : l.stackTraces = false) {D : gx_D} {b : HX} {o : Nat} {h : MS} {p1 : Int32} {p2 : Int32} {r : Bool} (hf : f_X9_maySet D b o h p1 p2 = some r) : gx_Met l yX9_maySet cX9_maySet 3 (some .boolean) 6 132 D [(va_rf (some o)), (.int p1), (.int p2)] (mh b o h) (some (.int (b2i r))) (mh b o h) :=
  gx_ofG gz_495 (by simp only [gx_lsr, gx_lsi, gx_lsj, gx_ls0]; decide) gx_le.rf (fun p e R s m args below meth c C hx => by
    simp only [gx_lar, gx_lai, gx_laj, gx_la0, Nat.reduceAdd]
    exact w_X9_maySet_b hlt C hx hf)
def f_X9_resets (D : gx_D) (b : HX) (o : Nat) (h : MS) : Option ((Int32) × MS) :=
  (ms_ai h 0 (5 : Int32)).bind fun x1 =>
  (f_X9_goesToStart D b o h).bind fun h3 =>
  some (x1, h3)
theorem w_X9_resets_b {l : Launch} (hlt : l.stackTraces = false) {p : Program} {e : Env} {R : Room} {s : State} {m : MethodId} {args : Array Value} {below : List Frame} {meth : Method} {c : Code} {D : gx_D} {b : HX} {o : Nat} {h0 : MS} {r : Int32} {hz : MS} (C : gx_Ctx p R s m args meth c "ContractMachineModel" cX9_resets 2 (some .int) 2 45 D (mh b o h0) (mh b o hz)) (hx : meth.name = "resets") (hf : f_X9_resets D b o h0 = some (r, hz)) : gx_G p l e R s m args below meth c D (mh b o h0) (mh b o hz) 2 (gx_MQ below args s D (mh b o h0) (mh b o hz) (some (.int r))) 0 [(0, (va_rf (some o)))] [] (mh b o h0) := by
  unfold f_X9_resets at hf
  refine gx_aload_n C dX9_resets_0 0 rfl ?_
  refine gx_gr C (mh_gr (k := 0) rfl) gz_494 q2634 dX9_resets_1 ?_
  refine gx_iconst (v := 5) C dX9_resets_4 rfl ?_
  replace hf := gx_bs hf
  obtain ⟨x1, g4, hf⟩ := hf
  refine gx_iald C (mh_ai g4) dX9_resets_5 ?_
  refine gx_istn C dX9_resets_6 1 rfl (by decide) [0]  rfl (gx_okr rfl gx_catv_r gx_ok0) ?_
  refine gx_aload_n C dX9_resets_7 1 rfl ?_
  replace hf := gx_bs hf
  obtain ⟨h3, g2, hf⟩ := hf
  refine gx_callV (st := []) C (w_X9_goesToStart hlt g2) mh_is gz_497 rfl (lw_V q2630 q2632 qs58 q151 q2633) gz_496 (by decide) rfl rfl (gx_catn (Nat.le_of_ble_eq_true rfl)) dX9_resets_8 ?_
  refine gx_iload_n C dX9_resets_11 0 rfl ?_
  obtain ⟨rfl, rfl⟩ := Prod.mk.inj (Option.some.inj hf)
  exact gx_iret C dX9_resets_12
theorem w_X9_resets {l : Launch} (hlt : l.stackTraces = false) {D : gx_D} {b : HX} {o : Nat} {h : MS} {r : Int32} {hz : MS} (hf : f_X9_resets D b o h = some (r, hz)) : gx_Met l yX9_resets cX9_resets 2 (some .int) 2 45 D [(va_rf (some o))] (mh b o h) (some (.int r)) (mh b o hz) :=
  gx_ofG gz_495 (by simp only [gx_lsr, gx_lsi, gx_lsj, gx_ls0]; decide) mh_le (fun p e R s m args below meth c C hx => by
    simp only [gx_lar, gx_lai, gx_laj, gx_la0, Nat.reduceAdd]
    exact w_X9_resets_b hlt C hx hf)
def f_X9_setsValue (D : gx_D) (b : HX) (o : Nat) (h : MS) (p1 : Int32) (p2 : Int32) : Option ((Int32) × MS) :=
  (ms_ai h 0 ((6 : Int32) + p1)).bind fun x1 =>
  (ms_si h 0 ((6 : Int32) + p1) p2).bind fun h2 =>
  some (x1, h2)
theorem w_X9_setsValue_b {l : Launch} (hlt : l.stackTraces = false) {p : Program} {e : Env} {R : Room} {s : State} {m : MethodId} {args : Array Value} {below : List Frame} {meth : Method} {c : Code} {D : gx_D} {b : HX} {o : Nat} {h0 : MS} {r : Int32} {hz : MS} (C : gx_Ctx p R s m args meth c "ContractMachineModel" cX9_setsValue 4 (some .int) 1 24 D (mh b o h0) (mh b o hz)) (hx : meth.name = "setsValue") {p1 : Int32} {p2 : Int32} (hf : f_X9_setsValue D b o h0 p1 p2 = some (r, hz)) : gx_G p l e R s m args below meth c D (mh b o h0) (mh b o hz) 4 (gx_MQ below args s D (mh b o h0) (mh b o hz) (some (.int r))) 0 [(0, (va_rf (some o))), (1, (.int p1)), (2, (.int p2))] [] (mh b o h0) := by
  unfold f_X9_setsValue at hf
  refine gx_aload_n C dX9_setsValue_0 0 rfl ?_
  refine gx_gr C (mh_gr (k := 0) rfl) gz_494 q2634 dX9_setsValue_1 ?_
  refine gx_bipush (v := 6) C dX9_setsValue_4 rfl ?_
  refine gx_iload_n C dX9_setsValue_6 1 rfl ?_
  refine gx_iadd C dX9_setsValue_7 ?_
  replace hf := gx_bs hf
  obtain ⟨x1, g4, hf⟩ := hf
  refine gx_iald C (mh_ai g4) dX9_setsValue_8 ?_
  refine gx_istn C dX9_setsValue_9 3 rfl (by decide) [0, 1, 2]  rfl (gx_okn rfl rfl (gx_okn rfl rfl (gx_okr rfl gx_catv_i gx_ok0))) ?_
  refine gx_aload_n C dX9_setsValue_10 1 rfl ?_
  refine gx_gr C (mh_gr (k := 0) rfl) gz_494 q2634 dX9_setsValue_11 ?_
  refine gx_bipush (v := 6) C dX9_setsValue_14 rfl ?_
  refine gx_iload_n C dX9_setsValue_16 2 rfl ?_
  refine gx_iadd C dX9_setsValue_17 ?_
  refine gx_iload_n C dX9_setsValue_18 3 rfl ?_
  replace hf := gx_bs hf
  obtain ⟨h2, g3, hf⟩ := hf
  refine gx_iast C (mh_si g3) dX9_setsValue_19 ?_
  refine gx_iload_n C dX9_setsValue_20 0 rfl ?_
  obtain ⟨rfl, rfl⟩ := Prod.mk.inj (Option.some.inj hf)
  exact gx_iret C dX9_setsValue_21
theorem w_X9_setsValue {l : Launch} (hlt : l.stackTraces = false) {D : gx_D} {b : HX} {o : Nat} {h : MS} {p1 : Int32} {p2 : Int32} {r : Int32} {hz : MS} (hf : f_X9_setsValue D b o h p1 p2 = some (r, hz)) : gx_Met l yX9_setsValue cX9_setsValue 4 (some .int) 1 24 D [(va_rf (some o)), (.int p1), (.int p2)] (mh b o h) (some (.int r)) (mh b o hz) :=
  gx_ofG gz_495 (by simp only [gx_lsr, gx_lsi, gx_lsj, gx_ls0]; decide) mh_le (fun p e R s m args below meth c C hx => by
    simp only [gx_lar, gx_lai, gx_laj, gx_la0, Nat.reduceAdd]
    exact w_X9_setsValue_b hlt C hx hf)
def f_X9_does (D : gx_D) (b : HX) (o : Nat) (h : MS) (p1 : Int32) : Option ((Bool) × MS) :=
  (ms_ai h 9 ((2 : Int32) * p1)).bind fun x1 =>
  (ms_ai h 9 (((2 : Int32) * p1) + (1 : Int32))).bind fun x2 =>
  (ms_ai h 8 p1).bind fun x3 =>
  if x3 = (1 : Int32) then
  gx_b2 (f_X9_fires D b o h x1) fun x6 h7 =>
  if x6 < 0 then
  some (false, h7)
  else
  some (true, h7)
  else
  if x3 = (2 : Int32) then
  (f_X9_maySet D b o h x1 x2).bind fun b11 =>
  if b11 = true then
  gx_b2 (f_X9_setsValue D b o h x1 x2) fun x14 h15 =>
  if x14 < 0 then
  some (false, h15)
  else
  some (true, h15)
  else
  some (false, h)
  else
  if x3 = (3 : Int32) then
  gx_b2 (f_X9_resets D b o h) fun x19 h20 =>
  if x19 < 0 then
  some (false, h20)
  else
  some (true, h20)
  else
  if x3 < (1 : Int32) ∨ (3 : Int32) < x3 then
  gx_b2 (f_X9_clears D b o h) fun x24 h25 =>
  if x24 < 0 then
  some (false, h25)
  else
  some (true, h25)
  else none
theorem w_X9_does_b {l : Launch} (hlt : l.stackTraces = false) {p : Program} {e : Env} {R : Room} {s : State} {m : MethodId} {args : Array Value} {below : List Frame} {meth : Method} {c : Code} {D : gx_D} {b : HX} {o : Nat} {h0 : MS} {r : Bool} {hz : MS} (C : gx_Ctx p R s m args meth c "ContractMachineModel" cX9_does 4 (some .boolean) 8 180 D (mh b o h0) (mh b o hz)) (hx : meth.name = "does") {p1 : Int32} (hf : f_X9_does D b o h0 p1 = some (r, hz)) : gx_G p l e R s m args below meth c D (mh b o h0) (mh b o hz) 4 (gx_MQ below args s D (mh b o h0) (mh b o hz) (some (.int (b2i r)))) 0 [(0, (va_rf (some o))), (1, (.int p1))] [] (mh b o h0) := by
  unfold f_X9_does at hf
  refine gx_aload_n C dX9_does_0 0 rfl ?_
  refine gx_gr C (mh_gr (k := 25) rfl) gz_507 q2659 dX9_does_1 ?_
  refine gx_iconst (v := 2) C dX9_does_4 rfl ?_
  refine gx_iload_n C dX9_does_5 1 rfl ?_
  refine gx_imul C dX9_does_6 ?_
  replace hf := gx_bs hf
  obtain ⟨x1, g29, hf⟩ := hf
  refine gx_iald C (mh_ai g29) dX9_does_7 ?_
  refine gx_istn C dX9_does_8 2 rfl (by decide) [0, 1]  rfl (gx_okn rfl rfl (gx_okr rfl gx_catv_i gx_ok0)) ?_
  refine gx_aload_n C dX9_does_9 1 rfl ?_
  refine gx_gr C (mh_gr (k := 25) rfl) gz_507 q2659 dX9_does_10 ?_
  refine gx_iconst (v := 2) C dX9_does_13 rfl ?_
  refine gx_iload_n C dX9_does_14 2 rfl ?_
  refine gx_imul C dX9_does_15 ?_
  refine gx_iconst (v := 1) C dX9_does_16 rfl ?_
  refine gx_iadd C dX9_does_17 ?_
  replace hf := gx_bs hf
  obtain ⟨x2, g28, hf⟩ := hf
  refine gx_iald C (mh_ai g28) dX9_does_18 ?_
  refine gx_istn C dX9_does_19 3 rfl (by decide) [0, 1, 2]  rfl (gx_okr rfl gx_catv_i (gx_okn rfl rfl (gx_okn rfl rfl gx_ok0))) ?_
  refine gx_aload_n C dX9_does_20 2 rfl ?_
  refine gx_gr C (mh_gr (k := 24) rfl) gz_506 q2658 dX9_does_21 ?_
  refine gx_iload_n C dX9_does_24 3 rfl ?_
  replace hf := gx_bs hf
  obtain ⟨x3, g27, hf⟩ := hf
  refine gx_iald C (mh_ai g27) dX9_does_25 ?_
  replace hf := gx_ite hf
  rcases hf with ⟨c4, hf⟩ | ⟨c4, hf⟩
  · refine gx_tswIn (tgt := 52) C dX9_does_26 (by rw [c4]; decide) (by rw [c4]; decide) (off := 26) (by rw [c4]; rfl) rfl ?_
    refine gx_aload_n C dX9_does_52 2 rfl ?_
    refine gx_iload_n C dX9_does_53 1 rfl ?_
    replace hf := gx_b2s hf
    obtain ⟨x6, h7, g5, hf⟩ := hf
    refine gx_callV (st := []) C (w_X9_fires hlt g5) mh_is gz_497 rfl (lw_V q2934 q2936 qs95 q151 q2937) gz_579 (by decide) rfl rfl (gx_catn (Nat.le_of_ble_eq_true rfl)) dX9_does_54 ?_
    replace hf := gx_ite hf
    rcases hf with ⟨c8, hf⟩ | ⟨c8, hf⟩
    · refine gx_if_lt_t (tgt := 64) C dX9_does_57 rfl c8 ?_
      refine gx_iconst (v := 0) C dX9_does_64 rfl ?_
      obtain ⟨rfl, rfl⟩ := Prod.mk.inj (Option.some.inj hf)
      exact gx_zret (b := false) C dX9_does_65
    · refine gx_if_lt_f (tgt := 64) C dX9_does_57 rfl c8 ?_
      refine gx_iconst (v := 1) C dX9_does_60 rfl ?_
      refine gx_goto (tgt := 65) C dX9_does_61 rfl ?_
      obtain ⟨rfl, rfl⟩ := Prod.mk.inj (Option.some.inj hf)
      exact gx_zret (b := true) C dX9_does_65
  replace hf := gx_ite hf
  rcases hf with ⟨c9, hf⟩ | ⟨c9, hf⟩
  · refine gx_tswIn (tgt := 66) C dX9_does_26 (by rw [c9]; decide) (by rw [c9]; decide) (off := 40) (by rw [c9]; rfl) rfl ?_
    refine gx_aload_n C dX9_does_66 2 rfl ?_
    refine gx_iload_n C dX9_does_67 1 rfl ?_
    refine gx_iload_n C dX9_does_68 0 rfl ?_
    replace hf := gx_bs hf
    obtain ⟨b11, g10, hf⟩ := hf
    refine gx_callV (st := []) C (w_X9_maySet hlt g10) mh_is gz_497 rfl (lw_V q2969 q2971 qs103 q151 q2972) gz_580 (by decide) rfl rfl (gx_catn (Nat.le_of_ble_eq_true rfl)) dX9_does_69 ?_
    replace hf := gx_ite hf
    rcases hf with ⟨c12, hf⟩ | ⟨c12, hf⟩
    · refine gx_ifz_eq_f (tgt := 88) C dX9_does_72 rfl c12 ?_
      refine gx_aload_n C dX9_does_75 2 rfl ?_
      refine gx_iload_n C dX9_does_76 1 rfl ?_
      refine gx_iload_n C dX9_does_77 0 rfl ?_
      replace hf := gx_b2s hf
      obtain ⟨x14, h15, g13, hf⟩ := hf
      refine gx_callV (st := []) C (w_X9_setsValue hlt g13) mh_is gz_497 rfl (lw_V q2973 q2975 qs104 q151 q2976) gz_581 (by decide) rfl rfl (gx_catn (Nat.le_of_ble_eq_true rfl)) dX9_does_78 ?_
      replace hf := gx_ite hf
      rcases hf with ⟨c16, hf⟩ | ⟨c16, hf⟩
      · refine gx_if_lt_t (tgt := 88) C dX9_does_81 rfl c16 ?_
        refine gx_iconst (v := 0) C dX9_does_88 rfl ?_
        obtain ⟨rfl, rfl⟩ := Prod.mk.inj (Option.some.inj hf)
        exact gx_zret (b := false) C dX9_does_89
      · refine gx_if_lt_f (tgt := 88) C dX9_does_81 rfl c16 ?_
        refine gx_iconst (v := 1) C dX9_does_84 rfl ?_
        refine gx_goto (tgt := 89) C dX9_does_85 rfl ?_
        obtain ⟨rfl, rfl⟩ := Prod.mk.inj (Option.some.inj hf)
        exact gx_zret (b := true) C dX9_does_89
    · refine gx_ifz_eq_t (tgt := 88) C dX9_does_72 rfl c12 ?_
      refine gx_iconst (v := 0) C dX9_does_88 rfl ?_
      obtain ⟨rfl, rfl⟩ := Prod.mk.inj (Option.some.inj hf)
      exact gx_zret (b := false) C dX9_does_89
  replace hf := gx_ite hf
  rcases hf with ⟨c17, hf⟩ | ⟨c17, hf⟩
  · refine gx_tswIn (tgt := 90) C dX9_does_26 (by rw [c17]; decide) (by rw [c17]; decide) (off := 64) (by rw [c17]; rfl) rfl ?_
    refine gx_aload_n C dX9_does_90 2 rfl ?_
    replace hf := gx_b2s hf
    obtain ⟨x19, h20, g18, hf⟩ := hf
    refine gx_callV (st := []) C (w_X9_resets hlt g18) mh_is gz_497 rfl (lw_V q2977 q2979 qs105 q151 q2980) gz_582 (by decide) rfl rfl (gx_catn (Nat.le_of_ble_eq_true rfl)) dX9_does_91 ?_
    replace hf := gx_ite hf
    rcases hf with ⟨c21, hf⟩ | ⟨c21, hf⟩
    · refine gx_if_lt_t (tgt := 101) C dX9_does_94 rfl c21 ?_
      refine gx_iconst (v := 0) C dX9_does_101 rfl ?_
      obtain ⟨rfl, rfl⟩ := Prod.mk.inj (Option.some.inj hf)
      exact gx_zret (b := false) C dX9_does_102
    · refine gx_if_lt_f (tgt := 101) C dX9_does_94 rfl c21 ?_
      refine gx_iconst (v := 1) C dX9_does_97 rfl ?_
      refine gx_goto (tgt := 102) C dX9_does_98 rfl ?_
      obtain ⟨rfl, rfl⟩ := Prod.mk.inj (Option.some.inj hf)
      exact gx_zret (b := true) C dX9_does_102
  replace hf := gx_ite hf
  rcases hf with ⟨c22, hf⟩ | ⟨c22, hf⟩
  rotate_left
  · cases hf
  refine gx_tswOut (tgt := 103) C dX9_does_26 (gx_tout c22) rfl ?_
  refine gx_aload_n C dX9_does_103 2 rfl ?_
  replace hf := gx_b2s hf
  obtain ⟨x24, h25, g23, hf⟩ := hf
  refine gx_callV (st := []) C (w_X9_clears hlt g23) mh_is gz_497 rfl (lw_V q2981 q2983 qs106 q151 q2984) gz_583 (by decide) rfl rfl (gx_catn (Nat.le_of_ble_eq_true rfl)) dX9_does_104 ?_
  replace hf := gx_ite hf
  rcases hf with ⟨c26, hf⟩ | ⟨c26, hf⟩
  · refine gx_if_lt_t (tgt := 114) C dX9_does_107 rfl c26 ?_
    refine gx_iconst (v := 0) C dX9_does_114 rfl ?_
    obtain ⟨rfl, rfl⟩ := Prod.mk.inj (Option.some.inj hf)
    exact gx_zret (b := false) C dX9_does_115
  · refine gx_if_lt_f (tgt := 114) C dX9_does_107 rfl c26 ?_
    refine gx_iconst (v := 1) C dX9_does_110 rfl ?_
    refine gx_goto (tgt := 115) C dX9_does_111 rfl ?_
    obtain ⟨rfl, rfl⟩ := Prod.mk.inj (Option.some.inj hf)
    exact gx_zret (b := true) C dX9_does_115
theorem w_X9_does {l : Launch} (hlt : l.stackTraces = false) {D : gx_D} {b : HX} {o : Nat} {h : MS} {p1 : Int32} {r : Bool} {hz : MS} (hf : f_X9_does D b o h p1 = some (r, hz)) : gx_Met l yX9_does cX9_does 4 (some .boolean) 8 180 D [(va_rf (some o)), (.int p1)] (mh b o h) (some (.int (b2i r))) (mh b o hz) :=
  gx_ofG gz_495 (by simp only [gx_lsr, gx_lsi, gx_lsj, gx_ls0]; decide) mh_le (fun p e R s m args below meth c C hx => by
    simp only [gx_lar, gx_lai, gx_laj, gx_la0, Nat.reduceAdd]
    exact w_X9_does_b hlt C hx hf)
def f_X9_scriptHere (D : gx_D) (b : HX) (o : Nat) (h : MS) : Option Int32 :=
  (f_X9_isWord D b o h (some (D.2.2.1 49))).bind fun b2 =>
  if b2 = true then
  some ((1 : Int32))
  else
  (f_X9_isWord D b o h (some (D.2.2.1 45))).bind fun b5 =>
  if b5 = true then
  some ((2 : Int32))
  else
  (f_X9_isWord D b o h (some (D.2.2.1 50))).bind fun b8 =>
  if b8 = true then
  some ((3 : Int32))
  else
  (f_X9_isWord D b o h (some (D.2.2.1 51))).bind fun b11 =>
  if b11 = true then
  some ((4 : Int32))
  else
  some ((0 : Int32))
theorem w_X9_scriptHere_b {l : Launch} (hlt : l.stackTraces = false) {p : Program} {e : Env} {R : Room} {s : State} {m : MethodId} {args : Array Value} {below : List Frame} {meth : Method} {c : Code} {D : gx_D} {b : HX} {o : Nat} {h0 : MS} {r : Int32} (C : gx_Ctx p R s m args meth c "ContractMachineModel" cX9_scriptHere 1 (some .int) 6 131 D (mh b o h0) (mh b o h0)) (hx : meth.name = "scriptHere") (hf : f_X9_scriptHere D b o h0 = some r) : gx_G p l e R s m args below meth c D (mh b o h0) (mh b o h0) 1 (gx_MQ below args s D (mh b o h0) (mh b o h0) (some (.int r))) 0 [(0, (va_rf (some o)))] [] (mh b o h0) := by
  unfold f_X9_scriptHere at hf
  refine gx_aload_n C dX9_scriptHere_0 0 rfl ?_
  refine gx_ldcwS C 49 rfl dX9_scriptHere_1 ?_
  replace hf := gx_bs hf
  obtain ⟨b2, g1, hf⟩ := hf
  refine gx_callV (st := []) C (w_X9_isWord hlt g1) mh_is gz_497 rfl (lw_V q2780 q2782 qs66 q151 q2783) gz_544 (by decide) rfl rfl (gx_catn (Nat.le_of_ble_eq_true rfl)) dX9_scriptHere_4 ?_
  replace hf := gx_ite hf
  rcases hf with ⟨c3, hf⟩ | ⟨c3, hf⟩
  · refine gx_ifz_eq_f (tgt := 12) C dX9_scriptHere_7 rfl c3 ?_
    refine gx_iconst (v := 1) C dX9_scriptHere_10 rfl ?_
    obtain rfl := Option.some.inj hf
    exact gx_iret C dX9_scriptHere_11
  · refine gx_ifz_eq_t (tgt := 12) C dX9_scriptHere_7 rfl c3 ?_
    refine gx_aload_n C dX9_scriptHere_12 0 rfl ?_
    refine gx_ldcS C 45 rfl dX9_scriptHere_13 ?_
    replace hf := gx_bs hf
    obtain ⟨b5, g4, hf⟩ := hf
    refine gx_callV (st := []) C (w_X9_isWord hlt g4) mh_is gz_497 rfl (lw_V q2780 q2782 qs66 q151 q2783) gz_544 (by decide) rfl rfl (gx_catn (Nat.le_of_ble_eq_true rfl)) dX9_scriptHere_15 ?_
    replace hf := gx_ite hf
    rcases hf with ⟨c6, hf⟩ | ⟨c6, hf⟩
    · refine gx_ifz_eq_f (tgt := 23) C dX9_scriptHere_18 rfl c6 ?_
      refine gx_iconst (v := 2) C dX9_scriptHere_21 rfl ?_
      obtain rfl := Option.some.inj hf
      exact gx_iret C dX9_scriptHere_22
    · refine gx_ifz_eq_t (tgt := 23) C dX9_scriptHere_18 rfl c6 ?_
      refine gx_aload_n C dX9_scriptHere_23 0 rfl ?_
      refine gx_ldcwS C 50 rfl dX9_scriptHere_24 ?_
      replace hf := gx_bs hf
      obtain ⟨b8, g7, hf⟩ := hf
      refine gx_callV (st := []) C (w_X9_isWord hlt g7) mh_is gz_497 rfl (lw_V q2780 q2782 qs66 q151 q2783) gz_544 (by decide) rfl rfl (gx_catn (Nat.le_of_ble_eq_true rfl)) dX9_scriptHere_27 ?_
      replace hf := gx_ite hf
      rcases hf with ⟨c9, hf⟩ | ⟨c9, hf⟩
      · refine gx_ifz_eq_f (tgt := 35) C dX9_scriptHere_30 rfl c9 ?_
        refine gx_iconst (v := 3) C dX9_scriptHere_33 rfl ?_
        obtain rfl := Option.some.inj hf
        exact gx_iret C dX9_scriptHere_34
      · refine gx_ifz_eq_t (tgt := 35) C dX9_scriptHere_30 rfl c9 ?_
        refine gx_aload_n C dX9_scriptHere_35 0 rfl ?_
        refine gx_ldcwS C 51 rfl dX9_scriptHere_36 ?_
        replace hf := gx_bs hf
        obtain ⟨b11, g10, hf⟩ := hf
        refine gx_callV (st := []) C (w_X9_isWord hlt g10) mh_is gz_497 rfl (lw_V q2780 q2782 qs66 q151 q2783) gz_544 (by decide) rfl rfl (gx_catn (Nat.le_of_ble_eq_true rfl)) dX9_scriptHere_39 ?_
        replace hf := gx_ite hf
        rcases hf with ⟨c12, hf⟩ | ⟨c12, hf⟩
        · refine gx_ifz_eq_f (tgt := 49) C dX9_scriptHere_42 rfl c12 ?_
          refine gx_iconst (v := 4) C dX9_scriptHere_45 rfl ?_
          refine gx_goto (tgt := 50) C dX9_scriptHere_46 rfl ?_
          obtain rfl := Option.some.inj hf
          exact gx_iret C dX9_scriptHere_50
        · refine gx_ifz_eq_t (tgt := 49) C dX9_scriptHere_42 rfl c12 ?_
          refine gx_iconst (v := 0) C dX9_scriptHere_49 rfl ?_
          obtain rfl := Option.some.inj hf
          exact gx_iret C dX9_scriptHere_50
theorem w_X9_scriptHere {l : Launch} (hlt : l.stackTraces = false) {D : gx_D} {b : HX} {o : Nat} {h : MS} {r : Int32} (hf : f_X9_scriptHere D b o h = some r) : gx_Met l yX9_scriptHere cX9_scriptHere 1 (some .int) 6 131 D [(va_rf (some o))] (mh b o h) (some (.int r)) (mh b o h) :=
  gx_ofG gz_495 (by simp only [gx_lsr, gx_lsi, gx_lsj, gx_ls0]; decide) gx_le.rf (fun p e R s m args below meth c C hx => by
    simp only [gx_lar, gx_lai, gx_laj, gx_la0, Nat.reduceAdd]
    exact w_X9_scriptHere_b hlt C hx hf)
def f_X9_takesRest (D : gx_D) (b : HX) (o : Nat) (h : MS) (p1 : Int32) : Option ((Bool) × MS) :=
  (f_X9_advanceToken D b o h).bind fun h2 =>
  if p1 = (1 : Int32) then
  gx_b2 (f_X9_takesKnown D b o h2 (0 : Int32) (427 : Int32) (1 : Int32)) fun b5 h6 =>
  some (b5, h6)
  else
  if p1 = (2 : Int32) then
  gx_b2 (f_X9_takesKnown D b o h2 (0 : Int32) (483 : Int32) (2 : Int32)) fun b9 h10 =>
  if b9 = true then
  gx_b2 (f_X9_takes D b o h10 (1 : Int32)) fun b13 h14 =>
  if b13 = true then
  some (true, h14)
  else
  some (false, h14)
  else
  some (false, h10)
  else
  some (true, h2)
theorem w_X9_takesRest_b {l : Launch} (hlt : l.stackTraces = false) {p : Program} {e : Env} {R : Room} {s : State} {m : MethodId} {args : Array Value} {below : List Frame} {meth : Method} {c : Code} {D : gx_D} {b : HX} {o : Nat} {h0 : MS} {r : Bool} {hz : MS} (C : gx_Ctx p R s m args meth c "ContractMachineModel" cX9_takesRest 2 (some .boolean) 6 131 D (mh b o h0) (mh b o hz)) (hx : meth.name = "takesRest") {p1 : Int32} (hf : f_X9_takesRest D b o h0 p1 = some (r, hz)) : gx_G p l e R s m args below meth c D (mh b o h0) (mh b o hz) 2 (gx_MQ below args s D (mh b o h0) (mh b o hz) (some (.int (b2i r)))) 0 [(0, (va_rf (some o))), (1, (.int p1))] [] (mh b o h0) := by
  unfold f_X9_takesRest at hf
  refine gx_aload_n C dX9_takesRest_0 0 rfl ?_
  replace hf := gx_bs hf
  obtain ⟨h2, g1, hf⟩ := hf
  refine gx_callV (st := []) C (w_X9_advanceToken hlt g1) mh_is gz_497 rfl (lw_V q2759 q2761 qs61 q151 q2762) gz_543 (by decide) rfl rfl (gx_catn (Nat.le_of_ble_eq_true rfl)) dX9_takesRest_1 ?_
  refine gx_iload_n C dX9_takesRest_4 1 rfl ?_
  replace hf := gx_ite hf
  rcases hf with ⟨c3, hf⟩ | ⟨c3, hf⟩
  · refine gx_lsw (tgt := 32) (off := 27) C dX9_takesRest_5 (by decide) (by rw [c3]; decide) rfl ?_
    refine gx_aload_n C dX9_takesRest_32 0 rfl ?_
    refine gx_iconst (v := 0) C dX9_takesRest_33 rfl ?_
    refine gx_sipush (v := 427) C dX9_takesRest_34 rfl ?_
    refine gx_iconst (v := 1) C dX9_takesRest_37 rfl ?_
    replace hf := gx_b2s hf
    obtain ⟨b5, h6, g4, hf⟩ := hf
    refine gx_callV (st := []) C (w_X9_takesKnown hlt g4) mh_is gz_497 rfl (lw_V q2833 q2835 qs78 q151 q2836) gz_548 (by decide) rfl rfl (gx_catn (Nat.le_of_ble_eq_true rfl)) dX9_takesRest_38 ?_
    obtain ⟨rfl, rfl⟩ := Prod.mk.inj (Option.some.inj hf)
    exact gx_zret (b := _) C dX9_takesRest_41
  replace hf := gx_ite hf
  rcases hf with ⟨c7, hf⟩ | ⟨c7, hf⟩
  · refine gx_lsw (tgt := 42) (off := 37) C dX9_takesRest_5 (by decide) (by rw [c7]; decide) rfl ?_
    refine gx_aload_n C dX9_takesRest_42 0 rfl ?_
    refine gx_iconst (v := 0) C dX9_takesRest_43 rfl ?_
    refine gx_sipush (v := 483) C dX9_takesRest_44 rfl ?_
    refine gx_iconst (v := 2) C dX9_takesRest_47 rfl ?_
    replace hf := gx_b2s hf
    obtain ⟨b9, h10, g8, hf⟩ := hf
    refine gx_callV (st := []) C (w_X9_takesKnown hlt g8) mh_is gz_497 rfl (lw_V q2833 q2835 qs78 q151 q2836) gz_548 (by decide) rfl rfl (gx_catn (Nat.le_of_ble_eq_true rfl)) dX9_takesRest_48 ?_
    replace hf := gx_ite hf
    rcases hf with ⟨c11, hf⟩ | ⟨c11, hf⟩
    · refine gx_ifz_eq_f (tgt := 66) C dX9_takesRest_51 rfl c11 ?_
      refine gx_aload_n C dX9_takesRest_54 0 rfl ?_
      refine gx_iconst (v := 1) C dX9_takesRest_55 rfl ?_
      replace hf := gx_b2s hf
      obtain ⟨b13, h14, g12, hf⟩ := hf
      refine gx_callV (st := []) C (w_X9_takes hlt g12) mh_is gz_497 rfl (lw_V q2810 q2812 qs73 q151 q2813) gz_551 (by decide) rfl rfl (gx_catn (Nat.le_of_ble_eq_true rfl)) dX9_takesRest_56 ?_
      replace hf := gx_ite hf
      rcases hf with ⟨c15, hf⟩ | ⟨c15, hf⟩
      · refine gx_ifz_eq_f (tgt := 66) C dX9_takesRest_59 rfl c15 ?_
        refine gx_iconst (v := 1) C dX9_takesRest_62 rfl ?_
        refine gx_goto (tgt := 67) C dX9_takesRest_63 rfl ?_
        obtain ⟨rfl, rfl⟩ := Prod.mk.inj (Option.some.inj hf)
        exact gx_zret (b := true) C dX9_takesRest_67
      · refine gx_ifz_eq_t (tgt := 66) C dX9_takesRest_59 rfl c15 ?_
        refine gx_iconst (v := 0) C dX9_takesRest_66 rfl ?_
        obtain ⟨rfl, rfl⟩ := Prod.mk.inj (Option.some.inj hf)
        exact gx_zret (b := false) C dX9_takesRest_67
    · refine gx_ifz_eq_t (tgt := 66) C dX9_takesRest_51 rfl c11 ?_
      refine gx_iconst (v := 0) C dX9_takesRest_66 rfl ?_
      obtain ⟨rfl, rfl⟩ := Prod.mk.inj (Option.some.inj hf)
      exact gx_zret (b := false) C dX9_takesRest_67
  refine gx_lsw (tgt := 68) (off := 63) C dX9_takesRest_5 (by decide) (gx_lswd (gx_lq1 (gx_lsn2 (by decide) c3) (gx_lq1 (gx_lsn2 (by decide) c7) gx_lq0))) rfl ?_
  refine gx_iconst (v := 1) C dX9_takesRest_68 rfl ?_
  obtain ⟨rfl, rfl⟩ := Prod.mk.inj (Option.some.inj hf)
  exact gx_zret (b := true) C dX9_takesRest_69
theorem w_X9_takesRest {l : Launch} (hlt : l.stackTraces = false) {D : gx_D} {b : HX} {o : Nat} {h : MS} {p1 : Int32} {r : Bool} {hz : MS} (hf : f_X9_takesRest D b o h p1 = some (r, hz)) : gx_Met l yX9_takesRest cX9_takesRest 2 (some .boolean) 6 131 D [(va_rf (some o)), (.int p1)] (mh b o h) (some (.int (b2i r))) (mh b o hz) :=
  gx_ofG gz_495 (by simp only [gx_lsr, gx_lsi, gx_lsj, gx_ls0]; decide) mh_le (fun p e R s m args below meth c C hx => by
    simp only [gx_lar, gx_lai, gx_laj, gx_la0, Nat.reduceAdd]
    exact w_X9_takesRest_b hlt C hx hf)
def f_X9_readScriptStatement (D : gx_D) (b : HX) (o : Nat) (h : MS) : Option ((Bool) × MS) :=
  (f_X9_scriptHere D b o h).bind fun x2 =>
  if x2 = 0 then
  gx_b2 (f_X9_failsAt D b o h (1 : Int32)) fun b5 h6 =>
  some (b5, h6)
  else
  if (h.1 26) = (30 : Int32) then
  gx_b2 (f_X9_failsAt D b o h (5 : Int32)) fun b9 h10 =>
  some (b9, h10)
  else
  gx_b2 (f_X9_takesRest D b o h x2) fun b12 h13 =>
  if b12 = true then
  (ms_si h13 8 (h13.1 26) x2).bind fun h15 =>
  (ms_ai h15 7 (0 : Int32)).bind fun x16 =>
  (ms_si h15 9 ((2 : Int32) * (h15.1 26)) x16).bind fun h17 =>
  (ms_ai h17 7 (1 : Int32)).bind fun x18 =>
  (ms_si h17 9 (((2 : Int32) * (h17.1 26)) + (1 : Int32)) x18).bind fun h19 =>
  (ms_pf h19 26 ((h19.1 26) + (1 : Int32))).bind fun h20 =>
  gx_b2 (f_X9_takesSemicolon D b o h20) fun b22 h23 =>
  some (b22, h23)
  else
  some (false, h13)
theorem w_X9_readScriptStatement_b {l : Launch} (hlt : l.stackTraces = false) {p : Program} {e : Env} {R : Room} {s : State} {m : MethodId} {args : Array Value} {below : List Frame} {meth : Method} {c : Code} {D : gx_D} {b : HX} {o : Nat} {h0 : MS} {r : Bool} {hz : MS} (C : gx_Ctx p R s m args meth c "ContractMachineModel" cX9_readScriptStatement 2 (some .boolean) 7 152 D (mh b o h0) (mh b o hz)) (hx : meth.name = "readScriptStatement") (hf : f_X9_readScriptStatement D b o h0 = some (r, hz)) : gx_G p l e R s m args below meth c D (mh b o h0) (mh b o hz) 2 (gx_MQ below args s D (mh b o h0) (mh b o hz) (some (.int (b2i r)))) 0 [(0, (va_rf (some o)))] [] (mh b o h0) := by
  unfold f_X9_readScriptStatement at hf
  refine gx_aload_n C dX9_readScriptStatement_0 0 rfl ?_
  replace hf := gx_bs hf
  obtain ⟨x2, g1, hf⟩ := hf
  refine gx_callV (st := []) C (w_X9_scriptHere hlt g1) mh_is gz_497 rfl (lw_V q2915 q2917 qs91 q151 q2918) gz_584 (by decide) rfl rfl (gx_catn (Nat.le_of_ble_eq_true rfl)) dX9_readScriptStatement_1 ?_
  refine gx_istn C dX9_readScriptStatement_4 1 rfl (by decide) [0]  rfl (gx_okr rfl gx_catv_r gx_ok0) ?_
  refine gx_iload_n C dX9_readScriptStatement_5 0 rfl ?_
  replace hf := gx_ite hf
  rcases hf with ⟨c3, hf⟩ | ⟨c3, hf⟩
  · refine gx_if_ne_f (tgt := 15) C dX9_readScriptStatement_6 rfl c3 ?_
    refine gx_aload_n C dX9_readScriptStatement_9 1 rfl ?_
    refine gx_iconst (v := 1) C dX9_readScriptStatement_10 rfl ?_
    replace hf := gx_b2s hf
    obtain ⟨b5, h6, g4, hf⟩ := hf
    refine gx_callV (st := []) C (w_X9_failsAt hlt g4) mh_is gz_497 rfl (lw_V q2790 q2792 qs68 q151 q2793) gz_540 (by decide) rfl rfl (gx_catn (Nat.le_of_ble_eq_true rfl)) dX9_readScriptStatement_11 ?_
    obtain ⟨rfl, rfl⟩ := Prod.mk.inj (Option.some.inj hf)
    exact gx_zret (b := _) C dX9_readScriptStatement_14
  · refine gx_if_ne_t (tgt := 15) C dX9_readScriptStatement_6 rfl c3 ?_
    refine gx_aload_n C dX9_readScriptStatement_15 1 rfl ?_
    refine gx_gi C (mh_gi (k := 26) rfl) gz_562 q2660 dX9_readScriptStatement_16 ?_
    refine gx_bipush (v := 30) C dX9_readScriptStatement_19 rfl ?_
    replace hf := gx_ite hf
    rcases hf with ⟨c7, hf⟩ | ⟨c7, hf⟩
    · refine gx_icmp_ne_f (tgt := 30) C dX9_readScriptStatement_21 rfl c7 ?_
      refine gx_aload_n C dX9_readScriptStatement_24 1 rfl ?_
      refine gx_iconst (v := 5) C dX9_readScriptStatement_25 rfl ?_
      replace hf := gx_b2s hf
      obtain ⟨b9, h10, g8, hf⟩ := hf
      refine gx_callV (st := []) C (w_X9_failsAt hlt g8) mh_is gz_497 rfl (lw_V q2790 q2792 qs68 q151 q2793) gz_540 (by decide) rfl rfl (gx_catn (Nat.le_of_ble_eq_true rfl)) dX9_readScriptStatement_26 ?_
      obtain ⟨rfl, rfl⟩ := Prod.mk.inj (Option.some.inj hf)
      exact gx_zret (b := _) C dX9_readScriptStatement_29
    · refine gx_icmp_ne_t (tgt := 30) C dX9_readScriptStatement_21 rfl c7 ?_
      refine gx_aload_n C dX9_readScriptStatement_30 1 rfl ?_
      refine gx_iload_n C dX9_readScriptStatement_31 0 rfl ?_
      replace hf := gx_b2s hf
      obtain ⟨b12, h13, g11, hf⟩ := hf
      refine gx_callV (st := []) C (w_X9_takesRest hlt g11) mh_is gz_497 rfl (lw_V q2922 q2924 qs92 q151 q2925) gz_585 (by decide) rfl rfl (gx_catn (Nat.le_of_ble_eq_true rfl)) dX9_readScriptStatement_32 ?_
      replace hf := gx_ite hf
      rcases hf with ⟨c14, hf⟩ | ⟨c14, hf⟩
      · refine gx_ifz_ne_t (tgt := 40) C dX9_readScriptStatement_35 rfl c14 ?_
        refine gx_aload_n C dX9_readScriptStatement_40 1 rfl ?_
        refine gx_gr C (mh_gr (k := 24) rfl) gz_506 q2658 dX9_readScriptStatement_41 ?_
        refine gx_aload_n C dX9_readScriptStatement_44 1 rfl ?_
        refine gx_gi C (mh_gi (k := 26) rfl) gz_562 q2660 dX9_readScriptStatement_45 ?_
        refine gx_iload_n C dX9_readScriptStatement_48 0 rfl ?_
        replace hf := gx_bs hf
        obtain ⟨h15, g29, hf⟩ := hf
        refine gx_iast C (mh_si g29) dX9_readScriptStatement_49 ?_
        refine gx_aload_n C dX9_readScriptStatement_50 1 rfl ?_
        refine gx_gr C (mh_gr (k := 25) rfl) gz_507 q2659 dX9_readScriptStatement_51 ?_
        refine gx_iconst (v := 2) C dX9_readScriptStatement_54 rfl ?_
        refine gx_aload_n C dX9_readScriptStatement_55 1 rfl ?_
        refine gx_gi C (mh_gi (k := 26) rfl) gz_562 q2660 dX9_readScriptStatement_56 ?_
        refine gx_imul C dX9_readScriptStatement_59 ?_
        refine gx_aload_n C dX9_readScriptStatement_60 1 rfl ?_
        refine gx_gr C (mh_gr (k := 23) rfl) gz_505 q2657 dX9_readScriptStatement_61 ?_
        refine gx_iconst (v := 0) C dX9_readScriptStatement_64 rfl ?_
        replace hf := gx_bs hf
        obtain ⟨x16, g28, hf⟩ := hf
        refine gx_iald C (mh_ai g28) dX9_readScriptStatement_65 ?_
        replace hf := gx_bs hf
        obtain ⟨h17, g27, hf⟩ := hf
        refine gx_iast C (mh_si g27) dX9_readScriptStatement_66 ?_
        refine gx_aload_n C dX9_readScriptStatement_67 1 rfl ?_
        refine gx_gr C (mh_gr (k := 25) rfl) gz_507 q2659 dX9_readScriptStatement_68 ?_
        refine gx_iconst (v := 2) C dX9_readScriptStatement_71 rfl ?_
        refine gx_aload_n C dX9_readScriptStatement_72 1 rfl ?_
        refine gx_gi C (mh_gi (k := 26) rfl) gz_562 q2660 dX9_readScriptStatement_73 ?_
        refine gx_imul C dX9_readScriptStatement_76 ?_
        refine gx_iconst (v := 1) C dX9_readScriptStatement_77 rfl ?_
        refine gx_iadd C dX9_readScriptStatement_78 ?_
        refine gx_aload_n C dX9_readScriptStatement_79 1 rfl ?_
        refine gx_gr C (mh_gr (k := 23) rfl) gz_505 q2657 dX9_readScriptStatement_80 ?_
        refine gx_iconst (v := 1) C dX9_readScriptStatement_83 rfl ?_
        replace hf := gx_bs hf
        obtain ⟨x18, g26, hf⟩ := hf
        refine gx_iald C (mh_ai g26) dX9_readScriptStatement_84 ?_
        replace hf := gx_bs hf
        obtain ⟨h19, g25, hf⟩ := hf
        refine gx_iast C (mh_si g25) dX9_readScriptStatement_85 ?_
        refine gx_aload_n C dX9_readScriptStatement_86 1 rfl ?_
        refine gx_dup C dX9_readScriptStatement_87 rfl ?_
        refine gx_gi C (mh_gi (k := 26) rfl) gz_562 q2660 dX9_readScriptStatement_88 ?_
        refine gx_iconst (v := 1) C dX9_readScriptStatement_91 rfl ?_
        refine gx_iadd C dX9_readScriptStatement_92 ?_
        replace hf := gx_bs hf
        obtain ⟨h20, g24, hf⟩ := hf
        refine gx_putv C (mh_pg (by decide) (fun _ _ => mh_p26) g24) gz_562 gz_1 rfl rfl q2660 dX9_readScriptStatement_93 ?_
        refine gx_aload_n C dX9_readScriptStatement_96 1 rfl ?_
        replace hf := gx_b2s hf
        obtain ⟨b22, h23, g21, hf⟩ := hf
        refine gx_callV (st := []) C (w_X9_takesSemicolon hlt g21) mh_is gz_497 rfl (lw_V q2822 q2824 qs76 q151 q2825) gz_554 (by decide) rfl rfl (gx_catn (Nat.le_of_ble_eq_true rfl)) dX9_readScriptStatement_97 ?_
        obtain ⟨rfl, rfl⟩ := Prod.mk.inj (Option.some.inj hf)
        exact gx_zret (b := _) C dX9_readScriptStatement_100
      · refine gx_ifz_ne_f (tgt := 40) C dX9_readScriptStatement_35 rfl c14 ?_
        refine gx_iconst (v := 0) C dX9_readScriptStatement_38 rfl ?_
        obtain ⟨rfl, rfl⟩ := Prod.mk.inj (Option.some.inj hf)
        exact gx_zret (b := false) C dX9_readScriptStatement_39
theorem w_X9_readScriptStatement {l : Launch} (hlt : l.stackTraces = false) {D : gx_D} {b : HX} {o : Nat} {h : MS} {r : Bool} {hz : MS} (hf : f_X9_readScriptStatement D b o h = some (r, hz)) : gx_Met l yX9_readScriptStatement cX9_readScriptStatement 2 (some .boolean) 7 152 D [(va_rf (some o))] (mh b o h) (some (.int (b2i r))) (mh b o hz) :=
  gx_ofG gz_495 (by simp only [gx_lsr, gx_lsi, gx_lsj, gx_ls0]; decide) mh_le (fun p e R s m args below meth c C hx => by
    simp only [gx_lar, gx_lai, gx_laj, gx_la0, Nat.reduceAdd]
    exact w_X9_readScriptStatement_b hlt C hx hf)
def f_X9_remembers_b50 (D : gx_D) (b : HX) (o : Nat) (h : MS) : Option MS :=
  (f_X9_copies D b o h 0 (0 : Int32) 3 ((504 : Int32) * (h.1 4))).bind fun h5 =>
  (ms_pf h5 4 ((h5.1 4) + (1 : Int32))).bind fun h6 =>
  some h6
theorem w_X9_remembers_b50 {l : Launch} (hlt : l.stackTraces = false) {p : Program} {e : Env} {R : Room} {s : State} {m : MethodId} {args : Array Value} {below : List Frame} {meth : Method} {c : Code} {D : gx_D} {b : HX} {o : Nat} {h0 : MS} {hz : MS} (C : gx_Ctx p R s m args meth c "ContractMachineModel" cX9_remembers 2 none 2 48 D (mh b o h0) (mh b o hz)) (hx : meth.name = "remembers")  {h : MS} (hf : f_X9_remembers_b50 D b o h = some hz) : gx_G p l e R s m args below meth c D (mh b o h0) (mh b o hz) 2 (gx_MQ below args s D (mh b o h0) (mh b o hz) none) 50 [(0, (va_rf (some o)))] [] (mh b o h) := by
  unfold f_X9_remembers_b50 at hf
  refine gx_aload_n C dX9_remembers_50 0 rfl ?_
  refine gx_gr C (mh_gr (k := 0) rfl) gz_494 q2634 dX9_remembers_51 ?_
  refine gx_iconst (v := 0) C dX9_remembers_54 rfl ?_
  refine gx_aload_n C dX9_remembers_55 0 rfl ?_
  refine gx_gr C (mh_gr (k := 3) rfl) gz_500 q2637 dX9_remembers_56 ?_
  refine gx_sipush (v := 504) C dX9_remembers_59 rfl ?_
  refine gx_aload_n C dX9_remembers_62 0 rfl ?_
  refine gx_gi C (mh_gi (k := 4) rfl) gz_566 q2638 dX9_remembers_63 ?_
  refine gx_imul C dX9_remembers_66 ?_
  replace hf := gx_bs hf
  obtain ⟨h5, g4, hf⟩ := hf
  refine gx_callS (st := []) C (w_X9_copies hlt g4) (lw_S q2752 q2753 q151 q2754) gz_568 (by decide) rfl rfl (gx_catn (Nat.le_of_ble_eq_true rfl)) dX9_remembers_67 ?_
  refine gx_aload_n C dX9_remembers_70 0 rfl ?_
  refine gx_dup C dX9_remembers_71 rfl ?_
  refine gx_gi C (mh_gi (k := 4) rfl) gz_566 q2638 dX9_remembers_72 ?_
  refine gx_iconst (v := 1) C dX9_remembers_75 rfl ?_
  refine gx_iadd C dX9_remembers_76 ?_
  replace hf := gx_bs hf
  obtain ⟨h6, g7, hf⟩ := hf
  refine gx_putv C (mh_pg (by decide) (fun _ _ => mh_p4) g7) gz_566 gz_1 rfl rfl q2638 dX9_remembers_77 ?_
  obtain rfl := Option.some.inj hf
  exact gx_vret C dX9_remembers_80
def f_X9_remembers_b40 (D : gx_D) (b : HX) (o : Nat) (h : MS) : Option MS :=
  (ms_pf h 4 ((h.1 4) - (1 : Int32))).bind fun h3 =>
  f_X9_remembers_b50 D b o h3
theorem w_X9_remembers_b40 {l : Launch} (hlt : l.stackTraces = false) {p : Program} {e : Env} {R : Room} {s : State} {m : MethodId} {args : Array Value} {below : List Frame} {meth : Method} {c : Code} {D : gx_D} {b : HX} {o : Nat} {h0 : MS} {hz : MS} (C : gx_Ctx p R s m args meth c "ContractMachineModel" cX9_remembers 2 none 2 48 D (mh b o h0) (mh b o hz)) (hx : meth.name = "remembers")  {h : MS} (hf : f_X9_remembers_b40 D b o h = some hz) : gx_G p l e R s m args below meth c D (mh b o h0) (mh b o hz) 2 (gx_MQ below args s D (mh b o h0) (mh b o hz) none) 40 [(0, (va_rf (some o)))] [] (mh b o h) := by
  unfold f_X9_remembers_b40 at hf
  refine gx_aload_n C dX9_remembers_40 0 rfl ?_
  refine gx_dup C dX9_remembers_41 rfl ?_
  refine gx_gi C (mh_gi (k := 4) rfl) gz_566 q2638 dX9_remembers_42 ?_
  refine gx_iconst (v := 1) C dX9_remembers_45 rfl ?_
  refine gx_isub C dX9_remembers_46 ?_
  replace hf := gx_bs hf
  obtain ⟨h3, g8, hf⟩ := hf
  refine gx_putv C (mh_pg (by decide) (fun _ _ => mh_p4) g8) gz_566 gz_1 rfl rfl q2638 dX9_remembers_47 ?_
  refine gx_sub [0] rfl ?_
  exact w_X9_remembers_b50 hlt C hx hf
def f_X9_remembers_b11 (D : gx_D) (b : HX) (o : Nat) : Nat → MS → Int32 → Option MS
  | 0, _, _ => none
  | n + 1, h, v1 =>
  if (3528 : Int32) ≤ v1 then
  f_X9_remembers_b40 D b o h
  else
  (ms_ai h 3 (v1 + (504 : Int32))).bind fun x9 =>
  (ms_si h 3 v1 x9).bind fun h10 =>
  (f_X9_remembers_b11 D b o n) h10 ((v1 + (1 : Int32)))
theorem w_X9_remembers_b11 {l : Launch} (hlt : l.stackTraces = false) {p : Program} {e : Env} {R : Room} {s : State} {m : MethodId} {args : Array Value} {below : List Frame} {meth : Method} {c : Code} {D : gx_D} {b : HX} {o : Nat} {h0 : MS} {hz : MS} (C : gx_Ctx p R s m args meth c "ContractMachineModel" cX9_remembers 2 none 2 48 D (mh b o h0) (mh b o hz)) (hx : meth.name = "remembers")  : ∀ (n : Nat) ⦃h : MS⦄ ⦃v1 : Int32⦄, f_X9_remembers_b11 D b o n h v1 = some hz → gx_G p l e R s m args below meth c D (mh b o h0) (mh b o hz) 2 (gx_MQ below args s D (mh b o h0) (mh b o hz) none) 11 [(0, (va_rf (some o))), (1, (.int v1))] [] (mh b o h) := by
  intro n
  induction n with
  | zero => intro h v1 hf; unfold f_X9_remembers_b11 at hf; cases hf
  | succ n wk11 =>
    intro h v1 hf
    unfold f_X9_remembers_b11 at hf
    refine gx_iload_n C dX9_remembers_11 1 rfl ?_
    refine gx_sipush (v := 3528) C dX9_remembers_12 rfl ?_
    replace hf := gx_ite hf
    rcases hf with ⟨c2, hf⟩ | ⟨c2, hf⟩
    · refine gx_icmp_ge_t (tgt := 40) C dX9_remembers_15 rfl c2 ?_
      refine gx_sub [0] rfl ?_
      exact w_X9_remembers_b40 hlt C hx hf
    · refine gx_icmp_ge_f (tgt := 40) C dX9_remembers_15 rfl c2 ?_
      refine gx_aload_n C dX9_remembers_18 0 rfl ?_
      refine gx_gr C (mh_gr (k := 3) rfl) gz_500 q2637 dX9_remembers_19 ?_
      refine gx_iload_n C dX9_remembers_22 1 rfl ?_
      refine gx_aload_n C dX9_remembers_23 0 rfl ?_
      refine gx_gr C (mh_gr (k := 3) rfl) gz_500 q2637 dX9_remembers_24 ?_
      refine gx_iload_n C dX9_remembers_27 1 rfl ?_
      refine gx_sipush (v := 504) C dX9_remembers_28 rfl ?_
      refine gx_iadd C dX9_remembers_31 ?_
      replace hf := gx_bs hf
      obtain ⟨x9, g12, hf⟩ := hf
      refine gx_iald C (mh_ai g12) dX9_remembers_32 ?_
      replace hf := gx_bs hf
      obtain ⟨h10, g11, hf⟩ := hf
      refine gx_iast C (mh_si g11) dX9_remembers_33 ?_
      refine gx_inc (v := 1) C dX9_remembers_34 1 rfl rfl (by decide) [0] rfl (gx_okr rfl gx_catv_r gx_ok0) ?_
      refine gx_goto (tgt := 11) C dX9_remembers_37 rfl ?_
      refine gx_sub [1, 0] rfl ?_
      exact wk11 hf
def f_X9_remembers (D : gx_D) (b : HX) (o : Nat) (h : MS) : Option MS :=
  if (h.1 4) = (8 : Int32) then
  f_X9_remembers_b11 D b o gx_fuel h ((0 : Int32))
  else
  f_X9_remembers_b50 D b o h
theorem w_X9_remembers_b {l : Launch} (hlt : l.stackTraces = false) {p : Program} {e : Env} {R : Room} {s : State} {m : MethodId} {args : Array Value} {below : List Frame} {meth : Method} {c : Code} {D : gx_D} {b : HX} {o : Nat} {h0 : MS} {hz : MS} (C : gx_Ctx p R s m args meth c "ContractMachineModel" cX9_remembers 2 none 2 48 D (mh b o h0) (mh b o hz)) (hx : meth.name = "remembers") (hf : f_X9_remembers D b o h0 = some hz) : gx_G p l e R s m args below meth c D (mh b o h0) (mh b o hz) 2 (gx_MQ below args s D (mh b o h0) (mh b o hz) none) 0 [(0, (va_rf (some o)))] [] (mh b o h0) := by
  unfold f_X9_remembers at hf
  refine gx_aload_n C dX9_remembers_0 0 rfl ?_
  refine gx_gi C (mh_gi (k := 4) rfl) gz_566 q2638 dX9_remembers_1 ?_
  refine gx_bipush (v := 8) C dX9_remembers_4 rfl ?_
  replace hf := gx_ite hf
  rcases hf with ⟨c1, hf⟩ | ⟨c1, hf⟩
  · refine gx_icmp_ne_f (tgt := 50) C dX9_remembers_6 rfl c1 ?_
    refine gx_iconst (v := 0) C dX9_remembers_9 rfl ?_
    refine gx_istn C dX9_remembers_10 1 rfl (by decide) [0]  rfl (gx_okr rfl gx_catv_r gx_ok0) ?_
    refine gx_sub [1, 0] rfl ?_
    exact w_X9_remembers_b11 hlt C hx gx_fuel hf
  · refine gx_icmp_ne_t (tgt := 50) C dX9_remembers_6 rfl c1 ?_
    refine gx_sub [0] rfl ?_
    exact w_X9_remembers_b50 hlt C hx hf
theorem w_X9_remembers {l : Launch} (hlt : l.stackTraces = false) {D : gx_D} {b : HX} {o : Nat} {h : MS} {hz : MS} (hf : f_X9_remembers D b o h = some hz) : gx_Met l yX9_remembers cX9_remembers 2 none 2 48 D [(va_rf (some o))] (mh b o h) none (mh b o hz) :=
  gx_ofG gz_495 (by simp only [gx_lsr, gx_lsi, gx_lsj, gx_ls0]; decide) mh_le (fun p e R s m args below meth c C hx => by
    simp only [gx_lar, gx_lai, gx_laj, gx_la0, Nat.reduceAdd]
    exact w_X9_remembers_b hlt C hx hf)
def f_X9_runScript_b46 (D : gx_D) (b : HX) (o : Nat) : Nat → MS → Int32 → Option ((Int32) × MS)
  | 0, _, _ => none
  | n + 1, h, v2 =>
  if (h.1 26) ≤ v2 then
  some (v2, h)
  else
  gx_b2 (f_X9_does D b o h v2) fun b13 h14 =>
  if b13 = true then
  (f_X9_runScript_b46 D b o n) h14 ((v2 + (1 : Int32)))
  else
  some (v2, h14)
theorem w_X9_runScript_b46 {l : Launch} (hlt : l.stackTraces = false) {p : Program} {e : Env} {R : Room} {s : State} {m : MethodId} {args : Array Value} {below : List Frame} {meth : Method} {c : Code} {D : gx_D} {b : HX} {o : Nat} {h0 : MS} {r : Int32} {hz : MS} (C : gx_Ctx p R s m args meth c "ContractMachineModel" cX9_runScript 3 (some .int) 9 203 D (mh b o h0) (mh b o hz)) (hx : meth.name = "runScript")  : ∀ (n : Nat) ⦃h : MS⦄ ⦃v2 : Int32⦄, f_X9_runScript_b46 D b o n h v2 = some (r, hz) → gx_G p l e R s m args below meth c D (mh b o h0) (mh b o hz) 3 (gx_MQ below args s D (mh b o h0) (mh b o hz) (some (.int r))) 46 [(0, (va_rf (some o))), (2, (.int v2))] [] (mh b o h) := by
  intro n
  induction n with
  | zero => intro h v2 hf; unfold f_X9_runScript_b46 at hf; cases hf
  | succ n wk46 =>
    intro h v2 hf
    unfold f_X9_runScript_b46 at hf
    refine gx_iload_n C dX9_runScript_46 1 rfl ?_
    refine gx_aload_n C dX9_runScript_47 0 rfl ?_
    refine gx_gi C (mh_gi (k := 26) rfl) gz_562 q2660 dX9_runScript_48 ?_
    replace hf := gx_ite hf
    rcases hf with ⟨c11, hf⟩ | ⟨c11, hf⟩
    · refine gx_icmp_ge_t (tgt := 68) C dX9_runScript_51 rfl c11 ?_
      refine gx_iload_n C dX9_runScript_68 1 rfl ?_
      obtain ⟨rfl, rfl⟩ := Prod.mk.inj (Option.some.inj hf)
      exact gx_iret C dX9_runScript_69
    · refine gx_icmp_ge_f (tgt := 68) C dX9_runScript_51 rfl c11 ?_
      refine gx_aload_n C dX9_runScript_54 0 rfl ?_
      refine gx_iload_n C dX9_runScript_55 1 rfl ?_
      replace hf := gx_b2s hf
      obtain ⟨b13, h14, g12, hf⟩ := hf
      refine gx_callV (st := []) C (w_X9_does hlt g12) mh_is gz_497 rfl (lw_V q2930 q2932 qs94 q151 q2933) gz_587 (by decide) rfl rfl (gx_catn (Nat.le_of_ble_eq_true rfl)) dX9_runScript_56 ?_
      replace hf := gx_ite hf
      rcases hf with ⟨c15, hf⟩ | ⟨c15, hf⟩
      · refine gx_ifz_eq_f (tgt := 68) C dX9_runScript_59 rfl c15 ?_
        refine gx_inc (v := 1) C dX9_runScript_62 1 rfl rfl (by decide) [0] rfl (gx_okn rfl rfl gx_ok0) ?_
        refine gx_goto (tgt := 46) C dX9_runScript_65 rfl ?_
        refine gx_sub [1, 0] rfl ?_
        exact wk46 hf
      · refine gx_ifz_eq_t (tgt := 68) C dX9_runScript_59 rfl c15 ?_
        refine gx_iload_n C dX9_runScript_68 1 rfl ?_
        obtain ⟨rfl, rfl⟩ := Prod.mk.inj (Option.some.inj hf)
        exact gx_iret C dX9_runScript_69
def f_X9_runScript_b30 (D : gx_D) (b : HX) (o : Nat) (h : MS) (v1 : Bool) : Option ((Int32) × MS) :=
  (f_X9_endsText D b o h).bind fun h7 =>
  if v1 = true then
  (f_X9_remembers D b o h7).bind fun h10 =>
  f_X9_runScript_b46 D b o gx_fuel h10 ((0 : Int32))
  else
  some ((-1 : Int32), h7)
theorem w_X9_runScript_b30 {l : Launch} (hlt : l.stackTraces = false) {p : Program} {e : Env} {R : Room} {s : State} {m : MethodId} {args : Array Value} {below : List Frame} {meth : Method} {c : Code} {D : gx_D} {b : HX} {o : Nat} {h0 : MS} {r : Int32} {hz : MS} (C : gx_Ctx p R s m args meth c "ContractMachineModel" cX9_runScript 3 (some .int) 9 203 D (mh b o h0) (mh b o hz)) (hx : meth.name = "runScript")  {h : MS} {v1 : Bool} (hf : f_X9_runScript_b30 D b o h v1 = some (r, hz)) : gx_G p l e R s m args below meth c D (mh b o h0) (mh b o hz) 3 (gx_MQ below args s D (mh b o h0) (mh b o hz) (some (.int r))) 30 [(0, (va_rf (some o))), (1, (.int (b2i v1)))] [] (mh b o h) := by
  unfold f_X9_runScript_b30 at hf
  refine gx_aload_n C dX9_runScript_30 0 rfl ?_
  replace hf := gx_bs hf
  obtain ⟨h7, g6, hf⟩ := hf
  refine gx_callV (st := []) C (w_X9_endsText hlt g6) mh_is gz_497 rfl (lw_V q2903 q2905 qs89 q151 q2906) gz_565 (by decide) rfl rfl (gx_catn (Nat.le_of_ble_eq_true rfl)) dX9_runScript_31 ?_
  refine gx_iload_n C dX9_runScript_34 1 rfl ?_
  replace hf := gx_ite hf
  rcases hf with ⟨c8, hf⟩ | ⟨c8, hf⟩
  · refine gx_ifz_ne_t (tgt := 40) C dX9_runScript_35 rfl c8 ?_
    refine gx_aload_n C dX9_runScript_40 0 rfl ?_
    replace hf := gx_bs hf
    obtain ⟨h10, g9, hf⟩ := hf
    refine gx_callV (st := []) C (w_X9_remembers hlt g9) mh_is gz_497 rfl (lw_V q2926 q2928 qs93 q151 q2929) gz_586 (by decide) rfl rfl (gx_catn (Nat.le_of_ble_eq_true rfl)) dX9_runScript_41 ?_
    refine gx_iconst (v := 0) C dX9_runScript_44 rfl ?_
    refine gx_istn C dX9_runScript_45 2 rfl (by decide) [0]  rfl (gx_okn rfl rfl gx_ok0) ?_
    refine gx_sub [1, 0] rfl ?_
    exact w_X9_runScript_b46 hlt C hx gx_fuel hf
  · refine gx_ifz_ne_f (tgt := 40) C dX9_runScript_35 rfl c8 ?_
    refine gx_iconst (v := -1) C dX9_runScript_38 rfl ?_
    obtain ⟨rfl, rfl⟩ := Prod.mk.inj (Option.some.inj hf)
    exact gx_iret C dX9_runScript_39
def f_X9_runScript_b11 (D : gx_D) (b : HX) (o : Nat) : Nat → MS → Bool → Option ((Int32) × MS)
  | 0, _, _ => none
  | n + 1, h, v1 =>
  if v1 = true then
  if (h.1 21) = 0 then
  f_X9_runScript_b30 D b o h v1
  else
  gx_b2 (f_X9_readScriptStatement D b o h) fun b17 h18 =>
  (f_X9_runScript_b11 D b o n) h18 b17
  else
  f_X9_runScript_b30 D b o h v1
theorem w_X9_runScript_b11 {l : Launch} (hlt : l.stackTraces = false) {p : Program} {e : Env} {R : Room} {s : State} {m : MethodId} {args : Array Value} {below : List Frame} {meth : Method} {c : Code} {D : gx_D} {b : HX} {o : Nat} {h0 : MS} {r : Int32} {hz : MS} (C : gx_Ctx p R s m args meth c "ContractMachineModel" cX9_runScript 3 (some .int) 9 203 D (mh b o h0) (mh b o hz)) (hx : meth.name = "runScript")  : ∀ (n : Nat) ⦃h : MS⦄ ⦃v1 : Bool⦄, f_X9_runScript_b11 D b o n h v1 = some (r, hz) → gx_G p l e R s m args below meth c D (mh b o h0) (mh b o hz) 3 (gx_MQ below args s D (mh b o h0) (mh b o hz) (some (.int r))) 11 [(0, (va_rf (some o))), (1, (.int (b2i v1)))] [] (mh b o h) := by
  intro n
  induction n with
  | zero => intro h v1 hf; unfold f_X9_runScript_b11 at hf; cases hf
  | succ n wk11 =>
    intro h v1 hf
    unfold f_X9_runScript_b11 at hf
    refine gx_iload_n C dX9_runScript_11 1 rfl ?_
    replace hf := gx_ite hf
    rcases hf with ⟨c4, hf⟩ | ⟨c4, hf⟩
    · refine gx_ifz_eq_f (tgt := 30) C dX9_runScript_12 rfl c4 ?_
      refine gx_aload_n C dX9_runScript_15 0 rfl ?_
      refine gx_gi C (mh_gi (k := 21) rfl) gz_534 q2655 dX9_runScript_16 ?_
      replace hf := gx_ite hf
      rcases hf with ⟨c5, hf⟩ | ⟨c5, hf⟩
      · refine gx_if_eq_t (tgt := 30) C dX9_runScript_19 rfl c5 ?_
        refine gx_sub [0, 1] rfl ?_
        exact w_X9_runScript_b30 hlt C hx hf
      · refine gx_if_eq_f (tgt := 30) C dX9_runScript_19 rfl c5 ?_
        refine gx_aload_n C dX9_runScript_22 0 rfl ?_
        replace hf := gx_b2s hf
        obtain ⟨b17, h18, g16, hf⟩ := hf
        refine gx_callV (st := []) C (w_X9_readScriptStatement hlt g16) mh_is gz_497 rfl (lw_V q2911 q2913 qs90 q151 q2914) gz_588 (by decide) rfl rfl (gx_catn (Nat.le_of_ble_eq_true rfl)) dX9_runScript_23 ?_
        refine gx_istn C dX9_runScript_26 1 rfl (by decide) [0]  rfl (gx_okr rfl gx_catv_r gx_ok0) ?_
        refine gx_goto (tgt := 11) C dX9_runScript_27 rfl ?_
        refine gx_sub [1, 0] rfl ?_
        exact wk11 hf
    · refine gx_ifz_eq_t (tgt := 30) C dX9_runScript_12 rfl c4 ?_
      refine gx_sub [0, 1] rfl ?_
      exact w_X9_runScript_b30 hlt C hx hf
def f_X9_runScript (D : gx_D) (b : HX) (o : Nat) (h : MS) : Option ((Int32) × MS) :=
  (ms_pf h 6 (0 : Int32)).bind fun h1 =>
  (f_X9_startsText D b o h1).bind fun h3 =>
  f_X9_runScript_b11 D b o gx_fuel h3 true
theorem w_X9_runScript_b {l : Launch} (hlt : l.stackTraces = false) {p : Program} {e : Env} {R : Room} {s : State} {m : MethodId} {args : Array Value} {below : List Frame} {meth : Method} {c : Code} {D : gx_D} {b : HX} {o : Nat} {h0 : MS} {r : Int32} {hz : MS} (C : gx_Ctx p R s m args meth c "ContractMachineModel" cX9_runScript 3 (some .int) 9 203 D (mh b o h0) (mh b o hz)) (hx : meth.name = "runScript") (hf : f_X9_runScript D b o h0 = some (r, hz)) : gx_G p l e R s m args below meth c D (mh b o h0) (mh b o hz) 3 (gx_MQ below args s D (mh b o h0) (mh b o hz) (some (.int r))) 0 [(0, (va_rf (some o)))] [] (mh b o h0) := by
  unfold f_X9_runScript at hf
  refine gx_aload_n C dX9_runScript_0 0 rfl ?_
  refine gx_iconst (v := 0) C dX9_runScript_1 rfl ?_
  replace hf := gx_bs hf
  obtain ⟨h1, g19, hf⟩ := hf
  refine gx_putv C (mh_pg (by decide) (fun _ _ => mh_p6) g19) gz_519 gz_1 rfl rfl q2640 dX9_runScript_2 ?_
  refine gx_aload_n C dX9_runScript_5 0 rfl ?_
  replace hf := gx_bs hf
  obtain ⟨h3, g2, hf⟩ := hf
  refine gx_callV (st := []) C (w_X9_startsText hlt g2) mh_is gz_497 rfl (lw_V q2755 q2757 qs60 q151 q2758) gz_563 (by decide) rfl rfl (gx_catn (Nat.le_of_ble_eq_true rfl)) dX9_runScript_6 ?_
  refine gx_iconst (v := 1) C dX9_runScript_9 rfl ?_
  refine gx_istn C dX9_runScript_10 1 rfl (by decide) [0]  rfl (gx_okr rfl gx_catv_r gx_ok0) ?_
  refine gx_sub [1, 0] rfl ?_
  exact w_X9_runScript_b11 hlt C hx gx_fuel hf
theorem w_X9_runScript {l : Launch} (hlt : l.stackTraces = false) {D : gx_D} {b : HX} {o : Nat} {h : MS} {r : Int32} {hz : MS} (hf : f_X9_runScript D b o h = some (r, hz)) : gx_Met l yX9_runScript cX9_runScript 3 (some .int) 9 203 D [(va_rf (some o))] (mh b o h) (some (.int r)) (mh b o hz) :=
  gx_ofG gz_495 (by simp only [gx_lsr, gx_lsi, gx_lsj, gx_ls0]; decide) mh_le (fun p e R s m args below meth c C hx => by
    simp only [gx_lar, gx_lai, gx_laj, gx_la0, Nat.reduceAdd]
    exact w_X9_runScript_b hlt C hx hf)
def f_X9_errorCode (D : gx_D) (b : HX) (o : Nat) (h : MS) : Option ((Int32) × MS) :=
  (ms_pf h 6 (0 : Int32)).bind fun h1 =>
  some ((h1.1 14), h1)
theorem w_X9_errorCode_b {l : Launch} (hlt : l.stackTraces = false) {p : Program} {e : Env} {R : Room} {s : State} {m : MethodId} {args : Array Value} {below : List Frame} {meth : Method} {c : Code} {D : gx_D} {b : HX} {o : Nat} {h0 : MS} {r : Int32} {hz : MS} (C : gx_Ctx p R s m args meth c "ContractMachineModel" cX9_errorCode 1 (some .int) 1 24 D (mh b o h0) (mh b o hz)) (hx : meth.name = "errorCode") (hf : f_X9_errorCode D b o h0 = some (r, hz)) : gx_G p l e R s m args below meth c D (mh b o h0) (mh b o hz) 1 (gx_MQ below args s D (mh b o h0) (mh b o hz) (some (.int r))) 0 [(0, (va_rf (some o)))] [] (mh b o h0) := by
  unfold f_X9_errorCode at hf
  refine gx_aload_n C dX9_errorCode_0 0 rfl ?_
  refine gx_iconst (v := 0) C dX9_errorCode_1 rfl ?_
  replace hf := gx_bs hf
  obtain ⟨h1, g2, hf⟩ := hf
  refine gx_putv C (mh_pg (by decide) (fun _ _ => mh_p6) g2) gz_519 gz_1 rfl rfl q2640 dX9_errorCode_2 ?_
  refine gx_aload_n C dX9_errorCode_5 0 rfl ?_
  refine gx_gi C (mh_gi (k := 14) rfl) gz_524 q2648 dX9_errorCode_6 ?_
  obtain ⟨rfl, rfl⟩ := Prod.mk.inj (Option.some.inj hf)
  exact gx_iret C dX9_errorCode_9
theorem w_X9_errorCode {l : Launch} (hlt : l.stackTraces = false) {D : gx_D} {b : HX} {o : Nat} {h : MS} {r : Int32} {hz : MS} (hf : f_X9_errorCode D b o h = some (r, hz)) : gx_Met l yX9_errorCode cX9_errorCode 1 (some .int) 1 24 D [(va_rf (some o))] (mh b o h) (some (.int r)) (mh b o hz) :=
  gx_ofG gz_495 (by simp only [gx_lsr, gx_lsi, gx_lsj, gx_ls0]; decide) mh_le (fun p e R s m args below meth c C hx => by
    simp only [gx_lar, gx_lai, gx_laj, gx_la0, Nat.reduceAdd]
    exact w_X9_errorCode_b hlt C hx hf)
def f_X9_errorOffset (D : gx_D) (b : HX) (o : Nat) (h : MS) : Option ((Int32) × MS) :=
  (ms_pf h 6 (0 : Int32)).bind fun h1 =>
  some ((h1.1 15), h1)
theorem w_X9_errorOffset_b {l : Launch} (hlt : l.stackTraces = false) {p : Program} {e : Env} {R : Room} {s : State} {m : MethodId} {args : Array Value} {below : List Frame} {meth : Method} {c : Code} {D : gx_D} {b : HX} {o : Nat} {h0 : MS} {r : Int32} {hz : MS} (C : gx_Ctx p R s m args meth c "ContractMachineModel" cX9_errorOffset 1 (some .int) 1 24 D (mh b o h0) (mh b o hz)) (hx : meth.name = "errorOffset") (hf : f_X9_errorOffset D b o h0 = some (r, hz)) : gx_G p l e R s m args below meth c D (mh b o h0) (mh b o hz) 1 (gx_MQ below args s D (mh b o h0) (mh b o hz) (some (.int r))) 0 [(0, (va_rf (some o)))] [] (mh b o h0) := by
  unfold f_X9_errorOffset at hf
  refine gx_aload_n C dX9_errorOffset_0 0 rfl ?_
  refine gx_iconst (v := 0) C dX9_errorOffset_1 rfl ?_
  replace hf := gx_bs hf
  obtain ⟨h1, g2, hf⟩ := hf
  refine gx_putv C (mh_pg (by decide) (fun _ _ => mh_p6) g2) gz_519 gz_1 rfl rfl q2640 dX9_errorOffset_2 ?_
  refine gx_aload_n C dX9_errorOffset_5 0 rfl ?_
  refine gx_gi C (mh_gi (k := 15) rfl) gz_504 q2649 dX9_errorOffset_6 ?_
  obtain ⟨rfl, rfl⟩ := Prod.mk.inj (Option.some.inj hf)
  exact gx_iret C dX9_errorOffset_9
theorem w_X9_errorOffset {l : Launch} (hlt : l.stackTraces = false) {D : gx_D} {b : HX} {o : Nat} {h : MS} {r : Int32} {hz : MS} (hf : f_X9_errorOffset D b o h = some (r, hz)) : gx_Met l yX9_errorOffset cX9_errorOffset 1 (some .int) 1 24 D [(va_rf (some o))] (mh b o h) (some (.int r)) (mh b o hz) :=
  gx_ofG gz_495 (by simp only [gx_lsr, gx_lsi, gx_lsj, gx_ls0]; decide) mh_le (fun p e R s m args below meth c C hx => by
    simp only [gx_lar, gx_lai, gx_laj, gx_la0, Nat.reduceAdd]
    exact w_X9_errorOffset_b hlt C hx hf)
def f_X9_stateCount (D : gx_D) (b : HX) (o : Nat) (h : MS) : Option ((Int32) × MS) :=
  (ms_pf h 6 (0 : Int32)).bind fun h1 =>
  (ms_ai h1 0 (0 : Int32)).bind fun x2 =>
  some (x2, h1)
theorem w_X9_stateCount_b {l : Launch} (hlt : l.stackTraces = false) {p : Program} {e : Env} {R : Room} {s : State} {m : MethodId} {args : Array Value} {below : List Frame} {meth : Method} {c : Code} {D : gx_D} {b : HX} {o : Nat} {h0 : MS} {r : Int32} {hz : MS} (C : gx_Ctx p R s m args meth c "ContractMachineModel" cX9_stateCount 1 (some .int) 1 24 D (mh b o h0) (mh b o hz)) (hx : meth.name = "stateCount") (hf : f_X9_stateCount D b o h0 = some (r, hz)) : gx_G p l e R s m args below meth c D (mh b o h0) (mh b o hz) 1 (gx_MQ below args s D (mh b o h0) (mh b o hz) (some (.int r))) 0 [(0, (va_rf (some o)))] [] (mh b o h0) := by
  unfold f_X9_stateCount at hf
  refine gx_aload_n C dX9_stateCount_0 0 rfl ?_
  refine gx_iconst (v := 0) C dX9_stateCount_1 rfl ?_
  replace hf := gx_bs hf
  obtain ⟨h1, g4, hf⟩ := hf
  refine gx_putv C (mh_pg (by decide) (fun _ _ => mh_p6) g4) gz_519 gz_1 rfl rfl q2640 dX9_stateCount_2 ?_
  refine gx_aload_n C dX9_stateCount_5 0 rfl ?_
  refine gx_gr C (mh_gr (k := 0) rfl) gz_494 q2634 dX9_stateCount_6 ?_
  refine gx_iconst (v := 0) C dX9_stateCount_9 rfl ?_
  replace hf := gx_bs hf
  obtain ⟨x2, g3, hf⟩ := hf
  refine gx_iald C (mh_ai g3) dX9_stateCount_10 ?_
  obtain ⟨rfl, rfl⟩ := Prod.mk.inj (Option.some.inj hf)
  exact gx_iret C dX9_stateCount_11
theorem w_X9_stateCount {l : Launch} (hlt : l.stackTraces = false) {D : gx_D} {b : HX} {o : Nat} {h : MS} {r : Int32} {hz : MS} (hf : f_X9_stateCount D b o h = some (r, hz)) : gx_Met l yX9_stateCount cX9_stateCount 1 (some .int) 1 24 D [(va_rf (some o))] (mh b o h) (some (.int r)) (mh b o hz) :=
  gx_ofG gz_495 (by simp only [gx_lsr, gx_lsi, gx_lsj, gx_ls0]; decide) mh_le (fun p e R s m args below meth c C hx => by
    simp only [gx_lar, gx_lai, gx_laj, gx_la0, Nat.reduceAdd]
    exact w_X9_stateCount_b hlt C hx hf)
def f_X9_eventCount (D : gx_D) (b : HX) (o : Nat) (h : MS) : Option ((Int32) × MS) :=
  (ms_pf h 6 (0 : Int32)).bind fun h1 =>
  (ms_ai h1 0 (1 : Int32)).bind fun x2 =>
  some (x2, h1)
theorem w_X9_eventCount_b {l : Launch} (hlt : l.stackTraces = false) {p : Program} {e : Env} {R : Room} {s : State} {m : MethodId} {args : Array Value} {below : List Frame} {meth : Method} {c : Code} {D : gx_D} {b : HX} {o : Nat} {h0 : MS} {r : Int32} {hz : MS} (C : gx_Ctx p R s m args meth c "ContractMachineModel" cX9_eventCount 1 (some .int) 1 24 D (mh b o h0) (mh b o hz)) (hx : meth.name = "eventCount") (hf : f_X9_eventCount D b o h0 = some (r, hz)) : gx_G p l e R s m args below meth c D (mh b o h0) (mh b o hz) 1 (gx_MQ below args s D (mh b o h0) (mh b o hz) (some (.int r))) 0 [(0, (va_rf (some o)))] [] (mh b o h0) := by
  unfold f_X9_eventCount at hf
  refine gx_aload_n C dX9_eventCount_0 0 rfl ?_
  refine gx_iconst (v := 0) C dX9_eventCount_1 rfl ?_
  replace hf := gx_bs hf
  obtain ⟨h1, g4, hf⟩ := hf
  refine gx_putv C (mh_pg (by decide) (fun _ _ => mh_p6) g4) gz_519 gz_1 rfl rfl q2640 dX9_eventCount_2 ?_
  refine gx_aload_n C dX9_eventCount_5 0 rfl ?_
  refine gx_gr C (mh_gr (k := 0) rfl) gz_494 q2634 dX9_eventCount_6 ?_
  refine gx_iconst (v := 1) C dX9_eventCount_9 rfl ?_
  replace hf := gx_bs hf
  obtain ⟨x2, g3, hf⟩ := hf
  refine gx_iald C (mh_ai g3) dX9_eventCount_10 ?_
  obtain ⟨rfl, rfl⟩ := Prod.mk.inj (Option.some.inj hf)
  exact gx_iret C dX9_eventCount_11
theorem w_X9_eventCount {l : Launch} (hlt : l.stackTraces = false) {D : gx_D} {b : HX} {o : Nat} {h : MS} {r : Int32} {hz : MS} (hf : f_X9_eventCount D b o h = some (r, hz)) : gx_Met l yX9_eventCount cX9_eventCount 1 (some .int) 1 24 D [(va_rf (some o))] (mh b o h) (some (.int r)) (mh b o hz) :=
  gx_ofG gz_495 (by simp only [gx_lsr, gx_lsi, gx_lsj, gx_ls0]; decide) mh_le (fun p e R s m args below meth c C hx => by
    simp only [gx_lar, gx_lai, gx_laj, gx_la0, Nat.reduceAdd]
    exact w_X9_eventCount_b hlt C hx hf)
def f_X9_variableCount (D : gx_D) (b : HX) (o : Nat) (h : MS) : Option ((Int32) × MS) :=
  (ms_pf h 6 (0 : Int32)).bind fun h1 =>
  (ms_ai h1 0 (2 : Int32)).bind fun x2 =>
  some (x2, h1)
theorem w_X9_variableCount_b {l : Launch} (hlt : l.stackTraces = false) {p : Program} {e : Env} {R : Room} {s : State} {m : MethodId} {args : Array Value} {below : List Frame} {meth : Method} {c : Code} {D : gx_D} {b : HX} {o : Nat} {h0 : MS} {r : Int32} {hz : MS} (C : gx_Ctx p R s m args meth c "ContractMachineModel" cX9_variableCount 1 (some .int) 1 24 D (mh b o h0) (mh b o hz)) (hx : meth.name = "variableCount") (hf : f_X9_variableCount D b o h0 = some (r, hz)) : gx_G p l e R s m args below meth c D (mh b o h0) (mh b o hz) 1 (gx_MQ below args s D (mh b o h0) (mh b o hz) (some (.int r))) 0 [(0, (va_rf (some o)))] [] (mh b o h0) := by
  unfold f_X9_variableCount at hf
  refine gx_aload_n C dX9_variableCount_0 0 rfl ?_
  refine gx_iconst (v := 0) C dX9_variableCount_1 rfl ?_
  replace hf := gx_bs hf
  obtain ⟨h1, g4, hf⟩ := hf
  refine gx_putv C (mh_pg (by decide) (fun _ _ => mh_p6) g4) gz_519 gz_1 rfl rfl q2640 dX9_variableCount_2 ?_
  refine gx_aload_n C dX9_variableCount_5 0 rfl ?_
  refine gx_gr C (mh_gr (k := 0) rfl) gz_494 q2634 dX9_variableCount_6 ?_
  refine gx_iconst (v := 2) C dX9_variableCount_9 rfl ?_
  replace hf := gx_bs hf
  obtain ⟨x2, g3, hf⟩ := hf
  refine gx_iald C (mh_ai g3) dX9_variableCount_10 ?_
  obtain ⟨rfl, rfl⟩ := Prod.mk.inj (Option.some.inj hf)
  exact gx_iret C dX9_variableCount_11
theorem w_X9_variableCount {l : Launch} (hlt : l.stackTraces = false) {D : gx_D} {b : HX} {o : Nat} {h : MS} {r : Int32} {hz : MS} (hf : f_X9_variableCount D b o h = some (r, hz)) : gx_Met l yX9_variableCount cX9_variableCount 1 (some .int) 1 24 D [(va_rf (some o))] (mh b o h) (some (.int r)) (mh b o hz) :=
  gx_ofG gz_495 (by simp only [gx_lsr, gx_lsi, gx_lsj, gx_ls0]; decide) mh_le (fun p e R s m args below meth c C hx => by
    simp only [gx_lar, gx_lai, gx_laj, gx_la0, Nat.reduceAdd]
    exact w_X9_variableCount_b hlt C hx hf)
def f_X9_transitionCount (D : gx_D) (b : HX) (o : Nat) (h : MS) : Option ((Int32) × MS) :=
  (ms_pf h 6 (0 : Int32)).bind fun h1 =>
  (ms_ai h1 0 (3 : Int32)).bind fun x2 =>
  some (x2, h1)
theorem w_X9_transitionCount_b {l : Launch} (hlt : l.stackTraces = false) {p : Program} {e : Env} {R : Room} {s : State} {m : MethodId} {args : Array Value} {below : List Frame} {meth : Method} {c : Code} {D : gx_D} {b : HX} {o : Nat} {h0 : MS} {r : Int32} {hz : MS} (C : gx_Ctx p R s m args meth c "ContractMachineModel" cX9_transitionCount 1 (some .int) 1 24 D (mh b o h0) (mh b o hz)) (hx : meth.name = "transitionCount") (hf : f_X9_transitionCount D b o h0 = some (r, hz)) : gx_G p l e R s m args below meth c D (mh b o h0) (mh b o hz) 1 (gx_MQ below args s D (mh b o h0) (mh b o hz) (some (.int r))) 0 [(0, (va_rf (some o)))] [] (mh b o h0) := by
  unfold f_X9_transitionCount at hf
  refine gx_aload_n C dX9_transitionCount_0 0 rfl ?_
  refine gx_iconst (v := 0) C dX9_transitionCount_1 rfl ?_
  replace hf := gx_bs hf
  obtain ⟨h1, g4, hf⟩ := hf
  refine gx_putv C (mh_pg (by decide) (fun _ _ => mh_p6) g4) gz_519 gz_1 rfl rfl q2640 dX9_transitionCount_2 ?_
  refine gx_aload_n C dX9_transitionCount_5 0 rfl ?_
  refine gx_gr C (mh_gr (k := 0) rfl) gz_494 q2634 dX9_transitionCount_6 ?_
  refine gx_iconst (v := 3) C dX9_transitionCount_9 rfl ?_
  replace hf := gx_bs hf
  obtain ⟨x2, g3, hf⟩ := hf
  refine gx_iald C (mh_ai g3) dX9_transitionCount_10 ?_
  obtain ⟨rfl, rfl⟩ := Prod.mk.inj (Option.some.inj hf)
  exact gx_iret C dX9_transitionCount_11
theorem w_X9_transitionCount {l : Launch} (hlt : l.stackTraces = false) {D : gx_D} {b : HX} {o : Nat} {h : MS} {r : Int32} {hz : MS} (hf : f_X9_transitionCount D b o h = some (r, hz)) : gx_Met l yX9_transitionCount cX9_transitionCount 1 (some .int) 1 24 D [(va_rf (some o))] (mh b o h) (some (.int r)) (mh b o hz) :=
  gx_ofG gz_495 (by simp only [gx_lsr, gx_lsi, gx_lsj, gx_ls0]; decide) mh_le (fun p e R s m args below meth c C hx => by
    simp only [gx_lar, gx_lai, gx_laj, gx_la0, Nat.reduceAdd]
    exact w_X9_transitionCount_b hlt C hx hf)
def f_X9_invariantCount (D : gx_D) (b : HX) (o : Nat) (h : MS) : Option ((Int32) × MS) :=
  (ms_pf h 6 (0 : Int32)).bind fun h1 =>
  (ms_ai h1 0 (4 : Int32)).bind fun x2 =>
  some (x2, h1)
theorem w_X9_invariantCount_b {l : Launch} (hlt : l.stackTraces = false) {p : Program} {e : Env} {R : Room} {s : State} {m : MethodId} {args : Array Value} {below : List Frame} {meth : Method} {c : Code} {D : gx_D} {b : HX} {o : Nat} {h0 : MS} {r : Int32} {hz : MS} (C : gx_Ctx p R s m args meth c "ContractMachineModel" cX9_invariantCount 1 (some .int) 1 24 D (mh b o h0) (mh b o hz)) (hx : meth.name = "invariantCount") (hf : f_X9_invariantCount D b o h0 = some (r, hz)) : gx_G p l e R s m args below meth c D (mh b o h0) (mh b o hz) 1 (gx_MQ below args s D (mh b o h0) (mh b o hz) (some (.int r))) 0 [(0, (va_rf (some o)))] [] (mh b o h0) := by
  unfold f_X9_invariantCount at hf
  refine gx_aload_n C dX9_invariantCount_0 0 rfl ?_
  refine gx_iconst (v := 0) C dX9_invariantCount_1 rfl ?_
  replace hf := gx_bs hf
  obtain ⟨h1, g4, hf⟩ := hf
  refine gx_putv C (mh_pg (by decide) (fun _ _ => mh_p6) g4) gz_519 gz_1 rfl rfl q2640 dX9_invariantCount_2 ?_
  refine gx_aload_n C dX9_invariantCount_5 0 rfl ?_
  refine gx_gr C (mh_gr (k := 0) rfl) gz_494 q2634 dX9_invariantCount_6 ?_
  refine gx_iconst (v := 4) C dX9_invariantCount_9 rfl ?_
  replace hf := gx_bs hf
  obtain ⟨x2, g3, hf⟩ := hf
  refine gx_iald C (mh_ai g3) dX9_invariantCount_10 ?_
  obtain ⟨rfl, rfl⟩ := Prod.mk.inj (Option.some.inj hf)
  exact gx_iret C dX9_invariantCount_11
theorem w_X9_invariantCount {l : Launch} (hlt : l.stackTraces = false) {D : gx_D} {b : HX} {o : Nat} {h : MS} {r : Int32} {hz : MS} (hf : f_X9_invariantCount D b o h = some (r, hz)) : gx_Met l yX9_invariantCount cX9_invariantCount 1 (some .int) 1 24 D [(va_rf (some o))] (mh b o h) (some (.int r)) (mh b o hz) :=
  gx_ofG gz_495 (by simp only [gx_lsr, gx_lsi, gx_lsj, gx_ls0]; decide) mh_le (fun p e R s m args below meth c C hx => by
    simp only [gx_lar, gx_lai, gx_laj, gx_la0, Nat.reduceAdd]
    exact w_X9_invariantCount_b hlt C hx hf)
def f_X9_currentState (D : gx_D) (b : HX) (o : Nat) (h : MS) : Option ((Int32) × MS) :=
  (ms_pf h 6 (0 : Int32)).bind fun h1 =>
  (ms_ai h1 0 (5 : Int32)).bind fun x2 =>
  some (x2, h1)
theorem w_X9_currentState_b {l : Launch} (hlt : l.stackTraces = false) {p : Program} {e : Env} {R : Room} {s : State} {m : MethodId} {args : Array Value} {below : List Frame} {meth : Method} {c : Code} {D : gx_D} {b : HX} {o : Nat} {h0 : MS} {r : Int32} {hz : MS} (C : gx_Ctx p R s m args meth c "ContractMachineModel" cX9_currentState 1 (some .int) 1 24 D (mh b o h0) (mh b o hz)) (hx : meth.name = "currentState") (hf : f_X9_currentState D b o h0 = some (r, hz)) : gx_G p l e R s m args below meth c D (mh b o h0) (mh b o hz) 1 (gx_MQ below args s D (mh b o h0) (mh b o hz) (some (.int r))) 0 [(0, (va_rf (some o)))] [] (mh b o h0) := by
  unfold f_X9_currentState at hf
  refine gx_aload_n C dX9_currentState_0 0 rfl ?_
  refine gx_iconst (v := 0) C dX9_currentState_1 rfl ?_
  replace hf := gx_bs hf
  obtain ⟨h1, g4, hf⟩ := hf
  refine gx_putv C (mh_pg (by decide) (fun _ _ => mh_p6) g4) gz_519 gz_1 rfl rfl q2640 dX9_currentState_2 ?_
  refine gx_aload_n C dX9_currentState_5 0 rfl ?_
  refine gx_gr C (mh_gr (k := 0) rfl) gz_494 q2634 dX9_currentState_6 ?_
  refine gx_iconst (v := 5) C dX9_currentState_9 rfl ?_
  replace hf := gx_bs hf
  obtain ⟨x2, g3, hf⟩ := hf
  refine gx_iald C (mh_ai g3) dX9_currentState_10 ?_
  obtain ⟨rfl, rfl⟩ := Prod.mk.inj (Option.some.inj hf)
  exact gx_iret C dX9_currentState_11
theorem w_X9_currentState {l : Launch} (hlt : l.stackTraces = false) {D : gx_D} {b : HX} {o : Nat} {h : MS} {r : Int32} {hz : MS} (hf : f_X9_currentState D b o h = some (r, hz)) : gx_Met l yX9_currentState cX9_currentState 1 (some .int) 1 24 D [(va_rf (some o))] (mh b o h) (some (.int r)) (mh b o hz) :=
  gx_ofG gz_495 (by simp only [gx_lsr, gx_lsi, gx_lsj, gx_ls0]; decide) mh_le (fun p e R s m args below meth c C hx => by
    simp only [gx_lar, gx_lai, gx_laj, gx_la0, Nat.reduceAdd]
    exact w_X9_currentState_b hlt C hx hf)
def f_X9_acceptedCount (D : gx_D) (b : HX) (o : Nat) (h : MS) : Option ((Int32) × MS) :=
  (ms_pf h 6 (0 : Int32)).bind fun h1 =>
  (ms_ai h1 0 (12 : Int32)).bind fun x2 =>
  some (x2, h1)
theorem w_X9_acceptedCount_b {l : Launch} (hlt : l.stackTraces = false) {p : Program} {e : Env} {R : Room} {s : State} {m : MethodId} {args : Array Value} {below : List Frame} {meth : Method} {c : Code} {D : gx_D} {b : HX} {o : Nat} {h0 : MS} {r : Int32} {hz : MS} (C : gx_Ctx p R s m args meth c "ContractMachineModel" cX9_acceptedCount 1 (some .int) 1 24 D (mh b o h0) (mh b o hz)) (hx : meth.name = "acceptedCount") (hf : f_X9_acceptedCount D b o h0 = some (r, hz)) : gx_G p l e R s m args below meth c D (mh b o h0) (mh b o hz) 1 (gx_MQ below args s D (mh b o h0) (mh b o hz) (some (.int r))) 0 [(0, (va_rf (some o)))] [] (mh b o h0) := by
  unfold f_X9_acceptedCount at hf
  refine gx_aload_n C dX9_acceptedCount_0 0 rfl ?_
  refine gx_iconst (v := 0) C dX9_acceptedCount_1 rfl ?_
  replace hf := gx_bs hf
  obtain ⟨h1, g4, hf⟩ := hf
  refine gx_putv C (mh_pg (by decide) (fun _ _ => mh_p6) g4) gz_519 gz_1 rfl rfl q2640 dX9_acceptedCount_2 ?_
  refine gx_aload_n C dX9_acceptedCount_5 0 rfl ?_
  refine gx_gr C (mh_gr (k := 0) rfl) gz_494 q2634 dX9_acceptedCount_6 ?_
  refine gx_bipush (v := 12) C dX9_acceptedCount_9 rfl ?_
  replace hf := gx_bs hf
  obtain ⟨x2, g3, hf⟩ := hf
  refine gx_iald C (mh_ai g3) dX9_acceptedCount_11 ?_
  obtain ⟨rfl, rfl⟩ := Prod.mk.inj (Option.some.inj hf)
  exact gx_iret C dX9_acceptedCount_12
theorem w_X9_acceptedCount {l : Launch} (hlt : l.stackTraces = false) {D : gx_D} {b : HX} {o : Nat} {h : MS} {r : Int32} {hz : MS} (hf : f_X9_acceptedCount D b o h = some (r, hz)) : gx_Met l yX9_acceptedCount cX9_acceptedCount 1 (some .int) 1 24 D [(va_rf (some o))] (mh b o h) (some (.int r)) (mh b o hz) :=
  gx_ofG gz_495 (by simp only [gx_lsr, gx_lsi, gx_lsj, gx_ls0]; decide) mh_le (fun p e R s m args below meth c C hx => by
    simp only [gx_lar, gx_lai, gx_laj, gx_la0, Nat.reduceAdd]
    exact w_X9_acceptedCount_b hlt C hx hf)
def f_X9_rejectedCount (D : gx_D) (b : HX) (o : Nat) (h : MS) : Option ((Int32) × MS) :=
  (ms_pf h 6 (0 : Int32)).bind fun h1 =>
  (ms_ai h1 0 (17 : Int32)).bind fun x2 =>
  some (x2, h1)
theorem w_X9_rejectedCount_b {l : Launch} (hlt : l.stackTraces = false) {p : Program} {e : Env} {R : Room} {s : State} {m : MethodId} {args : Array Value} {below : List Frame} {meth : Method} {c : Code} {D : gx_D} {b : HX} {o : Nat} {h0 : MS} {r : Int32} {hz : MS} (C : gx_Ctx p R s m args meth c "ContractMachineModel" cX9_rejectedCount 1 (some .int) 1 24 D (mh b o h0) (mh b o hz)) (hx : meth.name = "rejectedCount") (hf : f_X9_rejectedCount D b o h0 = some (r, hz)) : gx_G p l e R s m args below meth c D (mh b o h0) (mh b o hz) 1 (gx_MQ below args s D (mh b o h0) (mh b o hz) (some (.int r))) 0 [(0, (va_rf (some o)))] [] (mh b o h0) := by
  unfold f_X9_rejectedCount at hf
  refine gx_aload_n C dX9_rejectedCount_0 0 rfl ?_
  refine gx_iconst (v := 0) C dX9_rejectedCount_1 rfl ?_
  replace hf := gx_bs hf
  obtain ⟨h1, g4, hf⟩ := hf
  refine gx_putv C (mh_pg (by decide) (fun _ _ => mh_p6) g4) gz_519 gz_1 rfl rfl q2640 dX9_rejectedCount_2 ?_
  refine gx_aload_n C dX9_rejectedCount_5 0 rfl ?_
  refine gx_gr C (mh_gr (k := 0) rfl) gz_494 q2634 dX9_rejectedCount_6 ?_
  refine gx_bipush (v := 17) C dX9_rejectedCount_9 rfl ?_
  replace hf := gx_bs hf
  obtain ⟨x2, g3, hf⟩ := hf
  refine gx_iald C (mh_ai g3) dX9_rejectedCount_11 ?_
  obtain ⟨rfl, rfl⟩ := Prod.mk.inj (Option.some.inj hf)
  exact gx_iret C dX9_rejectedCount_12
theorem w_X9_rejectedCount {l : Launch} (hlt : l.stackTraces = false) {D : gx_D} {b : HX} {o : Nat} {h : MS} {r : Int32} {hz : MS} (hf : f_X9_rejectedCount D b o h = some (r, hz)) : gx_Met l yX9_rejectedCount cX9_rejectedCount 1 (some .int) 1 24 D [(va_rf (some o))] (mh b o h) (some (.int r)) (mh b o hz) :=
  gx_ofG gz_495 (by simp only [gx_lsr, gx_lsi, gx_lsj, gx_ls0]; decide) mh_le (fun p e R s m args below meth c C hx => by
    simp only [gx_lar, gx_lai, gx_laj, gx_la0, Nat.reduceAdd]
    exact w_X9_rejectedCount_b hlt C hx hf)
def f_X9_traceLength (D : gx_D) (b : HX) (o : Nat) (h : MS) : Option ((Int32) × MS) :=
  (ms_pf h 6 (0 : Int32)).bind fun h1 =>
  (ms_ai h1 0 (18 : Int32)).bind fun x2 =>
  some (x2, h1)
theorem w_X9_traceLength_b {l : Launch} (hlt : l.stackTraces = false) {p : Program} {e : Env} {R : Room} {s : State} {m : MethodId} {args : Array Value} {below : List Frame} {meth : Method} {c : Code} {D : gx_D} {b : HX} {o : Nat} {h0 : MS} {r : Int32} {hz : MS} (C : gx_Ctx p R s m args meth c "ContractMachineModel" cX9_traceLength 1 (some .int) 1 24 D (mh b o h0) (mh b o hz)) (hx : meth.name = "traceLength") (hf : f_X9_traceLength D b o h0 = some (r, hz)) : gx_G p l e R s m args below meth c D (mh b o h0) (mh b o hz) 1 (gx_MQ below args s D (mh b o h0) (mh b o hz) (some (.int r))) 0 [(0, (va_rf (some o)))] [] (mh b o h0) := by
  unfold f_X9_traceLength at hf
  refine gx_aload_n C dX9_traceLength_0 0 rfl ?_
  refine gx_iconst (v := 0) C dX9_traceLength_1 rfl ?_
  replace hf := gx_bs hf
  obtain ⟨h1, g4, hf⟩ := hf
  refine gx_putv C (mh_pg (by decide) (fun _ _ => mh_p6) g4) gz_519 gz_1 rfl rfl q2640 dX9_traceLength_2 ?_
  refine gx_aload_n C dX9_traceLength_5 0 rfl ?_
  refine gx_gr C (mh_gr (k := 0) rfl) gz_494 q2634 dX9_traceLength_6 ?_
  refine gx_bipush (v := 18) C dX9_traceLength_9 rfl ?_
  replace hf := gx_bs hf
  obtain ⟨x2, g3, hf⟩ := hf
  refine gx_iald C (mh_ai g3) dX9_traceLength_11 ?_
  obtain ⟨rfl, rfl⟩ := Prod.mk.inj (Option.some.inj hf)
  exact gx_iret C dX9_traceLength_12
theorem w_X9_traceLength {l : Launch} (hlt : l.stackTraces = false) {D : gx_D} {b : HX} {o : Nat} {h : MS} {r : Int32} {hz : MS} (hf : f_X9_traceLength D b o h = some (r, hz)) : gx_Met l yX9_traceLength cX9_traceLength 1 (some .int) 1 24 D [(va_rf (some o))] (mh b o h) (some (.int r)) (mh b o hz) :=
  gx_ofG gz_495 (by simp only [gx_lsr, gx_lsi, gx_lsj, gx_ls0]; decide) mh_le (fun p e R s m args below meth c C hx => by
    simp only [gx_lar, gx_lai, gx_laj, gx_la0, Nat.reduceAdd]
    exact w_X9_traceLength_b hlt C hx hf)
def f_X9_letter (D : gx_D) (b : HX) (o : Nat) (h : MS) (p1 : Int32) (p2 : Int32) : Option Int32 :=
  (ms_ai h 0 p1).bind fun x1 =>
  (f_X9_inRange D b o h p2 (0 : Int32) (x1 - (1 : Int32))).bind fun b3 =>
  if b3 = true then
  (ms_ai h 0 ((p1 + (1 : Int32)) + p2)).bind fun x5 =>
  some x5
  else
  some ((-1 : Int32))
theorem w_X9_letter_b {l : Launch} (hlt : l.stackTraces = false) {p : Program} {e : Env} {R : Room} {s : State} {m : MethodId} {args : Array Value} {below : List Frame} {meth : Method} {c : Code} {D : gx_D} {b : HX} {o : Nat} {h0 : MS} {r : Int32} (C : gx_Ctx p R s m args meth c "ContractMachineModel" cX9_letter 3 (some .int) 2 46 D (mh b o h0) (mh b o h0)) (hx : meth.name = "letter") {p1 : Int32} {p2 : Int32} (hf : f_X9_letter D b o h0 p1 p2 = some r) : gx_G p l e R s m args below meth c D (mh b o h0) (mh b o h0) 3 (gx_MQ below args s D (mh b o h0) (mh b o h0) (some (.int r))) 0 [(0, (va_rf (some o))), (1, (.int p1)), (2, (.int p2))] [] (mh b o h0) := by
  unfold f_X9_letter at hf
  refine gx_iload_n C dX9_letter_0 2 rfl ?_
  refine gx_iconst (v := 0) C dX9_letter_1 rfl ?_
  refine gx_aload_n C dX9_letter_2 0 rfl ?_
  refine gx_gr C (mh_gr (k := 0) rfl) gz_494 q2634 dX9_letter_3 ?_
  refine gx_iload_n C dX9_letter_6 1 rfl ?_
  replace hf := gx_bs hf
  obtain ⟨x1, g7, hf⟩ := hf
  refine gx_iald C (mh_ai g7) dX9_letter_7 ?_
  refine gx_iconst (v := 1) C dX9_letter_8 rfl ?_
  refine gx_isub C dX9_letter_9 ?_
  replace hf := gx_bs hf
  obtain ⟨b3, g2, hf⟩ := hf
  refine gx_callS (st := []) C (w_X9_inRange hlt g2) (lw_S q2745 q2746 q151 q2747) gz_522 (by decide) rfl rfl (gx_catn (Nat.le_of_ble_eq_true rfl)) dX9_letter_10 ?_
  replace hf := gx_ite hf
  rcases hf with ⟨c4, hf⟩ | ⟨c4, hf⟩
  · refine gx_ifz_eq_f (tgt := 29) C dX9_letter_13 rfl c4 ?_
    refine gx_aload_n C dX9_letter_16 0 rfl ?_
    refine gx_gr C (mh_gr (k := 0) rfl) gz_494 q2634 dX9_letter_17 ?_
    refine gx_iload_n C dX9_letter_20 1 rfl ?_
    refine gx_iconst (v := 1) C dX9_letter_21 rfl ?_
    refine gx_iadd C dX9_letter_22 ?_
    refine gx_iload_n C dX9_letter_23 2 rfl ?_
    refine gx_iadd C dX9_letter_24 ?_
    replace hf := gx_bs hf
    obtain ⟨x5, g6, hf⟩ := hf
    refine gx_iald C (mh_ai g6) dX9_letter_25 ?_
    refine gx_goto (tgt := 30) C dX9_letter_26 rfl ?_
    obtain rfl := Option.some.inj hf
    exact gx_iret C dX9_letter_30
  · refine gx_ifz_eq_t (tgt := 29) C dX9_letter_13 rfl c4 ?_
    refine gx_iconst (v := -1) C dX9_letter_29 rfl ?_
    obtain rfl := Option.some.inj hf
    exact gx_iret C dX9_letter_30
theorem w_X9_letter {l : Launch} (hlt : l.stackTraces = false) {D : gx_D} {b : HX} {o : Nat} {h : MS} {p1 : Int32} {p2 : Int32} {r : Int32} (hf : f_X9_letter D b o h p1 p2 = some r) : gx_Met l yX9_letter cX9_letter 3 (some .int) 2 46 D [(va_rf (some o)), (.int p1), (.int p2)] (mh b o h) (some (.int r)) (mh b o h) :=
  gx_ofG gz_495 (by simp only [gx_lsr, gx_lsi, gx_lsj, gx_ls0]; decide) gx_le.rf (fun p e R s m args below meth c C hx => by
    simp only [gx_lar, gx_lai, gx_laj, gx_la0, Nat.reduceAdd]
    exact w_X9_letter_b hlt C hx hf)
def f_X9_fails (D : gx_D) (b : HX) (o : Nat) (h : MS) (p1 : Bool) (p2 : Int32) : Option ((Bool) × MS) :=
  if p1 = true then
  (ms_pf h 6 p2).bind fun h2 =>
  some (p1, h2)
  else
  some (p1, h)
theorem w_X9_fails_b {l : Launch} (hlt : l.stackTraces = false) {p : Program} {e : Env} {R : Room} {s : State} {m : MethodId} {args : Array Value} {below : List Frame} {meth : Method} {c : Code} {D : gx_D} {b : HX} {o : Nat} {h0 : MS} {r : Bool} {hz : MS} (C : gx_Ctx p R s m args meth c "ContractMachineModel" cX9_fails 3 (some .boolean) 1 24 D (mh b o h0) (mh b o hz)) (hx : meth.name = "fails") {p1 : Bool} {p2 : Int32} (hf : f_X9_fails D b o h0 p1 p2 = some (r, hz)) : gx_G p l e R s m args below meth c D (mh b o h0) (mh b o hz) 3 (gx_MQ below args s D (mh b o h0) (mh b o hz) (some (.int (b2i r)))) 0 [(0, (va_rf (some o))), (1, (.int (b2i p1))), (2, (.int p2))] [] (mh b o h0) := by
  unfold f_X9_fails at hf
  refine gx_iload_n C dX9_fails_0 1 rfl ?_
  replace hf := gx_ite hf
  rcases hf with ⟨c1, hf⟩ | ⟨c1, hf⟩
  · refine gx_ifz_eq_f (tgt := 9) C dX9_fails_1 rfl c1 ?_
    refine gx_aload_n C dX9_fails_4 0 rfl ?_
    refine gx_iload_n C dX9_fails_5 2 rfl ?_
    replace hf := gx_bs hf
    obtain ⟨h2, g3, hf⟩ := hf
    refine gx_putv C (mh_pg (by decide) (fun _ _ => mh_p6) g3) gz_519 gz_1 rfl rfl q2640 dX9_fails_6 ?_
    refine gx_iload_n C dX9_fails_9 1 rfl ?_
    obtain ⟨rfl, rfl⟩ := Prod.mk.inj (Option.some.inj hf)
    exact gx_zret (b := _) C dX9_fails_10
  · refine gx_ifz_eq_t (tgt := 9) C dX9_fails_1 rfl c1 ?_
    refine gx_iload_n C dX9_fails_9 1 rfl ?_
    obtain ⟨rfl, rfl⟩ := Prod.mk.inj (Option.some.inj hf)
    exact gx_zret (b := _) C dX9_fails_10
theorem w_X9_fails {l : Launch} (hlt : l.stackTraces = false) {D : gx_D} {b : HX} {o : Nat} {h : MS} {p1 : Bool} {p2 : Int32} {r : Bool} {hz : MS} (hf : f_X9_fails D b o h p1 p2 = some (r, hz)) : gx_Met l yX9_fails cX9_fails 3 (some .boolean) 1 24 D [(va_rf (some o)), (.int (b2i p1)), (.int p2)] (mh b o h) (some (.int (b2i r))) (mh b o hz) :=
  gx_ofG gz_495 (by simp only [gx_lsr, gx_lsi, gx_lsj, gx_ls0]; decide) mh_le (fun p e R s m args below meth c C hx => by
    simp only [gx_lar, gx_lai, gx_laj, gx_la0, Nat.reduceAdd]
    exact w_X9_fails_b hlt C hx hf)
def f_X9_no_b22 (D : gx_D) (b : HX) (o : Nat) (h : MS) (s0 : Bool) : Option ((Bool) × MS) :=
  gx_b2 (f_X9_fails D b o h s0 (1 : Int32)) fun b6 h7 =>
  some (b6, h7)
theorem w_X9_no_b22 {l : Launch} (hlt : l.stackTraces = false) {p : Program} {e : Env} {R : Room} {s : State} {m : MethodId} {args : Array Value} {below : List Frame} {meth : Method} {c : Code} {D : gx_D} {b : HX} {o : Nat} {h0 : MS} {r : Bool} {hz : MS} (C : gx_Ctx p R s m args meth c "ContractMachineModel" cX9_no 3 (some .boolean) 2 46 D (mh b o h0) (mh b o hz)) (hx : meth.name = "no")  {h : MS} {s0 : Bool} (hf : f_X9_no_b22 D b o h s0 = some (r, hz)) : gx_G p l e R s m args below meth c D (mh b o h0) (mh b o hz) 3 (gx_MQ below args s D (mh b o h0) (mh b o hz) (some (.int (b2i r)))) 22 [] [(.int (b2i s0)), (va_rf (some o))] (mh b o h) := by
  unfold f_X9_no_b22 at hf
  refine gx_iconst (v := 1) C dX9_no_22 rfl ?_
  replace hf := gx_b2s hf
  obtain ⟨b6, h7, g5, hf⟩ := hf
  refine gx_callV (st := []) C (w_X9_fails hlt g5) mh_is gz_497 rfl (lw_V q3037 q3039 qs108 q151 q3040) gz_589 (by decide) rfl rfl (gx_catn (Nat.le_of_ble_eq_true rfl)) dX9_no_23 ?_
  obtain ⟨rfl, rfl⟩ := Prod.mk.inj (Option.some.inj hf)
  exact gx_zret (b := _) C dX9_no_26
def f_X9_no (D : gx_D) (b : HX) (o : Nat) (h : MS) (p1 : Int32) (p2 : Int32) : Option ((Bool) × MS) :=
  (ms_ai h 0 p2).bind fun x1 =>
  (f_X9_inRange D b o h p1 (0 : Int32) (x1 - (1 : Int32))).bind fun b3 =>
  if b3 = true then
  f_X9_no_b22 D b o h false
  else
  f_X9_no_b22 D b o h true
theorem w_X9_no_b {l : Launch} (hlt : l.stackTraces = false) {p : Program} {e : Env} {R : Room} {s : State} {m : MethodId} {args : Array Value} {below : List Frame} {meth : Method} {c : Code} {D : gx_D} {b : HX} {o : Nat} {h0 : MS} {r : Bool} {hz : MS} (C : gx_Ctx p R s m args meth c "ContractMachineModel" cX9_no 3 (some .boolean) 2 46 D (mh b o h0) (mh b o hz)) (hx : meth.name = "no") {p1 : Int32} {p2 : Int32} (hf : f_X9_no D b o h0 p1 p2 = some (r, hz)) : gx_G p l e R s m args below meth c D (mh b o h0) (mh b o hz) 3 (gx_MQ below args s D (mh b o h0) (mh b o hz) (some (.int (b2i r)))) 0 [(0, (va_rf (some o))), (1, (.int p1)), (2, (.int p2))] [] (mh b o h0) := by
  unfold f_X9_no at hf
  refine gx_aload_n C dX9_no_0 0 rfl ?_
  refine gx_iload_n C dX9_no_1 1 rfl ?_
  refine gx_iconst (v := 0) C dX9_no_2 rfl ?_
  refine gx_aload_n C dX9_no_3 0 rfl ?_
  refine gx_gr C (mh_gr (k := 0) rfl) gz_494 q2634 dX9_no_4 ?_
  refine gx_iload_n C dX9_no_7 2 rfl ?_
  replace hf := gx_bs hf
  obtain ⟨x1, g8, hf⟩ := hf
  refine gx_iald C (mh_ai g8) dX9_no_8 ?_
  refine gx_iconst (v := 1) C dX9_no_9 rfl ?_
  refine gx_isub C dX9_no_10 ?_
  replace hf := gx_bs hf
  obtain ⟨b3, g2, hf⟩ := hf
  refine gx_callS (st := [(va_rf (some o))]) C (w_X9_inRange hlt g2) (lw_S q2745 q2746 q151 q2747) gz_522 (by decide) rfl rfl (gx_catn (Nat.le_of_ble_eq_true rfl)) dX9_no_11 ?_
  replace hf := gx_ite hf
  rcases hf with ⟨c4, hf⟩ | ⟨c4, hf⟩
  · refine gx_ifz_ne_t (tgt := 21) C dX9_no_14 rfl c4 ?_
    refine gx_iconst (v := 0) C dX9_no_21 rfl ?_
    refine gx_sub [] rfl ?_
    exact w_X9_no_b22 hlt C hx hf
  · refine gx_ifz_ne_f (tgt := 21) C dX9_no_14 rfl c4 ?_
    refine gx_iconst (v := 1) C dX9_no_17 rfl ?_
    refine gx_goto (tgt := 22) C dX9_no_18 rfl ?_
    refine gx_sub [] rfl ?_
    exact w_X9_no_b22 hlt C hx hf
theorem w_X9_no {l : Launch} (hlt : l.stackTraces = false) {D : gx_D} {b : HX} {o : Nat} {h : MS} {p1 : Int32} {p2 : Int32} {r : Bool} {hz : MS} (hf : f_X9_no D b o h p1 p2 = some (r, hz)) : gx_Met l yX9_no cX9_no 3 (some .boolean) 2 46 D [(va_rf (some o)), (.int p1), (.int p2)] (mh b o h) (some (.int (b2i r))) (mh b o hz) :=
  gx_ofG gz_495 (by simp only [gx_lsr, gx_lsi, gx_lsj, gx_ls0]; decide) mh_le (fun p e R s m args below meth c C hx => by
    simp only [gx_lar, gx_lai, gx_laj, gx_la0, Nat.reduceAdd]
    exact w_X9_no_b hlt C hx hf)
def f_X9_stateNameByte (D : gx_D) (b : HX) (o : Nat) (h : MS) (p1 : Int32) (p2 : Int32) : Option ((Int32) × MS) :=
  (ms_pf h 6 (0 : Int32)).bind fun h1 =>
  gx_b2 (f_X9_no D b o h1 p1 (0 : Int32)) fun b3 h4 =>
  if b3 = true then
  some ((0 : Int32), h4)
  else
  (f_X9_letter D b o h4 ((357 : Int32) + ((7 : Int32) * p1)) p2).bind fun x7 =>
  some (x7, h4)
theorem w_X9_stateNameByte_b {l : Launch} (hlt : l.stackTraces = false) {p : Program} {e : Env} {R : Room} {s : State} {m : MethodId} {args : Array Value} {below : List Frame} {meth : Method} {c : Code} {D : gx_D} {b : HX} {o : Nat} {h0 : MS} {r : Int32} {hz : MS} (C : gx_Ctx p R s m args meth c "ContractMachineModel" cX9_stateNameByte 3 (some .int) 3 68 D (mh b o h0) (mh b o hz)) (hx : meth.name = "stateNameByte") {p1 : Int32} {p2 : Int32} (hf : f_X9_stateNameByte D b o h0 p1 p2 = some (r, hz)) : gx_G p l e R s m args below meth c D (mh b o h0) (mh b o hz) 3 (gx_MQ below args s D (mh b o h0) (mh b o hz) (some (.int r))) 0 [(0, (va_rf (some o))), (1, (.int p1)), (2, (.int p2))] [] (mh b o h0) := by
  unfold f_X9_stateNameByte at hf
  refine gx_aload_n C dX9_stateNameByte_0 0 rfl ?_
  refine gx_iconst (v := 0) C dX9_stateNameByte_1 rfl ?_
  replace hf := gx_bs hf
  obtain ⟨h1, g8, hf⟩ := hf
  refine gx_putv C (mh_pg (by decide) (fun _ _ => mh_p6) g8) gz_519 gz_1 rfl rfl q2640 dX9_stateNameByte_2 ?_
  refine gx_aload_n C dX9_stateNameByte_5 0 rfl ?_
  refine gx_iload_n C dX9_stateNameByte_6 1 rfl ?_
  refine gx_iconst (v := 0) C dX9_stateNameByte_7 rfl ?_
  replace hf := gx_b2s hf
  obtain ⟨b3, h4, g2, hf⟩ := hf
  refine gx_callV (st := []) C (w_X9_no hlt g2) mh_is gz_497 rfl (lw_V q3033 q3035 qs107 q151 q3036) gz_590 (by decide) rfl rfl (gx_catn (Nat.le_of_ble_eq_true rfl)) dX9_stateNameByte_8 ?_
  replace hf := gx_ite hf
  rcases hf with ⟨c5, hf⟩ | ⟨c5, hf⟩
  · refine gx_ifz_eq_f (tgt := 18) C dX9_stateNameByte_11 rfl c5 ?_
    refine gx_iconst (v := 0) C dX9_stateNameByte_14 rfl ?_
    refine gx_goto (tgt := 31) C dX9_stateNameByte_15 rfl ?_
    obtain ⟨rfl, rfl⟩ := Prod.mk.inj (Option.some.inj hf)
    exact gx_iret C dX9_stateNameByte_31
  · refine gx_ifz_eq_t (tgt := 18) C dX9_stateNameByte_11 rfl c5 ?_
    refine gx_aload_n C dX9_stateNameByte_18 0 rfl ?_
    refine gx_sipush (v := 357) C dX9_stateNameByte_19 rfl ?_
    refine gx_bipush (v := 7) C dX9_stateNameByte_22 rfl ?_
    refine gx_iload_n C dX9_stateNameByte_24 1 rfl ?_
    refine gx_imul C dX9_stateNameByte_25 ?_
    refine gx_iadd C dX9_stateNameByte_26 ?_
    refine gx_iload_n C dX9_stateNameByte_27 2 rfl ?_
    replace hf := gx_bs hf
    obtain ⟨x7, g6, hf⟩ := hf
    refine gx_callV (st := []) C (w_X9_letter hlt g6) mh_is gz_497 rfl (lw_V q3041 q3043 qs109 q151 q3044) gz_591 (by decide) rfl rfl (gx_catn (Nat.le_of_ble_eq_true rfl)) dX9_stateNameByte_28 ?_
    obtain ⟨rfl, rfl⟩ := Prod.mk.inj (Option.some.inj hf)
    exact gx_iret C dX9_stateNameByte_31
theorem w_X9_stateNameByte {l : Launch} (hlt : l.stackTraces = false) {D : gx_D} {b : HX} {o : Nat} {h : MS} {p1 : Int32} {p2 : Int32} {r : Int32} {hz : MS} (hf : f_X9_stateNameByte D b o h p1 p2 = some (r, hz)) : gx_Met l yX9_stateNameByte cX9_stateNameByte 3 (some .int) 3 68 D [(va_rf (some o)), (.int p1), (.int p2)] (mh b o h) (some (.int r)) (mh b o hz) :=
  gx_ofG gz_495 (by simp only [gx_lsr, gx_lsi, gx_lsj, gx_ls0]; decide) mh_le (fun p e R s m args below meth c C hx => by
    simp only [gx_lar, gx_lai, gx_laj, gx_la0, Nat.reduceAdd]
    exact w_X9_stateNameByte_b hlt C hx hf)
def f_X9_eventNameByte (D : gx_D) (b : HX) (o : Nat) (h : MS) (p1 : Int32) (p2 : Int32) : Option ((Int32) × MS) :=
  (ms_pf h 6 (0 : Int32)).bind fun h1 =>
  gx_b2 (f_X9_no D b o h1 p1 (1 : Int32)) fun b3 h4 =>
  if b3 = true then
  some ((0 : Int32), h4)
  else
  (f_X9_letter D b o h4 ((427 : Int32) + ((7 : Int32) * p1)) p2).bind fun x7 =>
  some (x7, h4)
theorem w_X9_eventNameByte_b {l : Launch} (hlt : l.stackTraces = false) {p : Program} {e : Env} {R : Room} {s : State} {m : MethodId} {args : Array Value} {below : List Frame} {meth : Method} {c : Code} {D : gx_D} {b : HX} {o : Nat} {h0 : MS} {r : Int32} {hz : MS} (C : gx_Ctx p R s m args meth c "ContractMachineModel" cX9_eventNameByte 3 (some .int) 3 68 D (mh b o h0) (mh b o hz)) (hx : meth.name = "eventNameByte") {p1 : Int32} {p2 : Int32} (hf : f_X9_eventNameByte D b o h0 p1 p2 = some (r, hz)) : gx_G p l e R s m args below meth c D (mh b o h0) (mh b o hz) 3 (gx_MQ below args s D (mh b o h0) (mh b o hz) (some (.int r))) 0 [(0, (va_rf (some o))), (1, (.int p1)), (2, (.int p2))] [] (mh b o h0) := by
  unfold f_X9_eventNameByte at hf
  refine gx_aload_n C dX9_eventNameByte_0 0 rfl ?_
  refine gx_iconst (v := 0) C dX9_eventNameByte_1 rfl ?_
  replace hf := gx_bs hf
  obtain ⟨h1, g8, hf⟩ := hf
  refine gx_putv C (mh_pg (by decide) (fun _ _ => mh_p6) g8) gz_519 gz_1 rfl rfl q2640 dX9_eventNameByte_2 ?_
  refine gx_aload_n C dX9_eventNameByte_5 0 rfl ?_
  refine gx_iload_n C dX9_eventNameByte_6 1 rfl ?_
  refine gx_iconst (v := 1) C dX9_eventNameByte_7 rfl ?_
  replace hf := gx_b2s hf
  obtain ⟨b3, h4, g2, hf⟩ := hf
  refine gx_callV (st := []) C (w_X9_no hlt g2) mh_is gz_497 rfl (lw_V q3033 q3035 qs107 q151 q3036) gz_590 (by decide) rfl rfl (gx_catn (Nat.le_of_ble_eq_true rfl)) dX9_eventNameByte_8 ?_
  replace hf := gx_ite hf
  rcases hf with ⟨c5, hf⟩ | ⟨c5, hf⟩
  · refine gx_ifz_eq_f (tgt := 18) C dX9_eventNameByte_11 rfl c5 ?_
    refine gx_iconst (v := 0) C dX9_eventNameByte_14 rfl ?_
    refine gx_goto (tgt := 31) C dX9_eventNameByte_15 rfl ?_
    obtain ⟨rfl, rfl⟩ := Prod.mk.inj (Option.some.inj hf)
    exact gx_iret C dX9_eventNameByte_31
  · refine gx_ifz_eq_t (tgt := 18) C dX9_eventNameByte_11 rfl c5 ?_
    refine gx_aload_n C dX9_eventNameByte_18 0 rfl ?_
    refine gx_sipush (v := 427) C dX9_eventNameByte_19 rfl ?_
    refine gx_bipush (v := 7) C dX9_eventNameByte_22 rfl ?_
    refine gx_iload_n C dX9_eventNameByte_24 1 rfl ?_
    refine gx_imul C dX9_eventNameByte_25 ?_
    refine gx_iadd C dX9_eventNameByte_26 ?_
    refine gx_iload_n C dX9_eventNameByte_27 2 rfl ?_
    replace hf := gx_bs hf
    obtain ⟨x7, g6, hf⟩ := hf
    refine gx_callV (st := []) C (w_X9_letter hlt g6) mh_is gz_497 rfl (lw_V q3041 q3043 qs109 q151 q3044) gz_591 (by decide) rfl rfl (gx_catn (Nat.le_of_ble_eq_true rfl)) dX9_eventNameByte_28 ?_
    obtain ⟨rfl, rfl⟩ := Prod.mk.inj (Option.some.inj hf)
    exact gx_iret C dX9_eventNameByte_31
theorem w_X9_eventNameByte {l : Launch} (hlt : l.stackTraces = false) {D : gx_D} {b : HX} {o : Nat} {h : MS} {p1 : Int32} {p2 : Int32} {r : Int32} {hz : MS} (hf : f_X9_eventNameByte D b o h p1 p2 = some (r, hz)) : gx_Met l yX9_eventNameByte cX9_eventNameByte 3 (some .int) 3 68 D [(va_rf (some o)), (.int p1), (.int p2)] (mh b o h) (some (.int r)) (mh b o hz) :=
  gx_ofG gz_495 (by simp only [gx_lsr, gx_lsi, gx_lsj, gx_ls0]; decide) mh_le (fun p e R s m args below meth c C hx => by
    simp only [gx_lar, gx_lai, gx_laj, gx_la0, Nat.reduceAdd]
    exact w_X9_eventNameByte_b hlt C hx hf)
def f_X9_variableNameByte (D : gx_D) (b : HX) (o : Nat) (h : MS) (p1 : Int32) (p2 : Int32) : Option ((Int32) × MS) :=
  (ms_pf h 6 (0 : Int32)).bind fun h1 =>
  gx_b2 (f_X9_no D b o h1 p1 (2 : Int32)) fun b3 h4 =>
  if b3 = true then
  some ((0 : Int32), h4)
  else
  (f_X9_letter D b o h4 ((483 : Int32) + ((7 : Int32) * p1)) p2).bind fun x7 =>
  some (x7, h4)
theorem w_X9_variableNameByte_b {l : Launch} (hlt : l.stackTraces = false) {p : Program} {e : Env} {R : Room} {s : State} {m : MethodId} {args : Array Value} {below : List Frame} {meth : Method} {c : Code} {D : gx_D} {b : HX} {o : Nat} {h0 : MS} {r : Int32} {hz : MS} (C : gx_Ctx p R s m args meth c "ContractMachineModel" cX9_variableNameByte 3 (some .int) 3 68 D (mh b o h0) (mh b o hz)) (hx : meth.name = "variableNameByte") {p1 : Int32} {p2 : Int32} (hf : f_X9_variableNameByte D b o h0 p1 p2 = some (r, hz)) : gx_G p l e R s m args below meth c D (mh b o h0) (mh b o hz) 3 (gx_MQ below args s D (mh b o h0) (mh b o hz) (some (.int r))) 0 [(0, (va_rf (some o))), (1, (.int p1)), (2, (.int p2))] [] (mh b o h0) := by
  unfold f_X9_variableNameByte at hf
  refine gx_aload_n C dX9_variableNameByte_0 0 rfl ?_
  refine gx_iconst (v := 0) C dX9_variableNameByte_1 rfl ?_
  replace hf := gx_bs hf
  obtain ⟨h1, g8, hf⟩ := hf
  refine gx_putv C (mh_pg (by decide) (fun _ _ => mh_p6) g8) gz_519 gz_1 rfl rfl q2640 dX9_variableNameByte_2 ?_
  refine gx_aload_n C dX9_variableNameByte_5 0 rfl ?_
  refine gx_iload_n C dX9_variableNameByte_6 1 rfl ?_
  refine gx_iconst (v := 2) C dX9_variableNameByte_7 rfl ?_
  replace hf := gx_b2s hf
  obtain ⟨b3, h4, g2, hf⟩ := hf
  refine gx_callV (st := []) C (w_X9_no hlt g2) mh_is gz_497 rfl (lw_V q3033 q3035 qs107 q151 q3036) gz_590 (by decide) rfl rfl (gx_catn (Nat.le_of_ble_eq_true rfl)) dX9_variableNameByte_8 ?_
  replace hf := gx_ite hf
  rcases hf with ⟨c5, hf⟩ | ⟨c5, hf⟩
  · refine gx_ifz_eq_f (tgt := 18) C dX9_variableNameByte_11 rfl c5 ?_
    refine gx_iconst (v := 0) C dX9_variableNameByte_14 rfl ?_
    refine gx_goto (tgt := 31) C dX9_variableNameByte_15 rfl ?_
    obtain ⟨rfl, rfl⟩ := Prod.mk.inj (Option.some.inj hf)
    exact gx_iret C dX9_variableNameByte_31
  · refine gx_ifz_eq_t (tgt := 18) C dX9_variableNameByte_11 rfl c5 ?_
    refine gx_aload_n C dX9_variableNameByte_18 0 rfl ?_
    refine gx_sipush (v := 483) C dX9_variableNameByte_19 rfl ?_
    refine gx_bipush (v := 7) C dX9_variableNameByte_22 rfl ?_
    refine gx_iload_n C dX9_variableNameByte_24 1 rfl ?_
    refine gx_imul C dX9_variableNameByte_25 ?_
    refine gx_iadd C dX9_variableNameByte_26 ?_
    refine gx_iload_n C dX9_variableNameByte_27 2 rfl ?_
    replace hf := gx_bs hf
    obtain ⟨x7, g6, hf⟩ := hf
    refine gx_callV (st := []) C (w_X9_letter hlt g6) mh_is gz_497 rfl (lw_V q3041 q3043 qs109 q151 q3044) gz_591 (by decide) rfl rfl (gx_catn (Nat.le_of_ble_eq_true rfl)) dX9_variableNameByte_28 ?_
    obtain ⟨rfl, rfl⟩ := Prod.mk.inj (Option.some.inj hf)
    exact gx_iret C dX9_variableNameByte_31
theorem w_X9_variableNameByte {l : Launch} (hlt : l.stackTraces = false) {D : gx_D} {b : HX} {o : Nat} {h : MS} {p1 : Int32} {p2 : Int32} {r : Int32} {hz : MS} (hf : f_X9_variableNameByte D b o h p1 p2 = some (r, hz)) : gx_Met l yX9_variableNameByte cX9_variableNameByte 3 (some .int) 3 68 D [(va_rf (some o)), (.int p1), (.int p2)] (mh b o h) (some (.int r)) (mh b o hz) :=
  gx_ofG gz_495 (by simp only [gx_lsr, gx_lsi, gx_lsj, gx_ls0]; decide) mh_le (fun p e R s m args below meth c C hx => by
    simp only [gx_lar, gx_lai, gx_laj, gx_la0, Nat.reduceAdd]
    exact w_X9_variableNameByte_b hlt C hx hf)
def f_X9_sourceOf (D : gx_D) (b : HX) (o : Nat) (h : MS) (p1 : Int32) : Option ((Int32) × MS) :=
  (ms_pf h 6 (0 : Int32)).bind fun h1 =>
  gx_b2 (f_X9_no D b o h1 p1 (3 : Int32)) fun b3 h4 =>
  if b3 = true then
  some ((0 : Int32), h4)
  else
  (f_X9_of D b o h4 p1 (0 : Int32)).bind fun x7 =>
  some (x7, h4)
theorem w_X9_sourceOf_b {l : Launch} (hlt : l.stackTraces = false) {p : Program} {e : Env} {R : Room} {s : State} {m : MethodId} {args : Array Value} {below : List Frame} {meth : Method} {c : Code} {D : gx_D} {b : HX} {o : Nat} {h0 : MS} {r : Int32} {hz : MS} (C : gx_Ctx p R s m args meth c "ContractMachineModel" cX9_sourceOf 2 (some .int) 3 68 D (mh b o h0) (mh b o hz)) (hx : meth.name = "sourceOf") {p1 : Int32} (hf : f_X9_sourceOf D b o h0 p1 = some (r, hz)) : gx_G p l e R s m args below meth c D (mh b o h0) (mh b o hz) 2 (gx_MQ below args s D (mh b o h0) (mh b o hz) (some (.int r))) 0 [(0, (va_rf (some o))), (1, (.int p1))] [] (mh b o h0) := by
  unfold f_X9_sourceOf at hf
  refine gx_aload_n C dX9_sourceOf_0 0 rfl ?_
  refine gx_iconst (v := 0) C dX9_sourceOf_1 rfl ?_
  replace hf := gx_bs hf
  obtain ⟨h1, g8, hf⟩ := hf
  refine gx_putv C (mh_pg (by decide) (fun _ _ => mh_p6) g8) gz_519 gz_1 rfl rfl q2640 dX9_sourceOf_2 ?_
  refine gx_aload_n C dX9_sourceOf_5 0 rfl ?_
  refine gx_iload_n C dX9_sourceOf_6 1 rfl ?_
  refine gx_iconst (v := 3) C dX9_sourceOf_7 rfl ?_
  replace hf := gx_b2s hf
  obtain ⟨b3, h4, g2, hf⟩ := hf
  refine gx_callV (st := []) C (w_X9_no hlt g2) mh_is gz_497 rfl (lw_V q3033 q3035 qs107 q151 q3036) gz_590 (by decide) rfl rfl (gx_catn (Nat.le_of_ble_eq_true rfl)) dX9_sourceOf_8 ?_
  replace hf := gx_ite hf
  rcases hf with ⟨c5, hf⟩ | ⟨c5, hf⟩
  · refine gx_ifz_eq_f (tgt := 18) C dX9_sourceOf_11 rfl c5 ?_
    refine gx_iconst (v := 0) C dX9_sourceOf_14 rfl ?_
    refine gx_goto (tgt := 24) C dX9_sourceOf_15 rfl ?_
    obtain ⟨rfl, rfl⟩ := Prod.mk.inj (Option.some.inj hf)
    exact gx_iret C dX9_sourceOf_24
  · refine gx_ifz_eq_t (tgt := 18) C dX9_sourceOf_11 rfl c5 ?_
    refine gx_aload_n C dX9_sourceOf_18 0 rfl ?_
    refine gx_iload_n C dX9_sourceOf_19 1 rfl ?_
    refine gx_iconst (v := 0) C dX9_sourceOf_20 rfl ?_
    replace hf := gx_bs hf
    obtain ⟨x7, g6, hf⟩ := hf
    refine gx_callV (st := []) C (w_X9_of hlt g6) mh_is gz_497 rfl (lw_V q2950 q2952 qs99 q151 q2953) gz_569 (by decide) rfl rfl (gx_catn (Nat.le_of_ble_eq_true rfl)) dX9_sourceOf_21 ?_
    obtain ⟨rfl, rfl⟩ := Prod.mk.inj (Option.some.inj hf)
    exact gx_iret C dX9_sourceOf_24
theorem w_X9_sourceOf {l : Launch} (hlt : l.stackTraces = false) {D : gx_D} {b : HX} {o : Nat} {h : MS} {p1 : Int32} {r : Int32} {hz : MS} (hf : f_X9_sourceOf D b o h p1 = some (r, hz)) : gx_Met l yX9_sourceOf cX9_sourceOf 2 (some .int) 3 68 D [(va_rf (some o)), (.int p1)] (mh b o h) (some (.int r)) (mh b o hz) :=
  gx_ofG gz_495 (by simp only [gx_lsr, gx_lsi, gx_lsj, gx_ls0]; decide) mh_le (fun p e R s m args below meth c C hx => by
    simp only [gx_lar, gx_lai, gx_laj, gx_la0, Nat.reduceAdd]
    exact w_X9_sourceOf_b hlt C hx hf)
def f_X9_eventOf (D : gx_D) (b : HX) (o : Nat) (h : MS) (p1 : Int32) : Option ((Int32) × MS) :=
  (ms_pf h 6 (0 : Int32)).bind fun h1 =>
  gx_b2 (f_X9_no D b o h1 p1 (3 : Int32)) fun b3 h4 =>
  if b3 = true then
  some ((0 : Int32), h4)
  else
  (f_X9_of D b o h4 p1 (1 : Int32)).bind fun x7 =>
  some (x7, h4)
theorem w_X9_eventOf_b {l : Launch} (hlt : l.stackTraces = false) {p : Program} {e : Env} {R : Room} {s : State} {m : MethodId} {args : Array Value} {below : List Frame} {meth : Method} {c : Code} {D : gx_D} {b : HX} {o : Nat} {h0 : MS} {r : Int32} {hz : MS} (C : gx_Ctx p R s m args meth c "ContractMachineModel" cX9_eventOf 2 (some .int) 3 68 D (mh b o h0) (mh b o hz)) (hx : meth.name = "eventOf") {p1 : Int32} (hf : f_X9_eventOf D b o h0 p1 = some (r, hz)) : gx_G p l e R s m args below meth c D (mh b o h0) (mh b o hz) 2 (gx_MQ below args s D (mh b o h0) (mh b o hz) (some (.int r))) 0 [(0, (va_rf (some o))), (1, (.int p1))] [] (mh b o h0) := by
  unfold f_X9_eventOf at hf
  refine gx_aload_n C dX9_eventOf_0 0 rfl ?_
  refine gx_iconst (v := 0) C dX9_eventOf_1 rfl ?_
  replace hf := gx_bs hf
  obtain ⟨h1, g8, hf⟩ := hf
  refine gx_putv C (mh_pg (by decide) (fun _ _ => mh_p6) g8) gz_519 gz_1 rfl rfl q2640 dX9_eventOf_2 ?_
  refine gx_aload_n C dX9_eventOf_5 0 rfl ?_
  refine gx_iload_n C dX9_eventOf_6 1 rfl ?_
  refine gx_iconst (v := 3) C dX9_eventOf_7 rfl ?_
  replace hf := gx_b2s hf
  obtain ⟨b3, h4, g2, hf⟩ := hf
  refine gx_callV (st := []) C (w_X9_no hlt g2) mh_is gz_497 rfl (lw_V q3033 q3035 qs107 q151 q3036) gz_590 (by decide) rfl rfl (gx_catn (Nat.le_of_ble_eq_true rfl)) dX9_eventOf_8 ?_
  replace hf := gx_ite hf
  rcases hf with ⟨c5, hf⟩ | ⟨c5, hf⟩
  · refine gx_ifz_eq_f (tgt := 18) C dX9_eventOf_11 rfl c5 ?_
    refine gx_iconst (v := 0) C dX9_eventOf_14 rfl ?_
    refine gx_goto (tgt := 24) C dX9_eventOf_15 rfl ?_
    obtain ⟨rfl, rfl⟩ := Prod.mk.inj (Option.some.inj hf)
    exact gx_iret C dX9_eventOf_24
  · refine gx_ifz_eq_t (tgt := 18) C dX9_eventOf_11 rfl c5 ?_
    refine gx_aload_n C dX9_eventOf_18 0 rfl ?_
    refine gx_iload_n C dX9_eventOf_19 1 rfl ?_
    refine gx_iconst (v := 1) C dX9_eventOf_20 rfl ?_
    replace hf := gx_bs hf
    obtain ⟨x7, g6, hf⟩ := hf
    refine gx_callV (st := []) C (w_X9_of hlt g6) mh_is gz_497 rfl (lw_V q2950 q2952 qs99 q151 q2953) gz_569 (by decide) rfl rfl (gx_catn (Nat.le_of_ble_eq_true rfl)) dX9_eventOf_21 ?_
    obtain ⟨rfl, rfl⟩ := Prod.mk.inj (Option.some.inj hf)
    exact gx_iret C dX9_eventOf_24
theorem w_X9_eventOf {l : Launch} (hlt : l.stackTraces = false) {D : gx_D} {b : HX} {o : Nat} {h : MS} {p1 : Int32} {r : Int32} {hz : MS} (hf : f_X9_eventOf D b o h p1 = some (r, hz)) : gx_Met l yX9_eventOf cX9_eventOf 2 (some .int) 3 68 D [(va_rf (some o)), (.int p1)] (mh b o h) (some (.int r)) (mh b o hz) :=
  gx_ofG gz_495 (by simp only [gx_lsr, gx_lsi, gx_lsj, gx_ls0]; decide) mh_le (fun p e R s m args below meth c C hx => by
    simp only [gx_lar, gx_lai, gx_laj, gx_la0, Nat.reduceAdd]
    exact w_X9_eventOf_b hlt C hx hf)
def f_X9_targetOf (D : gx_D) (b : HX) (o : Nat) (h : MS) (p1 : Int32) : Option ((Int32) × MS) :=
  (ms_pf h 6 (0 : Int32)).bind fun h1 =>
  gx_b2 (f_X9_no D b o h1 p1 (3 : Int32)) fun b3 h4 =>
  if b3 = true then
  some ((0 : Int32), h4)
  else
  (f_X9_of D b o h4 p1 (2 : Int32)).bind fun x7 =>
  some (x7, h4)
theorem w_X9_targetOf_b {l : Launch} (hlt : l.stackTraces = false) {p : Program} {e : Env} {R : Room} {s : State} {m : MethodId} {args : Array Value} {below : List Frame} {meth : Method} {c : Code} {D : gx_D} {b : HX} {o : Nat} {h0 : MS} {r : Int32} {hz : MS} (C : gx_Ctx p R s m args meth c "ContractMachineModel" cX9_targetOf 2 (some .int) 3 68 D (mh b o h0) (mh b o hz)) (hx : meth.name = "targetOf") {p1 : Int32} (hf : f_X9_targetOf D b o h0 p1 = some (r, hz)) : gx_G p l e R s m args below meth c D (mh b o h0) (mh b o hz) 2 (gx_MQ below args s D (mh b o h0) (mh b o hz) (some (.int r))) 0 [(0, (va_rf (some o))), (1, (.int p1))] [] (mh b o h0) := by
  unfold f_X9_targetOf at hf
  refine gx_aload_n C dX9_targetOf_0 0 rfl ?_
  refine gx_iconst (v := 0) C dX9_targetOf_1 rfl ?_
  replace hf := gx_bs hf
  obtain ⟨h1, g8, hf⟩ := hf
  refine gx_putv C (mh_pg (by decide) (fun _ _ => mh_p6) g8) gz_519 gz_1 rfl rfl q2640 dX9_targetOf_2 ?_
  refine gx_aload_n C dX9_targetOf_5 0 rfl ?_
  refine gx_iload_n C dX9_targetOf_6 1 rfl ?_
  refine gx_iconst (v := 3) C dX9_targetOf_7 rfl ?_
  replace hf := gx_b2s hf
  obtain ⟨b3, h4, g2, hf⟩ := hf
  refine gx_callV (st := []) C (w_X9_no hlt g2) mh_is gz_497 rfl (lw_V q3033 q3035 qs107 q151 q3036) gz_590 (by decide) rfl rfl (gx_catn (Nat.le_of_ble_eq_true rfl)) dX9_targetOf_8 ?_
  replace hf := gx_ite hf
  rcases hf with ⟨c5, hf⟩ | ⟨c5, hf⟩
  · refine gx_ifz_eq_f (tgt := 18) C dX9_targetOf_11 rfl c5 ?_
    refine gx_iconst (v := 0) C dX9_targetOf_14 rfl ?_
    refine gx_goto (tgt := 24) C dX9_targetOf_15 rfl ?_
    obtain ⟨rfl, rfl⟩ := Prod.mk.inj (Option.some.inj hf)
    exact gx_iret C dX9_targetOf_24
  · refine gx_ifz_eq_t (tgt := 18) C dX9_targetOf_11 rfl c5 ?_
    refine gx_aload_n C dX9_targetOf_18 0 rfl ?_
    refine gx_iload_n C dX9_targetOf_19 1 rfl ?_
    refine gx_iconst (v := 2) C dX9_targetOf_20 rfl ?_
    replace hf := gx_bs hf
    obtain ⟨x7, g6, hf⟩ := hf
    refine gx_callV (st := []) C (w_X9_of hlt g6) mh_is gz_497 rfl (lw_V q2950 q2952 qs99 q151 q2953) gz_569 (by decide) rfl rfl (gx_catn (Nat.le_of_ble_eq_true rfl)) dX9_targetOf_21 ?_
    obtain ⟨rfl, rfl⟩ := Prod.mk.inj (Option.some.inj hf)
    exact gx_iret C dX9_targetOf_24
theorem w_X9_targetOf {l : Launch} (hlt : l.stackTraces = false) {D : gx_D} {b : HX} {o : Nat} {h : MS} {p1 : Int32} {r : Int32} {hz : MS} (hf : f_X9_targetOf D b o h p1 = some (r, hz)) : gx_Met l yX9_targetOf cX9_targetOf 2 (some .int) 3 68 D [(va_rf (some o)), (.int p1)] (mh b o h) (some (.int r)) (mh b o hz) :=
  gx_ofG gz_495 (by simp only [gx_lsr, gx_lsi, gx_lsj, gx_ls0]; decide) mh_le (fun p e R s m args below meth c C hx => by
    simp only [gx_lar, gx_lai, gx_laj, gx_la0, Nat.reduceAdd]
    exact w_X9_targetOf_b hlt C hx hf)
def f_X9_timesTaken (D : gx_D) (b : HX) (o : Nat) (h : MS) (p1 : Int32) : Option ((Int32) × MS) :=
  (ms_pf h 6 (0 : Int32)).bind fun h1 =>
  gx_b2 (f_X9_no D b o h1 p1 (3 : Int32)) fun b3 h4 =>
  if b3 = true then
  some ((0 : Int32), h4)
  else
  (ms_ai h4 0 ((69 : Int32) + p1)).bind fun x6 =>
  some (x6, h4)
theorem w_X9_timesTaken_b {l : Launch} (hlt : l.stackTraces = false) {p : Program} {e : Env} {R : Room} {s : State} {m : MethodId} {args : Array Value} {below : List Frame} {meth : Method} {c : Code} {D : gx_D} {b : HX} {o : Nat} {h0 : MS} {r : Int32} {hz : MS} (C : gx_Ctx p R s m args meth c "ContractMachineModel" cX9_timesTaken 2 (some .int) 3 68 D (mh b o h0) (mh b o hz)) (hx : meth.name = "timesTaken") {p1 : Int32} (hf : f_X9_timesTaken D b o h0 p1 = some (r, hz)) : gx_G p l e R s m args below meth c D (mh b o h0) (mh b o hz) 2 (gx_MQ below args s D (mh b o h0) (mh b o hz) (some (.int r))) 0 [(0, (va_rf (some o))), (1, (.int p1))] [] (mh b o h0) := by
  unfold f_X9_timesTaken at hf
  refine gx_aload_n C dX9_timesTaken_0 0 rfl ?_
  refine gx_iconst (v := 0) C dX9_timesTaken_1 rfl ?_
  replace hf := gx_bs hf
  obtain ⟨h1, g8, hf⟩ := hf
  refine gx_putv C (mh_pg (by decide) (fun _ _ => mh_p6) g8) gz_519 gz_1 rfl rfl q2640 dX9_timesTaken_2 ?_
  refine gx_aload_n C dX9_timesTaken_5 0 rfl ?_
  refine gx_iload_n C dX9_timesTaken_6 1 rfl ?_
  refine gx_iconst (v := 3) C dX9_timesTaken_7 rfl ?_
  replace hf := gx_b2s hf
  obtain ⟨b3, h4, g2, hf⟩ := hf
  refine gx_callV (st := []) C (w_X9_no hlt g2) mh_is gz_497 rfl (lw_V q3033 q3035 qs107 q151 q3036) gz_590 (by decide) rfl rfl (gx_catn (Nat.le_of_ble_eq_true rfl)) dX9_timesTaken_8 ?_
  replace hf := gx_ite hf
  rcases hf with ⟨c5, hf⟩ | ⟨c5, hf⟩
  · refine gx_ifz_eq_f (tgt := 18) C dX9_timesTaken_11 rfl c5 ?_
    refine gx_iconst (v := 0) C dX9_timesTaken_14 rfl ?_
    refine gx_goto (tgt := 27) C dX9_timesTaken_15 rfl ?_
    obtain ⟨rfl, rfl⟩ := Prod.mk.inj (Option.some.inj hf)
    exact gx_iret C dX9_timesTaken_27
  · refine gx_ifz_eq_t (tgt := 18) C dX9_timesTaken_11 rfl c5 ?_
    refine gx_aload_n C dX9_timesTaken_18 0 rfl ?_
    refine gx_gr C (mh_gr (k := 0) rfl) gz_494 q2634 dX9_timesTaken_19 ?_
    refine gx_bipush (v := 69) C dX9_timesTaken_22 rfl ?_
    refine gx_iload_n C dX9_timesTaken_24 1 rfl ?_
    refine gx_iadd C dX9_timesTaken_25 ?_
    replace hf := gx_bs hf
    obtain ⟨x6, g7, hf⟩ := hf
    refine gx_iald C (mh_ai g7) dX9_timesTaken_26 ?_
    obtain ⟨rfl, rfl⟩ := Prod.mk.inj (Option.some.inj hf)
    exact gx_iret C dX9_timesTaken_27
theorem w_X9_timesTaken {l : Launch} (hlt : l.stackTraces = false) {D : gx_D} {b : HX} {o : Nat} {h : MS} {p1 : Int32} {r : Int32} {hz : MS} (hf : f_X9_timesTaken D b o h p1 = some (r, hz)) : gx_Met l yX9_timesTaken cX9_timesTaken 2 (some .int) 3 68 D [(va_rf (some o)), (.int p1)] (mh b o h) (some (.int r)) (mh b o hz) :=
  gx_ofG gz_495 (by simp only [gx_lsr, gx_lsi, gx_lsj, gx_ls0]; decide) mh_le (fun p e R s m args below meth c C hx => by
    simp only [gx_lar, gx_lai, gx_laj, gx_la0, Nat.reduceAdd]
    exact w_X9_timesTaken_b hlt C hx hf)
def f_X9_valueOf (D : gx_D) (b : HX) (o : Nat) (h : MS) (p1 : Int32) : Option ((Int32) × MS) :=
  (ms_pf h 6 (0 : Int32)).bind fun h1 =>
  gx_b2 (f_X9_no D b o h1 p1 (2 : Int32)) fun b3 h4 =>
  if b3 = true then
  some ((0 : Int32), h4)
  else
  (ms_ai h4 0 ((6 : Int32) + p1)).bind fun x6 =>
  some (x6, h4)
theorem w_X9_valueOf_b {l : Launch} (hlt : l.stackTraces = false) {p : Program} {e : Env} {R : Room} {s : State} {m : MethodId} {args : Array Value} {below : List Frame} {meth : Method} {c : Code} {D : gx_D} {b : HX} {o : Nat} {h0 : MS} {r : Int32} {hz : MS} (C : gx_Ctx p R s m args meth c "ContractMachineModel" cX9_valueOf 2 (some .int) 3 68 D (mh b o h0) (mh b o hz)) (hx : meth.name = "valueOf") {p1 : Int32} (hf : f_X9_valueOf D b o h0 p1 = some (r, hz)) : gx_G p l e R s m args below meth c D (mh b o h0) (mh b o hz) 2 (gx_MQ below args s D (mh b o h0) (mh b o hz) (some (.int r))) 0 [(0, (va_rf (some o))), (1, (.int p1))] [] (mh b o h0) := by
  unfold f_X9_valueOf at hf
  refine gx_aload_n C dX9_valueOf_0 0 rfl ?_
  refine gx_iconst (v := 0) C dX9_valueOf_1 rfl ?_
  replace hf := gx_bs hf
  obtain ⟨h1, g8, hf⟩ := hf
  refine gx_putv C (mh_pg (by decide) (fun _ _ => mh_p6) g8) gz_519 gz_1 rfl rfl q2640 dX9_valueOf_2 ?_
  refine gx_aload_n C dX9_valueOf_5 0 rfl ?_
  refine gx_iload_n C dX9_valueOf_6 1 rfl ?_
  refine gx_iconst (v := 2) C dX9_valueOf_7 rfl ?_
  replace hf := gx_b2s hf
  obtain ⟨b3, h4, g2, hf⟩ := hf
  refine gx_callV (st := []) C (w_X9_no hlt g2) mh_is gz_497 rfl (lw_V q3033 q3035 qs107 q151 q3036) gz_590 (by decide) rfl rfl (gx_catn (Nat.le_of_ble_eq_true rfl)) dX9_valueOf_8 ?_
  replace hf := gx_ite hf
  rcases hf with ⟨c5, hf⟩ | ⟨c5, hf⟩
  · refine gx_ifz_eq_f (tgt := 18) C dX9_valueOf_11 rfl c5 ?_
    refine gx_iconst (v := 0) C dX9_valueOf_14 rfl ?_
    refine gx_goto (tgt := 27) C dX9_valueOf_15 rfl ?_
    obtain ⟨rfl, rfl⟩ := Prod.mk.inj (Option.some.inj hf)
    exact gx_iret C dX9_valueOf_27
  · refine gx_ifz_eq_t (tgt := 18) C dX9_valueOf_11 rfl c5 ?_
    refine gx_aload_n C dX9_valueOf_18 0 rfl ?_
    refine gx_gr C (mh_gr (k := 0) rfl) gz_494 q2634 dX9_valueOf_19 ?_
    refine gx_bipush (v := 6) C dX9_valueOf_22 rfl ?_
    refine gx_iload_n C dX9_valueOf_24 1 rfl ?_
    refine gx_iadd C dX9_valueOf_25 ?_
    replace hf := gx_bs hf
    obtain ⟨x6, g7, hf⟩ := hf
    refine gx_iald C (mh_ai g7) dX9_valueOf_26 ?_
    obtain ⟨rfl, rfl⟩ := Prod.mk.inj (Option.some.inj hf)
    exact gx_iret C dX9_valueOf_27
theorem w_X9_valueOf {l : Launch} (hlt : l.stackTraces = false) {D : gx_D} {b : HX} {o : Nat} {h : MS} {p1 : Int32} {r : Int32} {hz : MS} (hf : f_X9_valueOf D b o h p1 = some (r, hz)) : gx_Met l yX9_valueOf cX9_valueOf 2 (some .int) 3 68 D [(va_rf (some o)), (.int p1)] (mh b o h) (some (.int r)) (mh b o hz) :=
  gx_ofG gz_495 (by simp only [gx_lsr, gx_lsi, gx_lsj, gx_ls0]; decide) mh_le (fun p e R s m args below meth c C hx => by
    simp only [gx_lar, gx_lai, gx_laj, gx_la0, Nat.reduceAdd]
    exact w_X9_valueOf_b hlt C hx hf)
def f_X9_initialValueOf (D : gx_D) (b : HX) (o : Nat) (h : MS) (p1 : Int32) : Option ((Int32) × MS) :=
  (ms_pf h 6 (0 : Int32)).bind fun h1 =>
  gx_b2 (f_X9_no D b o h1 p1 (2 : Int32)) fun b3 h4 =>
  if b3 = true then
  some ((0 : Int32), h4)
  else
  (ms_ai h4 0 ((9 : Int32) + p1)).bind fun x6 =>
  some (x6, h4)
theorem w_X9_initialValueOf_b {l : Launch} (hlt : l.stackTraces = false) {p : Program} {e : Env} {R : Room} {s : State} {m : MethodId} {args : Array Value} {below : List Frame} {meth : Method} {c : Code} {D : gx_D} {b : HX} {o : Nat} {h0 : MS} {r : Int32} {hz : MS} (C : gx_Ctx p R s m args meth c "ContractMachineModel" cX9_initialValueOf 2 (some .int) 3 68 D (mh b o h0) (mh b o hz)) (hx : meth.name = "initialValueOf") {p1 : Int32} (hf : f_X9_initialValueOf D b o h0 p1 = some (r, hz)) : gx_G p l e R s m args below meth c D (mh b o h0) (mh b o hz) 2 (gx_MQ below args s D (mh b o h0) (mh b o hz) (some (.int r))) 0 [(0, (va_rf (some o))), (1, (.int p1))] [] (mh b o h0) := by
  unfold f_X9_initialValueOf at hf
  refine gx_aload_n C dX9_initialValueOf_0 0 rfl ?_
  refine gx_iconst (v := 0) C dX9_initialValueOf_1 rfl ?_
  replace hf := gx_bs hf
  obtain ⟨h1, g8, hf⟩ := hf
  refine gx_putv C (mh_pg (by decide) (fun _ _ => mh_p6) g8) gz_519 gz_1 rfl rfl q2640 dX9_initialValueOf_2 ?_
  refine gx_aload_n C dX9_initialValueOf_5 0 rfl ?_
  refine gx_iload_n C dX9_initialValueOf_6 1 rfl ?_
  refine gx_iconst (v := 2) C dX9_initialValueOf_7 rfl ?_
  replace hf := gx_b2s hf
  obtain ⟨b3, h4, g2, hf⟩ := hf
  refine gx_callV (st := []) C (w_X9_no hlt g2) mh_is gz_497 rfl (lw_V q3033 q3035 qs107 q151 q3036) gz_590 (by decide) rfl rfl (gx_catn (Nat.le_of_ble_eq_true rfl)) dX9_initialValueOf_8 ?_
  replace hf := gx_ite hf
  rcases hf with ⟨c5, hf⟩ | ⟨c5, hf⟩
  · refine gx_ifz_eq_f (tgt := 18) C dX9_initialValueOf_11 rfl c5 ?_
    refine gx_iconst (v := 0) C dX9_initialValueOf_14 rfl ?_
    refine gx_goto (tgt := 27) C dX9_initialValueOf_15 rfl ?_
    obtain ⟨rfl, rfl⟩ := Prod.mk.inj (Option.some.inj hf)
    exact gx_iret C dX9_initialValueOf_27
  · refine gx_ifz_eq_t (tgt := 18) C dX9_initialValueOf_11 rfl c5 ?_
    refine gx_aload_n C dX9_initialValueOf_18 0 rfl ?_
    refine gx_gr C (mh_gr (k := 0) rfl) gz_494 q2634 dX9_initialValueOf_19 ?_
    refine gx_bipush (v := 9) C dX9_initialValueOf_22 rfl ?_
    refine gx_iload_n C dX9_initialValueOf_24 1 rfl ?_
    refine gx_iadd C dX9_initialValueOf_25 ?_
    replace hf := gx_bs hf
    obtain ⟨x6, g7, hf⟩ := hf
    refine gx_iald C (mh_ai g7) dX9_initialValueOf_26 ?_
    obtain ⟨rfl, rfl⟩ := Prod.mk.inj (Option.some.inj hf)
    exact gx_iret C dX9_initialValueOf_27
theorem w_X9_initialValueOf {l : Launch} (hlt : l.stackTraces = false) {D : gx_D} {b : HX} {o : Nat} {h : MS} {p1 : Int32} {r : Int32} {hz : MS} (hf : f_X9_initialValueOf D b o h p1 = some (r, hz)) : gx_Met l yX9_initialValueOf cX9_initialValueOf 2 (some .int) 3 68 D [(va_rf (some o)), (.int p1)] (mh b o h) (some (.int r)) (mh b o hz) :=
  gx_ofG gz_495 (by simp only [gx_lsr, gx_lsi, gx_lsj, gx_ls0]; decide) mh_le (fun p e R s m args below meth c C hx => by
    simp only [gx_lar, gx_lai, gx_laj, gx_la0, Nat.reduceAdd]
    exact w_X9_initialValueOf_b hlt C hx hf)
def f_X9_hasGuard (D : gx_D) (b : HX) (o : Nat) (h : MS) (p1 : Int32) : Option ((Bool) × MS) :=
  (ms_pf h 6 (0 : Int32)).bind fun h1 =>
  gx_b2 (f_X9_no D b o h1 p1 (3 : Int32)) fun b3 h4 =>
  if b3 = true then
  some (false, h4)
  else
  (f_X9_of D b o h4 p1 (3 : Int32)).bind fun x7 =>
  if x7 = (-1 : Int32) then
  some (false, h4)
  else
  some (true, h4)
theorem w_X9_hasGuard_b {l : Launch} (hlt : l.stackTraces = false) {p : Program} {e : Env} {R : Room} {s : State} {m : MethodId} {args : Array Value} {below : List Frame} {meth : Method} {c : Code} {D : gx_D} {b : HX} {o : Nat} {h0 : MS} {r : Bool} {hz : MS} (C : gx_Ctx p R s m args meth c "ContractMachineModel" cX9_hasGuard 2 (some .boolean) 3 68 D (mh b o h0) (mh b o hz)) (hx : meth.name = "hasGuard") {p1 : Int32} (hf : f_X9_hasGuard D b o h0 p1 = some (r, hz)) : gx_G p l e R s m args below meth c D (mh b o h0) (mh b o hz) 2 (gx_MQ below args s D (mh b o h0) (mh b o hz) (some (.int (b2i r)))) 0 [(0, (va_rf (some o))), (1, (.int p1))] [] (mh b o h0) := by
  unfold f_X9_hasGuard at hf
  refine gx_aload_n C dX9_hasGuard_0 0 rfl ?_
  refine gx_iconst (v := 0) C dX9_hasGuard_1 rfl ?_
  replace hf := gx_bs hf
  obtain ⟨h1, g9, hf⟩ := hf
  refine gx_putv C (mh_pg (by decide) (fun _ _ => mh_p6) g9) gz_519 gz_1 rfl rfl q2640 dX9_hasGuard_2 ?_
  refine gx_aload_n C dX9_hasGuard_5 0 rfl ?_
  refine gx_iload_n C dX9_hasGuard_6 1 rfl ?_
  refine gx_iconst (v := 3) C dX9_hasGuard_7 rfl ?_
  replace hf := gx_b2s hf
  obtain ⟨b3, h4, g2, hf⟩ := hf
  refine gx_callV (st := []) C (w_X9_no hlt g2) mh_is gz_497 rfl (lw_V q3033 q3035 qs107 q151 q3036) gz_590 (by decide) rfl rfl (gx_catn (Nat.le_of_ble_eq_true rfl)) dX9_hasGuard_8 ?_
  replace hf := gx_ite hf
  rcases hf with ⟨c5, hf⟩ | ⟨c5, hf⟩
  · refine gx_ifz_ne_t (tgt := 28) C dX9_hasGuard_11 rfl c5 ?_
    refine gx_iconst (v := 0) C dX9_hasGuard_28 rfl ?_
    obtain ⟨rfl, rfl⟩ := Prod.mk.inj (Option.some.inj hf)
    exact gx_zret (b := false) C dX9_hasGuard_29
  · refine gx_ifz_ne_f (tgt := 28) C dX9_hasGuard_11 rfl c5 ?_
    refine gx_aload_n C dX9_hasGuard_14 0 rfl ?_
    refine gx_iload_n C dX9_hasGuard_15 1 rfl ?_
    refine gx_iconst (v := 3) C dX9_hasGuard_16 rfl ?_
    replace hf := gx_bs hf
    obtain ⟨x7, g6, hf⟩ := hf
    refine gx_callV (st := []) C (w_X9_of hlt g6) mh_is gz_497 rfl (lw_V q2950 q2952 qs99 q151 q2953) gz_569 (by decide) rfl rfl (gx_catn (Nat.le_of_ble_eq_true rfl)) dX9_hasGuard_17 ?_
    refine gx_iconst (v := -1) C dX9_hasGuard_20 rfl ?_
    replace hf := gx_ite hf
    rcases hf with ⟨c8, hf⟩ | ⟨c8, hf⟩
    · refine gx_icmp_eq_t (tgt := 28) C dX9_hasGuard_21 rfl c8 ?_
      refine gx_iconst (v := 0) C dX9_hasGuard_28 rfl ?_
      obtain ⟨rfl, rfl⟩ := Prod.mk.inj (Option.some.inj hf)
      exact gx_zret (b := false) C dX9_hasGuard_29
    · refine gx_icmp_eq_f (tgt := 28) C dX9_hasGuard_21 rfl c8 ?_
      refine gx_iconst (v := 1) C dX9_hasGuard_24 rfl ?_
      refine gx_goto (tgt := 29) C dX9_hasGuard_25 rfl ?_
      obtain ⟨rfl, rfl⟩ := Prod.mk.inj (Option.some.inj hf)
      exact gx_zret (b := true) C dX9_hasGuard_29
theorem w_X9_hasGuard {l : Launch} (hlt : l.stackTraces = false) {D : gx_D} {b : HX} {o : Nat} {h : MS} {p1 : Int32} {r : Bool} {hz : MS} (hf : f_X9_hasGuard D b o h p1 = some (r, hz)) : gx_Met l yX9_hasGuard cX9_hasGuard 2 (some .boolean) 3 68 D [(va_rf (some o)), (.int p1)] (mh b o h) (some (.int (b2i r))) (mh b o hz) :=
  gx_ofG gz_495 (by simp only [gx_lsr, gx_lsi, gx_lsj, gx_ls0]; decide) mh_le (fun p e R s m args below meth c C hx => by
    simp only [gx_lar, gx_lai, gx_laj, gx_la0, Nat.reduceAdd]
    exact w_X9_hasGuard_b hlt C hx hf)
def f_X9_guardHolds (D : gx_D) (b : HX) (o : Nat) (h : MS) (p1 : Int32) : Option ((Bool) × MS) :=
  (ms_pf h 6 (0 : Int32)).bind fun h1 =>
  gx_b2 (f_X9_no D b o h1 p1 (3 : Int32)) fun b3 h4 =>
  if b3 = true then
  some (false, h4)
  else
  (f_X9_here D b o h4).bind fun x7 =>
  (f_X9_isGuardRight D b o h4 p1 x7).bind fun b9 =>
  if b9 = true then
  some (true, h4)
  else
  some (false, h4)
theorem w_X9_guardHolds_b {l : Launch} (hlt : l.stackTraces = false) {p : Program} {e : Env} {R : Room} {s : State} {m : MethodId} {args : Array Value} {below : List Frame} {meth : Method} {c : Code} {D : gx_D} {b : HX} {o : Nat} {h0 : MS} {r : Bool} {hz : MS} (C : gx_Ctx p R s m args meth c "ContractMachineModel" cX9_guardHolds 2 (some .boolean) 4 88 D (mh b o h0) (mh b o hz)) (hx : meth.name = "guardHolds") {p1 : Int32} (hf : f_X9_guardHolds D b o h0 p1 = some (r, hz)) : gx_G p l e R s m args below meth c D (mh b o h0) (mh b o hz) 2 (gx_MQ below args s D (mh b o h0) (mh b o hz) (some (.int (b2i r)))) 0 [(0, (va_rf (some o))), (1, (.int p1))] [] (mh b o h0) := by
  unfold f_X9_guardHolds at hf
  refine gx_aload_n C dX9_guardHolds_0 0 rfl ?_
  refine gx_iconst (v := 0) C dX9_guardHolds_1 rfl ?_
  replace hf := gx_bs hf
  obtain ⟨h1, g11, hf⟩ := hf
  refine gx_putv C (mh_pg (by decide) (fun _ _ => mh_p6) g11) gz_519 gz_1 rfl rfl q2640 dX9_guardHolds_2 ?_
  refine gx_aload_n C dX9_guardHolds_5 0 rfl ?_
  refine gx_iload_n C dX9_guardHolds_6 1 rfl ?_
  refine gx_iconst (v := 3) C dX9_guardHolds_7 rfl ?_
  replace hf := gx_b2s hf
  obtain ⟨b3, h4, g2, hf⟩ := hf
  refine gx_callV (st := []) C (w_X9_no hlt g2) mh_is gz_497 rfl (lw_V q3033 q3035 qs107 q151 q3036) gz_590 (by decide) rfl rfl (gx_catn (Nat.le_of_ble_eq_true rfl)) dX9_guardHolds_8 ?_
  replace hf := gx_ite hf
  rcases hf with ⟨c5, hf⟩ | ⟨c5, hf⟩
  · refine gx_ifz_ne_t (tgt := 30) C dX9_guardHolds_11 rfl c5 ?_
    refine gx_iconst (v := 0) C dX9_guardHolds_30 rfl ?_
    obtain ⟨rfl, rfl⟩ := Prod.mk.inj (Option.some.inj hf)
    exact gx_zret (b := false) C dX9_guardHolds_31
  · refine gx_ifz_ne_f (tgt := 30) C dX9_guardHolds_11 rfl c5 ?_
    refine gx_aload_n C dX9_guardHolds_14 0 rfl ?_
    refine gx_iload_n C dX9_guardHolds_15 1 rfl ?_
    refine gx_aload_n C dX9_guardHolds_16 0 rfl ?_
    replace hf := gx_bs hf
    obtain ⟨x7, g6, hf⟩ := hf
    refine gx_callV (st := [(.int p1), (va_rf (some o))]) C (w_X9_here hlt g6) mh_is gz_497 rfl (lw_V q2938 q2940 qs96 q151 q2941) gz_576 (by decide) rfl rfl (gx_catn (Nat.le_of_ble_eq_true rfl)) dX9_guardHolds_17 ?_
    replace hf := gx_bs hf
    obtain ⟨b9, g8, hf⟩ := hf
    refine gx_callV (st := []) C (w_X9_isGuardRight hlt g8) mh_is gz_497 rfl (lw_V q2954 q2956 qs100 q151 q2957) gz_571 (by decide) rfl rfl (gx_catn (Nat.le_of_ble_eq_true rfl)) dX9_guardHolds_20 ?_
    replace hf := gx_ite hf
    rcases hf with ⟨c10, hf⟩ | ⟨c10, hf⟩
    · refine gx_ifz_eq_f (tgt := 30) C dX9_guardHolds_23 rfl c10 ?_
      refine gx_iconst (v := 1) C dX9_guardHolds_26 rfl ?_
      refine gx_goto (tgt := 31) C dX9_guardHolds_27 rfl ?_
      obtain ⟨rfl, rfl⟩ := Prod.mk.inj (Option.some.inj hf)
      exact gx_zret (b := true) C dX9_guardHolds_31
    · refine gx_ifz_eq_t (tgt := 30) C dX9_guardHolds_23 rfl c10 ?_
      refine gx_iconst (v := 0) C dX9_guardHolds_30 rfl ?_
      obtain ⟨rfl, rfl⟩ := Prod.mk.inj (Option.some.inj hf)
      exact gx_zret (b := false) C dX9_guardHolds_31
theorem w_X9_guardHolds {l : Launch} (hlt : l.stackTraces = false) {D : gx_D} {b : HX} {o : Nat} {h : MS} {p1 : Int32} {r : Bool} {hz : MS} (hf : f_X9_guardHolds D b o h p1 = some (r, hz)) : gx_Met l yX9_guardHolds cX9_guardHolds 2 (some .boolean) 4 88 D [(va_rf (some o)), (.int p1)] (mh b o h) (some (.int (b2i r))) (mh b o hz) :=
  gx_ofG gz_495 (by simp only [gx_lsr, gx_lsi, gx_lsj, gx_ls0]; decide) mh_le (fun p e R s m args below meth c C hx => by
    simp only [gx_lar, gx_lai, gx_laj, gx_la0, Nat.reduceAdd]
    exact w_X9_guardHolds_b hlt C hx hf)
def f_X9_stateOfInvariant (D : gx_D) (b : HX) (o : Nat) (h : MS) (p1 : Int32) : Option ((Int32) × MS) :=
  (ms_pf h 6 (0 : Int32)).bind fun h1 =>
  gx_b2 (f_X9_no D b o h1 p1 (4 : Int32)) fun b3 h4 =>
  if b3 = true then
  some ((0 : Int32), h4)
  else
  (f_X9_ofInvariant D b o h4 p1 (0 : Int32)).bind fun x7 =>
  some (x7, h4)
theorem w_X9_stateOfInvariant_b {l : Launch} (hlt : l.stackTraces = false) {p : Program} {e : Env} {R : Room} {s : State} {m : MethodId} {args : Array Value} {below : List Frame} {meth : Method} {c : Code} {D : gx_D} {b : HX} {o : Nat} {h0 : MS} {r : Int32} {hz : MS} (C : gx_Ctx p R s m args meth c "ContractMachineModel" cX9_stateOfInvariant 2 (some .int) 3 68 D (mh b o h0) (mh b o hz)) (hx : meth.name = "stateOfInvariant") {p1 : Int32} (hf : f_X9_stateOfInvariant D b o h0 p1 = some (r, hz)) : gx_G p l e R s m args below meth c D (mh b o h0) (mh b o hz) 2 (gx_MQ below args s D (mh b o h0) (mh b o hz) (some (.int r))) 0 [(0, (va_rf (some o))), (1, (.int p1))] [] (mh b o h0) := by
  unfold f_X9_stateOfInvariant at hf
  refine gx_aload_n C dX9_stateOfInvariant_0 0 rfl ?_
  refine gx_iconst (v := 0) C dX9_stateOfInvariant_1 rfl ?_
  replace hf := gx_bs hf
  obtain ⟨h1, g8, hf⟩ := hf
  refine gx_putv C (mh_pg (by decide) (fun _ _ => mh_p6) g8) gz_519 gz_1 rfl rfl q2640 dX9_stateOfInvariant_2 ?_
  refine gx_aload_n C dX9_stateOfInvariant_5 0 rfl ?_
  refine gx_iload_n C dX9_stateOfInvariant_6 1 rfl ?_
  refine gx_iconst (v := 4) C dX9_stateOfInvariant_7 rfl ?_
  replace hf := gx_b2s hf
  obtain ⟨b3, h4, g2, hf⟩ := hf
  refine gx_callV (st := []) C (w_X9_no hlt g2) mh_is gz_497 rfl (lw_V q3033 q3035 qs107 q151 q3036) gz_590 (by decide) rfl rfl (gx_catn (Nat.le_of_ble_eq_true rfl)) dX9_stateOfInvariant_8 ?_
  replace hf := gx_ite hf
  rcases hf with ⟨c5, hf⟩ | ⟨c5, hf⟩
  · refine gx_ifz_eq_f (tgt := 18) C dX9_stateOfInvariant_11 rfl c5 ?_
    refine gx_iconst (v := 0) C dX9_stateOfInvariant_14 rfl ?_
    refine gx_goto (tgt := 24) C dX9_stateOfInvariant_15 rfl ?_
    obtain ⟨rfl, rfl⟩ := Prod.mk.inj (Option.some.inj hf)
    exact gx_iret C dX9_stateOfInvariant_24
  · refine gx_ifz_eq_t (tgt := 18) C dX9_stateOfInvariant_11 rfl c5 ?_
    refine gx_aload_n C dX9_stateOfInvariant_18 0 rfl ?_
    refine gx_iload_n C dX9_stateOfInvariant_19 1 rfl ?_
    refine gx_iconst (v := 0) C dX9_stateOfInvariant_20 rfl ?_
    replace hf := gx_bs hf
    obtain ⟨x7, g6, hf⟩ := hf
    refine gx_callV (st := []) C (w_X9_ofInvariant hlt g6) mh_is gz_497 rfl (lw_V q2883 q2885 qs87 q151 q2886) gz_528 (by decide) rfl rfl (gx_catn (Nat.le_of_ble_eq_true rfl)) dX9_stateOfInvariant_21 ?_
    obtain ⟨rfl, rfl⟩ := Prod.mk.inj (Option.some.inj hf)
    exact gx_iret C dX9_stateOfInvariant_24
theorem w_X9_stateOfInvariant {l : Launch} (hlt : l.stackTraces = false) {D : gx_D} {b : HX} {o : Nat} {h : MS} {p1 : Int32} {r : Int32} {hz : MS} (hf : f_X9_stateOfInvariant D b o h p1 = some (r, hz)) : gx_Met l yX9_stateOfInvariant cX9_stateOfInvariant 2 (some .int) 3 68 D [(va_rf (some o)), (.int p1)] (mh b o h) (some (.int r)) (mh b o hz) :=
  gx_ofG gz_495 (by simp only [gx_lsr, gx_lsi, gx_lsj, gx_ls0]; decide) mh_le (fun p e R s m args below meth c C hx => by
    simp only [gx_lar, gx_lai, gx_laj, gx_la0, Nat.reduceAdd]
    exact w_X9_stateOfInvariant_b hlt C hx hf)
def f_X9_comparisonHolds (D : gx_D) (b : HX) (o : Nat) (h : MS) (p1 : Int32) : Option ((Bool) × MS) :=
  (ms_pf h 6 (0 : Int32)).bind fun h1 =>
  gx_b2 (f_X9_no D b o h1 p1 (4 : Int32)) fun b3 h4 =>
  if b3 = true then
  some (false, h4)
  else
  (f_X9_here D b o h4).bind fun x7 =>
  (f_X9_compares D b o h4 p1 x7).bind fun b9 =>
  if b9 = true then
  some (true, h4)
  else
  some (false, h4)
theorem w_X9_comparisonHolds_b {l : Launch} (hlt : l.stackTraces = false) {p : Program} {e : Env} {R : Room} {s : State} {m : MethodId} {args : Array Value} {below : List Frame} {meth : Method} {c : Code} {D : gx_D} {b : HX} {o : Nat} {h0 : MS} {r : Bool} {hz : MS} (C : gx_Ctx p R s m args meth c "ContractMachineModel" cX9_comparisonHolds 2 (some .boolean) 4 87 D (mh b o h0) (mh b o hz)) (hx : meth.name = "comparisonHolds") {p1 : Int32} (hf : f_X9_comparisonHolds D b o h0 p1 = some (r, hz)) : gx_G p l e R s m args below meth c D (mh b o h0) (mh b o hz) 2 (gx_MQ below args s D (mh b o h0) (mh b o hz) (some (.int (b2i r)))) 0 [(0, (va_rf (some o))), (1, (.int p1))] [] (mh b o h0) := by
  unfold f_X9_comparisonHolds at hf
  refine gx_aload_n C dX9_comparisonHolds_0 0 rfl ?_
  refine gx_iconst (v := 0) C dX9_comparisonHolds_1 rfl ?_
  replace hf := gx_bs hf
  obtain ⟨h1, g11, hf⟩ := hf
  refine gx_putv C (mh_pg (by decide) (fun _ _ => mh_p6) g11) gz_519 gz_1 rfl rfl q2640 dX9_comparisonHolds_2 ?_
  refine gx_aload_n C dX9_comparisonHolds_5 0 rfl ?_
  refine gx_iload_n C dX9_comparisonHolds_6 1 rfl ?_
  refine gx_iconst (v := 4) C dX9_comparisonHolds_7 rfl ?_
  replace hf := gx_b2s hf
  obtain ⟨b3, h4, g2, hf⟩ := hf
  refine gx_callV (st := []) C (w_X9_no hlt g2) mh_is gz_497 rfl (lw_V q3033 q3035 qs107 q151 q3036) gz_590 (by decide) rfl rfl (gx_catn (Nat.le_of_ble_eq_true rfl)) dX9_comparisonHolds_8 ?_
  replace hf := gx_ite hf
  rcases hf with ⟨c5, hf⟩ | ⟨c5, hf⟩
  · refine gx_ifz_ne_t (tgt := 30) C dX9_comparisonHolds_11 rfl c5 ?_
    refine gx_iconst (v := 0) C dX9_comparisonHolds_30 rfl ?_
    obtain ⟨rfl, rfl⟩ := Prod.mk.inj (Option.some.inj hf)
    exact gx_zret (b := false) C dX9_comparisonHolds_31
  · refine gx_ifz_ne_f (tgt := 30) C dX9_comparisonHolds_11 rfl c5 ?_
    refine gx_aload_n C dX9_comparisonHolds_14 0 rfl ?_
    refine gx_iload_n C dX9_comparisonHolds_15 1 rfl ?_
    refine gx_aload_n C dX9_comparisonHolds_16 0 rfl ?_
    replace hf := gx_bs hf
    obtain ⟨x7, g6, hf⟩ := hf
    refine gx_callV (st := [(.int p1), (va_rf (some o))]) C (w_X9_here hlt g6) mh_is gz_497 rfl (lw_V q2938 q2940 qs96 q151 q2941) gz_576 (by decide) rfl rfl (gx_catn (Nat.le_of_ble_eq_true rfl)) dX9_comparisonHolds_17 ?_
    replace hf := gx_bs hf
    obtain ⟨b9, g8, hf⟩ := hf
    refine gx_callV (st := []) C (w_X9_compares hlt g8) mh_is gz_497 rfl (lw_V q2890 q2892 qs88 q151 q2893) gz_531 (by decide) rfl rfl (gx_catn (Nat.le_of_ble_eq_true rfl)) dX9_comparisonHolds_20 ?_
    replace hf := gx_ite hf
    rcases hf with ⟨c10, hf⟩ | ⟨c10, hf⟩
    · refine gx_ifz_eq_f (tgt := 30) C dX9_comparisonHolds_23 rfl c10 ?_
      refine gx_iconst (v := 1) C dX9_comparisonHolds_26 rfl ?_
      refine gx_goto (tgt := 31) C dX9_comparisonHolds_27 rfl ?_
      obtain ⟨rfl, rfl⟩ := Prod.mk.inj (Option.some.inj hf)
      exact gx_zret (b := true) C dX9_comparisonHolds_31
    · refine gx_ifz_eq_t (tgt := 30) C dX9_comparisonHolds_23 rfl c10 ?_
      refine gx_iconst (v := 0) C dX9_comparisonHolds_30 rfl ?_
      obtain ⟨rfl, rfl⟩ := Prod.mk.inj (Option.some.inj hf)
      exact gx_zret (b := false) C dX9_comparisonHolds_31
theorem w_X9_comparisonHolds {l : Launch} (hlt : l.stackTraces = false) {D : gx_D} {b : HX} {o : Nat} {h : MS} {p1 : Int32} {r : Bool} {hz : MS} (hf : f_X9_comparisonHolds D b o h p1 = some (r, hz)) : gx_Met l yX9_comparisonHolds cX9_comparisonHolds 2 (some .boolean) 4 87 D [(va_rf (some o)), (.int p1)] (mh b o h) (some (.int (b2i r))) (mh b o hz) :=
  gx_ofG gz_495 (by simp only [gx_lsr, gx_lsi, gx_lsj, gx_ls0]; decide) mh_le (fun p e R s m args below meth c C hx => by
    simp only [gx_lar, gx_lai, gx_laj, gx_la0, Nat.reduceAdd]
    exact w_X9_comparisonHolds_b hlt C hx hf)
def f_X9_verdictOf (D : gx_D) (b : HX) (o : Nat) (h : MS) (p1 : Int32) : Option ((Int32) × MS) :=
  (ms_pf h 6 (0 : Int32)).bind fun h1 =>
  gx_b2 (f_X9_no D b o h1 p1 (1 : Int32)) fun b3 h4 =>
  if b3 = true then
  some ((0 : Int32), h4)
  else
  (f_X9_here D b o h4).bind fun x7 =>
  gx_b2 (f_X9_verdict D b o h4 x7 p1) fun x9 h10 =>
  some (x9, h10)
theorem w_X9_verdictOf_b {l : Launch} (hlt : l.stackTraces = false) {p : Program} {e : Env} {R : Room} {s : State} {m : MethodId} {args : Array Value} {below : List Frame} {meth : Method} {c : Code} {D : gx_D} {b : HX} {o : Nat} {h0 : MS} {r : Int32} {hz : MS} (C : gx_Ctx p R s m args meth c "ContractMachineModel" cX9_verdictOf 2 (some .int) 7 157 D (mh b o h0) (mh b o hz)) (hx : meth.name = "verdictOf") {p1 : Int32} (hf : f_X9_verdictOf D b o h0 p1 = some (r, hz)) : gx_G p l e R s m args below meth c D (mh b o h0) (mh b o hz) 2 (gx_MQ below args s D (mh b o h0) (mh b o hz) (some (.int r))) 0 [(0, (va_rf (some o))), (1, (.int p1))] [] (mh b o h0) := by
  unfold f_X9_verdictOf at hf
  refine gx_aload_n C dX9_verdictOf_0 0 rfl ?_
  refine gx_iconst (v := 0) C dX9_verdictOf_1 rfl ?_
  replace hf := gx_bs hf
  obtain ⟨h1, g11, hf⟩ := hf
  refine gx_putv C (mh_pg (by decide) (fun _ _ => mh_p6) g11) gz_519 gz_1 rfl rfl q2640 dX9_verdictOf_2 ?_
  refine gx_aload_n C dX9_verdictOf_5 0 rfl ?_
  refine gx_iload_n C dX9_verdictOf_6 1 rfl ?_
  refine gx_iconst (v := 1) C dX9_verdictOf_7 rfl ?_
  replace hf := gx_b2s hf
  obtain ⟨b3, h4, g2, hf⟩ := hf
  refine gx_callV (st := []) C (w_X9_no hlt g2) mh_is gz_497 rfl (lw_V q3033 q3035 qs107 q151 q3036) gz_590 (by decide) rfl rfl (gx_catn (Nat.le_of_ble_eq_true rfl)) dX9_verdictOf_8 ?_
  replace hf := gx_ite hf
  rcases hf with ⟨c5, hf⟩ | ⟨c5, hf⟩
  · refine gx_ifz_eq_f (tgt := 18) C dX9_verdictOf_11 rfl c5 ?_
    refine gx_iconst (v := 0) C dX9_verdictOf_14 rfl ?_
    refine gx_goto (tgt := 27) C dX9_verdictOf_15 rfl ?_
    obtain ⟨rfl, rfl⟩ := Prod.mk.inj (Option.some.inj hf)
    exact gx_iret C dX9_verdictOf_27
  · refine gx_ifz_eq_t (tgt := 18) C dX9_verdictOf_11 rfl c5 ?_
    refine gx_aload_n C dX9_verdictOf_18 0 rfl ?_
    refine gx_aload_n C dX9_verdictOf_19 0 rfl ?_
    replace hf := gx_bs hf
    obtain ⟨x7, g6, hf⟩ := hf
    refine gx_callV (st := [(va_rf (some o))]) C (w_X9_here hlt g6) mh_is gz_497 rfl (lw_V q2938 q2940 qs96 q151 q2941) gz_576 (by decide) rfl rfl (gx_catn (Nat.le_of_ble_eq_true rfl)) dX9_verdictOf_20 ?_
    refine gx_iload_n C dX9_verdictOf_23 1 rfl ?_
    replace hf := gx_b2s hf
    obtain ⟨x9, h10, g8, hf⟩ := hf
    refine gx_callV (st := []) C (w_X9_verdict hlt g8) mh_is gz_497 rfl (lw_V q2942 q2944 qs97 q151 q2945) gz_577 (by decide) rfl rfl (gx_catn (Nat.le_of_ble_eq_true rfl)) dX9_verdictOf_24 ?_
    obtain ⟨rfl, rfl⟩ := Prod.mk.inj (Option.some.inj hf)
    exact gx_iret C dX9_verdictOf_27
theorem w_X9_verdictOf {l : Launch} (hlt : l.stackTraces = false) {D : gx_D} {b : HX} {o : Nat} {h : MS} {p1 : Int32} {r : Int32} {hz : MS} (hf : f_X9_verdictOf D b o h p1 = some (r, hz)) : gx_Met l yX9_verdictOf cX9_verdictOf 2 (some .int) 7 157 D [(va_rf (some o)), (.int p1)] (mh b o h) (some (.int r)) (mh b o hz) :=
  gx_ofG gz_495 (by simp only [gx_lsr, gx_lsi, gx_lsj, gx_ls0]; decide) mh_le (fun p e R s m args below meth c C hx => by
    simp only [gx_lar, gx_lai, gx_laj, gx_la0, Nat.reduceAdd]
    exact w_X9_verdictOf_b hlt C hx hf)
def f_X9_chosenTransition (D : gx_D) (b : HX) (o : Nat) (h : MS) (p1 : Int32) : Option ((Int32) × MS) :=
  (ms_pf h 6 (0 : Int32)).bind fun h1 =>
  gx_b2 (f_X9_no D b o h1 p1 (1 : Int32)) fun b3 h4 =>
  if b3 = true then
  some ((0 : Int32), h4)
  else
  (f_X9_here D b o h4).bind fun x7 =>
  gx_b2 (f_X9_verdict D b o h4 x7 p1) fun x9 h10 =>
  some ((h10.1 7), h10)
theorem w_X9_chosenTransition_b {l : Launch} (hlt : l.stackTraces = false) {p : Program} {e : Env} {R : Room} {s : State} {m : MethodId} {args : Array Value} {below : List Frame} {meth : Method} {c : Code} {D : gx_D} {b : HX} {o : Nat} {h0 : MS} {r : Int32} {hz : MS} (C : gx_Ctx p R s m args meth c "ContractMachineModel" cX9_chosenTransition 3 (some .int) 7 157 D (mh b o h0) (mh b o hz)) (hx : meth.name = "chosenTransition") {p1 : Int32} (hf : f_X9_chosenTransition D b o h0 p1 = some (r, hz)) : gx_G p l e R s m args below meth c D (mh b o h0) (mh b o hz) 3 (gx_MQ below args s D (mh b o h0) (mh b o hz) (some (.int r))) 0 [(0, (va_rf (some o))), (1, (.int p1))] [] (mh b o h0) := by
  unfold f_X9_chosenTransition at hf
  refine gx_aload_n C dX9_chosenTransition_0 0 rfl ?_
  refine gx_iconst (v := 0) C dX9_chosenTransition_1 rfl ?_
  replace hf := gx_bs hf
  obtain ⟨h1, g11, hf⟩ := hf
  refine gx_putv C (mh_pg (by decide) (fun _ _ => mh_p6) g11) gz_519 gz_1 rfl rfl q2640 dX9_chosenTransition_2 ?_
  refine gx_aload_n C dX9_chosenTransition_5 0 rfl ?_
  refine gx_iload_n C dX9_chosenTransition_6 1 rfl ?_
  refine gx_iconst (v := 1) C dX9_chosenTransition_7 rfl ?_
  replace hf := gx_b2s hf
  obtain ⟨b3, h4, g2, hf⟩ := hf
  refine gx_callV (st := []) C (w_X9_no hlt g2) mh_is gz_497 rfl (lw_V q3033 q3035 qs107 q151 q3036) gz_590 (by decide) rfl rfl (gx_catn (Nat.le_of_ble_eq_true rfl)) dX9_chosenTransition_8 ?_
  replace hf := gx_ite hf
  rcases hf with ⟨c5, hf⟩ | ⟨c5, hf⟩
  · refine gx_ifz_eq_f (tgt := 16) C dX9_chosenTransition_11 rfl c5 ?_
    refine gx_iconst (v := 0) C dX9_chosenTransition_14 rfl ?_
    obtain ⟨rfl, rfl⟩ := Prod.mk.inj (Option.some.inj hf)
    exact gx_iret C dX9_chosenTransition_15
  · refine gx_ifz_eq_t (tgt := 16) C dX9_chosenTransition_11 rfl c5 ?_
    refine gx_aload_n C dX9_chosenTransition_16 0 rfl ?_
    refine gx_aload_n C dX9_chosenTransition_17 0 rfl ?_
    replace hf := gx_bs hf
    obtain ⟨x7, g6, hf⟩ := hf
    refine gx_callV (st := [(va_rf (some o))]) C (w_X9_here hlt g6) mh_is gz_497 rfl (lw_V q2938 q2940 qs96 q151 q2941) gz_576 (by decide) rfl rfl (gx_catn (Nat.le_of_ble_eq_true rfl)) dX9_chosenTransition_18 ?_
    refine gx_iload_n C dX9_chosenTransition_21 1 rfl ?_
    replace hf := gx_b2s hf
    obtain ⟨x9, h10, g8, hf⟩ := hf
    refine gx_callV (st := []) C (w_X9_verdict hlt g8) mh_is gz_497 rfl (lw_V q2942 q2944 qs97 q151 q2945) gz_577 (by decide) rfl rfl (gx_catn (Nat.le_of_ble_eq_true rfl)) dX9_chosenTransition_22 ?_
    refine gx_istn C dX9_chosenTransition_25 2 rfl (by decide) [0]  rfl (gx_okn rfl rfl gx_ok0) ?_
    refine gx_aload_n C dX9_chosenTransition_26 1 rfl ?_
    refine gx_gi C (mh_gi (k := 7) rfl) gz_570 q2641 dX9_chosenTransition_27 ?_
    obtain ⟨rfl, rfl⟩ := Prod.mk.inj (Option.some.inj hf)
    exact gx_iret C dX9_chosenTransition_30
theorem w_X9_chosenTransition {l : Launch} (hlt : l.stackTraces = false) {D : gx_D} {b : HX} {o : Nat} {h : MS} {p1 : Int32} {r : Int32} {hz : MS} (hf : f_X9_chosenTransition D b o h p1 = some (r, hz)) : gx_Met l yX9_chosenTransition cX9_chosenTransition 3 (some .int) 7 157 D [(va_rf (some o)), (.int p1)] (mh b o h) (some (.int r)) (mh b o hz) :=
  gx_ofG gz_495 (by simp only [gx_lsr, gx_lsi, gx_lsj, gx_ls0]; decide) mh_le (fun p e R s m args below meth c C hx => by
    simp only [gx_lar, gx_lai, gx_laj, gx_la0, Nat.reduceAdd]
    exact w_X9_chosenTransition_b hlt C hx hf)
def f_X9_brokenInvariant (D : gx_D) (b : HX) (o : Nat) (h : MS) (p1 : Int32) : Option ((Int32) × MS) :=
  (ms_pf h 6 (0 : Int32)).bind fun h1 =>
  gx_b2 (f_X9_no D b o h1 p1 (1 : Int32)) fun b3 h4 =>
  if b3 = true then
  some ((0 : Int32), h4)
  else
  (f_X9_here D b o h4).bind fun x7 =>
  gx_b2 (f_X9_verdict D b o h4 x7 p1) fun x9 h10 =>
  if x9 = (4 : Int32) then
  (f_X9_firstBroken D b o h10 (h10.1 8)).bind fun x13 =>
  some (x13, h10)
  else
  some ((-1 : Int32), h10)
theorem w_X9_brokenInvariant_b {l : Launch} (hlt : l.stackTraces = false) {p : Program} {e : Env} {R : Room} {s : State} {m : MethodId} {args : Array Value} {below : List Frame} {meth : Method} {c : Code} {D : gx_D} {b : HX} {o : Nat} {h0 : MS} {r : Int32} {hz : MS} (C : gx_Ctx p R s m args meth c "ContractMachineModel" cX9_brokenInvariant 2 (some .int) 7 157 D (mh b o h0) (mh b o hz)) (hx : meth.name = "brokenInvariant") {p1 : Int32} (hf : f_X9_brokenInvariant D b o h0 p1 = some (r, hz)) : gx_G p l e R s m args below meth c D (mh b o h0) (mh b o hz) 2 (gx_MQ below args s D (mh b o h0) (mh b o hz) (some (.int r))) 0 [(0, (va_rf (some o))), (1, (.int p1))] [] (mh b o h0) := by
  unfold f_X9_brokenInvariant at hf
  refine gx_aload_n C dX9_brokenInvariant_0 0 rfl ?_
  refine gx_iconst (v := 0) C dX9_brokenInvariant_1 rfl ?_
  replace hf := gx_bs hf
  obtain ⟨h1, g14, hf⟩ := hf
  refine gx_putv C (mh_pg (by decide) (fun _ _ => mh_p6) g14) gz_519 gz_1 rfl rfl q2640 dX9_brokenInvariant_2 ?_
  refine gx_aload_n C dX9_brokenInvariant_5 0 rfl ?_
  refine gx_iload_n C dX9_brokenInvariant_6 1 rfl ?_
  refine gx_iconst (v := 1) C dX9_brokenInvariant_7 rfl ?_
  replace hf := gx_b2s hf
  obtain ⟨b3, h4, g2, hf⟩ := hf
  refine gx_callV (st := []) C (w_X9_no hlt g2) mh_is gz_497 rfl (lw_V q3033 q3035 qs107 q151 q3036) gz_590 (by decide) rfl rfl (gx_catn (Nat.le_of_ble_eq_true rfl)) dX9_brokenInvariant_8 ?_
  replace hf := gx_ite hf
  rcases hf with ⟨c5, hf⟩ | ⟨c5, hf⟩
  · refine gx_ifz_eq_f (tgt := 16) C dX9_brokenInvariant_11 rfl c5 ?_
    refine gx_iconst (v := 0) C dX9_brokenInvariant_14 rfl ?_
    obtain ⟨rfl, rfl⟩ := Prod.mk.inj (Option.some.inj hf)
    exact gx_iret C dX9_brokenInvariant_15
  · refine gx_ifz_eq_t (tgt := 16) C dX9_brokenInvariant_11 rfl c5 ?_
    refine gx_aload_n C dX9_brokenInvariant_16 0 rfl ?_
    refine gx_aload_n C dX9_brokenInvariant_17 0 rfl ?_
    replace hf := gx_bs hf
    obtain ⟨x7, g6, hf⟩ := hf
    refine gx_callV (st := [(va_rf (some o))]) C (w_X9_here hlt g6) mh_is gz_497 rfl (lw_V q2938 q2940 qs96 q151 q2941) gz_576 (by decide) rfl rfl (gx_catn (Nat.le_of_ble_eq_true rfl)) dX9_brokenInvariant_18 ?_
    refine gx_iload_n C dX9_brokenInvariant_21 1 rfl ?_
    replace hf := gx_b2s hf
    obtain ⟨x9, h10, g8, hf⟩ := hf
    refine gx_callV (st := []) C (w_X9_verdict hlt g8) mh_is gz_497 rfl (lw_V q2942 q2944 qs97 q151 q2945) gz_577 (by decide) rfl rfl (gx_catn (Nat.le_of_ble_eq_true rfl)) dX9_brokenInvariant_22 ?_
    refine gx_iconst (v := 4) C dX9_brokenInvariant_25 rfl ?_
    replace hf := gx_ite hf
    rcases hf with ⟨c11, hf⟩ | ⟨c11, hf⟩
    · refine gx_icmp_ne_f (tgt := 40) C dX9_brokenInvariant_26 rfl c11 ?_
      refine gx_aload_n C dX9_brokenInvariant_29 0 rfl ?_
      refine gx_aload_n C dX9_brokenInvariant_30 0 rfl ?_
      refine gx_gi C (mh_gi (k := 8) rfl) gz_572 q2642 dX9_brokenInvariant_31 ?_
      replace hf := gx_bs hf
      obtain ⟨x13, g12, hf⟩ := hf
      refine gx_callV (st := []) C (w_X9_firstBroken hlt g12) mh_is gz_497 rfl (lw_V q2875 q2877 qs85 q151 q2878) gz_560 (by decide) rfl rfl (gx_catn (Nat.le_of_ble_eq_true rfl)) dX9_brokenInvariant_34 ?_
      refine gx_goto (tgt := 41) C dX9_brokenInvariant_37 rfl ?_
      obtain ⟨rfl, rfl⟩ := Prod.mk.inj (Option.some.inj hf)
      exact gx_iret C dX9_brokenInvariant_41
    · refine gx_icmp_ne_t (tgt := 40) C dX9_brokenInvariant_26 rfl c11 ?_
      refine gx_iconst (v := -1) C dX9_brokenInvariant_40 rfl ?_
      obtain ⟨rfl, rfl⟩ := Prod.mk.inj (Option.some.inj hf)
      exact gx_iret C dX9_brokenInvariant_41
theorem w_X9_brokenInvariant {l : Launch} (hlt : l.stackTraces = false) {D : gx_D} {b : HX} {o : Nat} {h : MS} {p1 : Int32} {r : Int32} {hz : MS} (hf : f_X9_brokenInvariant D b o h p1 = some (r, hz)) : gx_Met l yX9_brokenInvariant cX9_brokenInvariant 2 (some .int) 7 157 D [(va_rf (some o)), (.int p1)] (mh b o h) (some (.int r)) (mh b o hz) :=
  gx_ofG gz_495 (by simp only [gx_lsr, gx_lsi, gx_lsj, gx_ls0]; decide) mh_le (fun p e R s m args below meth c C hx => by
    simp only [gx_lar, gx_lai, gx_laj, gx_la0, Nat.reduceAdd]
    exact w_X9_brokenInvariant_b hlt C hx hf)
def f_X9_isStuck_b2 (D : gx_D) (b : HX) (o : Nat) : Nat → MS → Int32 → Int32 → Option ((Bool) × MS)
  | 0, _, _, _ => none
  | n + 1, h, v1, v2 =>
  (ms_ai h 0 (1 : Int32)).bind fun x1 =>
  if x1 ≤ v2 then
  some (true, h)
  else
  gx_b2 (f_X9_verdict D b o h v1 v2) fun x4 h5 =>
  if x4 = 0 then
  some (false, h5)
  else
  (f_X9_isStuck_b2 D b o n) h5 v1 ((v2 + (1 : Int32)))
theorem w_X9_isStuck_b2 {l : Launch} (hlt : l.stackTraces = false) {p : Program} {e : Env} {R : Room} {s : State} {m : MethodId} {args : Array Value} {below : List Frame} {meth : Method} {c : Code} {D : gx_D} {b : HX} {o : Nat} {h0 : MS} {r : Bool} {hz : MS} (C : gx_Ctx p R s m args meth c "ContractMachineModel" cX9_isStuck 3 (some .boolean) 7 157 D (mh b o h0) (mh b o hz)) (hx : meth.name = "isStuck")  : ∀ (n : Nat) ⦃h : MS⦄ ⦃v1 : Int32⦄ ⦃v2 : Int32⦄, f_X9_isStuck_b2 D b o n h v1 v2 = some (r, hz) → gx_G p l e R s m args below meth c D (mh b o h0) (mh b o hz) 3 (gx_MQ below args s D (mh b o h0) (mh b o hz) (some (.int (b2i r)))) 2 [(0, (va_rf (some o))), (1, (.int v1)), (2, (.int v2))] [] (mh b o h) := by
  intro n
  induction n with
  | zero => intro h v1 v2 hf; unfold f_X9_isStuck_b2 at hf; cases hf
  | succ n wk2 =>
    intro h v1 v2 hf
    unfold f_X9_isStuck_b2 at hf
    refine gx_iload_n C dX9_isStuck_2 2 rfl ?_
    refine gx_aload_n C dX9_isStuck_3 0 rfl ?_
    refine gx_gr C (mh_gr (k := 0) rfl) gz_494 q2634 dX9_isStuck_4 ?_
    refine gx_iconst (v := 1) C dX9_isStuck_7 rfl ?_
    replace hf := gx_bs hf
    obtain ⟨x1, g7, hf⟩ := hf
    refine gx_iald C (mh_ai g7) dX9_isStuck_8 ?_
    replace hf := gx_ite hf
    rcases hf with ⟨c2, hf⟩ | ⟨c2, hf⟩
    · refine gx_icmp_ge_t (tgt := 29) C dX9_isStuck_9 rfl c2 ?_
      refine gx_iconst (v := 1) C dX9_isStuck_29 rfl ?_
      obtain ⟨rfl, rfl⟩ := Prod.mk.inj (Option.some.inj hf)
      exact gx_zret (b := true) C dX9_isStuck_30
    · refine gx_icmp_ge_f (tgt := 29) C dX9_isStuck_9 rfl c2 ?_
      refine gx_aload_n C dX9_isStuck_12 0 rfl ?_
      refine gx_iload_n C dX9_isStuck_13 1 rfl ?_
      refine gx_iload_n C dX9_isStuck_14 2 rfl ?_
      replace hf := gx_b2s hf
      obtain ⟨x4, h5, g3, hf⟩ := hf
      refine gx_callV (st := []) C (w_X9_verdict hlt g3) mh_is gz_497 rfl (lw_V q2942 q2944 qs97 q151 q2945) gz_577 (by decide) rfl rfl (gx_catn (Nat.le_of_ble_eq_true rfl)) dX9_isStuck_15 ?_
      replace hf := gx_ite hf
      rcases hf with ⟨c6, hf⟩ | ⟨c6, hf⟩
      · refine gx_if_ne_f (tgt := 23) C dX9_isStuck_18 rfl c6 ?_
        refine gx_iconst (v := 0) C dX9_isStuck_21 rfl ?_
        obtain ⟨rfl, rfl⟩ := Prod.mk.inj (Option.some.inj hf)
        exact gx_zret (b := false) C dX9_isStuck_22
      · refine gx_if_ne_t (tgt := 23) C dX9_isStuck_18 rfl c6 ?_
        refine gx_inc (v := 1) C dX9_isStuck_23 2 rfl rfl (by decide) [0, 1] rfl (gx_okn rfl rfl (gx_okr rfl gx_catv_i gx_ok0)) ?_
        refine gx_goto (tgt := 2) C dX9_isStuck_26 rfl ?_
        refine gx_sub [1, 2, 0] rfl ?_
        exact wk2 hf
def f_X9_isStuck (D : gx_D) (b : HX) (o : Nat) (h : MS) (p1 : Int32) : Option ((Bool) × MS) :=
  f_X9_isStuck_b2 D b o gx_fuel h p1 ((0 : Int32))
theorem w_X9_isStuck_b {l : Launch} (hlt : l.stackTraces = false) {p : Program} {e : Env} {R : Room} {s : State} {m : MethodId} {args : Array Value} {below : List Frame} {meth : Method} {c : Code} {D : gx_D} {b : HX} {o : Nat} {h0 : MS} {r : Bool} {hz : MS} (C : gx_Ctx p R s m args meth c "ContractMachineModel" cX9_isStuck 3 (some .boolean) 7 157 D (mh b o h0) (mh b o hz)) (hx : meth.name = "isStuck") {p1 : Int32} (hf : f_X9_isStuck D b o h0 p1 = some (r, hz)) : gx_G p l e R s m args below meth c D (mh b o h0) (mh b o hz) 3 (gx_MQ below args s D (mh b o h0) (mh b o hz) (some (.int (b2i r)))) 0 [(0, (va_rf (some o))), (1, (.int p1))] [] (mh b o h0) := by
  unfold f_X9_isStuck at hf
  refine gx_iconst (v := 0) C dX9_isStuck_0 rfl ?_
  refine gx_istn C dX9_isStuck_1 2 rfl (by decide) [0, 1]  rfl (gx_okn rfl rfl (gx_okr rfl gx_catv_i gx_ok0)) ?_
  refine gx_sub [1, 2, 0] rfl ?_
  exact w_X9_isStuck_b2 hlt C hx gx_fuel hf
theorem w_X9_isStuck {l : Launch} (hlt : l.stackTraces = false) {D : gx_D} {b : HX} {o : Nat} {h : MS} {p1 : Int32} {r : Bool} {hz : MS} (hf : f_X9_isStuck D b o h p1 = some (r, hz)) : gx_Met l yX9_isStuck cX9_isStuck 3 (some .boolean) 7 157 D [(va_rf (some o)), (.int p1)] (mh b o h) (some (.int (b2i r))) (mh b o hz) :=
  gx_ofG gz_495 (by simp only [gx_lsr, gx_lsi, gx_lsj, gx_ls0]; decide) mh_le (fun p e R s m args below meth c C hx => by
    simp only [gx_lar, gx_lai, gx_laj, gx_la0, Nat.reduceAdd]
    exact w_X9_isStuck_b hlt C hx hf)
def f_X9_isDeadlocked (D : gx_D) (b : HX) (o : Nat) (h : MS) : Option ((Bool) × MS) :=
  (ms_pf h 6 (0 : Int32)).bind fun h1 =>
  (f_X9_here D b o h1).bind fun x3 =>
  gx_b2 (f_X9_isStuck D b o h1 x3) fun b5 h6 =>
  some (b5, h6)
theorem w_X9_isDeadlocked_b {l : Launch} (hlt : l.stackTraces = false) {p : Program} {e : Env} {R : Room} {s : State} {m : MethodId} {args : Array Value} {below : List Frame} {meth : Method} {c : Code} {D : gx_D} {b : HX} {o : Nat} {h0 : MS} {r : Bool} {hz : MS} (C : gx_Ctx p R s m args meth c "ContractMachineModel" cX9_isDeadlocked 1 (some .boolean) 8 179 D (mh b o h0) (mh b o hz)) (hx : meth.name = "isDeadlocked") (hf : f_X9_isDeadlocked D b o h0 = some (r, hz)) : gx_G p l e R s m args below meth c D (mh b o h0) (mh b o hz) 1 (gx_MQ below args s D (mh b o h0) (mh b o hz) (some (.int (b2i r)))) 0 [(0, (va_rf (some o)))] [] (mh b o h0) := by
  unfold f_X9_isDeadlocked at hf
  refine gx_aload_n C dX9_isDeadlocked_0 0 rfl ?_
  refine gx_iconst (v := 0) C dX9_isDeadlocked_1 rfl ?_
  replace hf := gx_bs hf
  obtain ⟨h1, g7, hf⟩ := hf
  refine gx_putv C (mh_pg (by decide) (fun _ _ => mh_p6) g7) gz_519 gz_1 rfl rfl q2640 dX9_isDeadlocked_2 ?_
  refine gx_aload_n C dX9_isDeadlocked_5 0 rfl ?_
  refine gx_aload_n C dX9_isDeadlocked_6 0 rfl ?_
  replace hf := gx_bs hf
  obtain ⟨x3, g2, hf⟩ := hf
  refine gx_callV (st := [(va_rf (some o))]) C (w_X9_here hlt g2) mh_is gz_497 rfl (lw_V q2938 q2940 qs96 q151 q2941) gz_576 (by decide) rfl rfl (gx_catn (Nat.le_of_ble_eq_true rfl)) dX9_isDeadlocked_7 ?_
  replace hf := gx_b2s hf
  obtain ⟨b5, h6, g4, hf⟩ := hf
  refine gx_callV (st := []) C (w_X9_isStuck hlt g4) mh_is gz_497 rfl (lw_V q3109 q3111 qs110 q151 q3112) gz_592 (by decide) rfl rfl (gx_catn (Nat.le_of_ble_eq_true rfl)) dX9_isDeadlocked_10 ?_
  obtain ⟨rfl, rfl⟩ := Prod.mk.inj (Option.some.inj hf)
  exact gx_zret (b := _) C dX9_isDeadlocked_13
theorem w_X9_isDeadlocked {l : Launch} (hlt : l.stackTraces = false) {D : gx_D} {b : HX} {o : Nat} {h : MS} {r : Bool} {hz : MS} (hf : f_X9_isDeadlocked D b o h = some (r, hz)) : gx_Met l yX9_isDeadlocked cX9_isDeadlocked 1 (some .boolean) 8 179 D [(va_rf (some o))] (mh b o h) (some (.int (b2i r))) (mh b o hz) :=
  gx_ofG gz_495 (by simp only [gx_lsr, gx_lsi, gx_lsj, gx_ls0]; decide) mh_le (fun p e R s m args below meth c C hx => by
    simp only [gx_lar, gx_lai, gx_laj, gx_la0, Nat.reduceAdd]
    exact w_X9_isDeadlocked_b hlt C hx hf)
def f_X9_visitsOf (D : gx_D) (b : HX) (o : Nat) (h : MS) (p1 : Int32) : Option ((Int32) × MS) :=
  (ms_pf h 6 (0 : Int32)).bind fun h1 =>
  gx_b2 (f_X9_no D b o h1 p1 (0 : Int32)) fun b3 h4 =>
  if b3 = true then
  some ((0 : Int32), h4)
  else
  (ms_ai h4 0 ((59 : Int32) + p1)).bind fun x6 =>
  some (x6, h4)
theorem w_X9_visitsOf_b {l : Launch} (hlt : l.stackTraces = false) {p : Program} {e : Env} {R : Room} {s : State} {m : MethodId} {args : Array Value} {below : List Frame} {meth : Method} {c : Code} {D : gx_D} {b : HX} {o : Nat} {h0 : MS} {r : Int32} {hz : MS} (C : gx_Ctx p R s m args meth c "ContractMachineModel" cX9_visitsOf 2 (some .int) 3 68 D (mh b o h0) (mh b o hz)) (hx : meth.name = "visitsOf") {p1 : Int32} (hf : f_X9_visitsOf D b o h0 p1 = some (r, hz)) : gx_G p l e R s m args below meth c D (mh b o h0) (mh b o hz) 2 (gx_MQ below args s D (mh b o h0) (mh b o hz) (some (.int r))) 0 [(0, (va_rf (some o))), (1, (.int p1))] [] (mh b o h0) := by
  unfold f_X9_visitsOf at hf
  refine gx_aload_n C dX9_visitsOf_0 0 rfl ?_
  refine gx_iconst (v := 0) C dX9_visitsOf_1 rfl ?_
  replace hf := gx_bs hf
  obtain ⟨h1, g8, hf⟩ := hf
  refine gx_putv C (mh_pg (by decide) (fun _ _ => mh_p6) g8) gz_519 gz_1 rfl rfl q2640 dX9_visitsOf_2 ?_
  refine gx_aload_n C dX9_visitsOf_5 0 rfl ?_
  refine gx_iload_n C dX9_visitsOf_6 1 rfl ?_
  refine gx_iconst (v := 0) C dX9_visitsOf_7 rfl ?_
  replace hf := gx_b2s hf
  obtain ⟨b3, h4, g2, hf⟩ := hf
  refine gx_callV (st := []) C (w_X9_no hlt g2) mh_is gz_497 rfl (lw_V q3033 q3035 qs107 q151 q3036) gz_590 (by decide) rfl rfl (gx_catn (Nat.le_of_ble_eq_true rfl)) dX9_visitsOf_8 ?_
  replace hf := gx_ite hf
  rcases hf with ⟨c5, hf⟩ | ⟨c5, hf⟩
  · refine gx_ifz_eq_f (tgt := 18) C dX9_visitsOf_11 rfl c5 ?_
    refine gx_iconst (v := 0) C dX9_visitsOf_14 rfl ?_
    refine gx_goto (tgt := 27) C dX9_visitsOf_15 rfl ?_
    obtain ⟨rfl, rfl⟩ := Prod.mk.inj (Option.some.inj hf)
    exact gx_iret C dX9_visitsOf_27
  · refine gx_ifz_eq_t (tgt := 18) C dX9_visitsOf_11 rfl c5 ?_
    refine gx_aload_n C dX9_visitsOf_18 0 rfl ?_
    refine gx_gr C (mh_gr (k := 0) rfl) gz_494 q2634 dX9_visitsOf_19 ?_
    refine gx_bipush (v := 59) C dX9_visitsOf_22 rfl ?_
    refine gx_iload_n C dX9_visitsOf_24 1 rfl ?_
    refine gx_iadd C dX9_visitsOf_25 ?_
    replace hf := gx_bs hf
    obtain ⟨x6, g7, hf⟩ := hf
    refine gx_iald C (mh_ai g7) dX9_visitsOf_26 ?_
    obtain ⟨rfl, rfl⟩ := Prod.mk.inj (Option.some.inj hf)
    exact gx_iret C dX9_visitsOf_27
theorem w_X9_visitsOf {l : Launch} (hlt : l.stackTraces = false) {D : gx_D} {b : HX} {o : Nat} {h : MS} {p1 : Int32} {r : Int32} {hz : MS} (hf : f_X9_visitsOf D b o h p1 = some (r, hz)) : gx_Met l yX9_visitsOf cX9_visitsOf 2 (some .int) 3 68 D [(va_rf (some o)), (.int p1)] (mh b o h) (some (.int r)) (mh b o hz) :=
  gx_ofG gz_495 (by simp only [gx_lsr, gx_lsi, gx_lsj, gx_ls0]; decide) mh_le (fun p e R s m args below meth c C hx => by
    simp only [gx_lar, gx_lai, gx_laj, gx_la0, Nat.reduceAdd]
    exact w_X9_visitsOf_b hlt C hx hf)
def f_X9_rejectedWith_b20 (D : gx_D) (b : HX) (o : Nat) (h : MS) (v1 : Int32) (s0 : Bool) : Option ((Int32) × MS) :=
  gx_b2 (f_X9_fails D b o h s0 (1 : Int32)) fun b6 h7 =>
  if b6 = true then
  some ((0 : Int32), h7)
  else
  (ms_ai h7 0 ((12 : Int32) + v1)).bind fun x9 =>
  some (x9, h7)
theorem w_X9_rejectedWith_b20 {l : Launch} (hlt : l.stackTraces = false) {p : Program} {e : Env} {R : Room} {s : State} {m : MethodId} {args : Array Value} {below : List Frame} {meth : Method} {c : Code} {D : gx_D} {b : HX} {o : Nat} {h0 : MS} {r : Int32} {hz : MS} (C : gx_Ctx p R s m args meth c "ContractMachineModel" cX9_rejectedWith 2 (some .int) 2 46 D (mh b o h0) (mh b o hz)) (hx : meth.name = "rejectedWith")  {h : MS} {v1 : Int32} {s0 : Bool} (hf : f_X9_rejectedWith_b20 D b o h v1 s0 = some (r, hz)) : gx_G p l e R s m args below meth c D (mh b o h0) (mh b o hz) 2 (gx_MQ below args s D (mh b o h0) (mh b o hz) (some (.int r))) 20 [(0, (va_rf (some o))), (1, (.int v1))] [(.int (b2i s0)), (va_rf (some o))] (mh b o h) := by
  unfold f_X9_rejectedWith_b20 at hf
  refine gx_iconst (v := 1) C dX9_rejectedWith_20 rfl ?_
  replace hf := gx_b2s hf
  obtain ⟨b6, h7, g5, hf⟩ := hf
  refine gx_callV (st := []) C (w_X9_fails hlt g5) mh_is gz_497 rfl (lw_V q3037 q3039 qs108 q151 q3040) gz_589 (by decide) rfl rfl (gx_catn (Nat.le_of_ble_eq_true rfl)) dX9_rejectedWith_21 ?_
  replace hf := gx_ite hf
  rcases hf with ⟨c8, hf⟩ | ⟨c8, hf⟩
  · refine gx_ifz_eq_f (tgt := 31) C dX9_rejectedWith_24 rfl c8 ?_
    refine gx_iconst (v := 0) C dX9_rejectedWith_27 rfl ?_
    refine gx_goto (tgt := 40) C dX9_rejectedWith_28 rfl ?_
    obtain ⟨rfl, rfl⟩ := Prod.mk.inj (Option.some.inj hf)
    exact gx_iret C dX9_rejectedWith_40
  · refine gx_ifz_eq_t (tgt := 31) C dX9_rejectedWith_24 rfl c8 ?_
    refine gx_aload_n C dX9_rejectedWith_31 0 rfl ?_
    refine gx_gr C (mh_gr (k := 0) rfl) gz_494 q2634 dX9_rejectedWith_32 ?_
    refine gx_bipush (v := 12) C dX9_rejectedWith_35 rfl ?_
    refine gx_iload_n C dX9_rejectedWith_37 1 rfl ?_
    refine gx_iadd C dX9_rejectedWith_38 ?_
    replace hf := gx_bs hf
    obtain ⟨x9, g10, hf⟩ := hf
    refine gx_iald C (mh_ai g10) dX9_rejectedWith_39 ?_
    obtain ⟨rfl, rfl⟩ := Prod.mk.inj (Option.some.inj hf)
    exact gx_iret C dX9_rejectedWith_40
def f_X9_rejectedWith (D : gx_D) (b : HX) (o : Nat) (h : MS) (p1 : Int32) : Option ((Int32) × MS) :=
  (ms_pf h 6 (0 : Int32)).bind fun h1 =>
  (f_X9_inRange D b o h1 p1 (1 : Int32) (4 : Int32)).bind fun b3 =>
  if b3 = true then
  f_X9_rejectedWith_b20 D b o h1 p1 false
  else
  f_X9_rejectedWith_b20 D b o h1 p1 true
theorem w_X9_rejectedWith_b {l : Launch} (hlt : l.stackTraces = false) {p : Program} {e : Env} {R : Room} {s : State} {m : MethodId} {args : Array Value} {below : List Frame} {meth : Method} {c : Code} {D : gx_D} {b : HX} {o : Nat} {h0 : MS} {r : Int32} {hz : MS} (C : gx_Ctx p R s m args meth c "ContractMachineModel" cX9_rejectedWith 2 (some .int) 2 46 D (mh b o h0) (mh b o hz)) (hx : meth.name = "rejectedWith") {p1 : Int32} (hf : f_X9_rejectedWith D b o h0 p1 = some (r, hz)) : gx_G p l e R s m args below meth c D (mh b o h0) (mh b o hz) 2 (gx_MQ below args s D (mh b o h0) (mh b o hz) (some (.int r))) 0 [(0, (va_rf (some o))), (1, (.int p1))] [] (mh b o h0) := by
  unfold f_X9_rejectedWith at hf
  refine gx_aload_n C dX9_rejectedWith_0 0 rfl ?_
  refine gx_iconst (v := 0) C dX9_rejectedWith_1 rfl ?_
  replace hf := gx_bs hf
  obtain ⟨h1, g11, hf⟩ := hf
  refine gx_putv C (mh_pg (by decide) (fun _ _ => mh_p6) g11) gz_519 gz_1 rfl rfl q2640 dX9_rejectedWith_2 ?_
  refine gx_aload_n C dX9_rejectedWith_5 0 rfl ?_
  refine gx_iload_n C dX9_rejectedWith_6 1 rfl ?_
  refine gx_iconst (v := 1) C dX9_rejectedWith_7 rfl ?_
  refine gx_iconst (v := 4) C dX9_rejectedWith_8 rfl ?_
  replace hf := gx_bs hf
  obtain ⟨b3, g2, hf⟩ := hf
  refine gx_callS (st := [(va_rf (some o))]) C (w_X9_inRange hlt g2) (lw_S q2745 q2746 q151 q2747) gz_522 (by decide) rfl rfl (gx_catn (Nat.le_of_ble_eq_true rfl)) dX9_rejectedWith_9 ?_
  replace hf := gx_ite hf
  rcases hf with ⟨c4, hf⟩ | ⟨c4, hf⟩
  · refine gx_ifz_ne_t (tgt := 19) C dX9_rejectedWith_12 rfl c4 ?_
    refine gx_iconst (v := 0) C dX9_rejectedWith_19 rfl ?_
    refine gx_sub [0, 1] rfl ?_
    exact w_X9_rejectedWith_b20 hlt C hx hf
  · refine gx_ifz_ne_f (tgt := 19) C dX9_rejectedWith_12 rfl c4 ?_
    refine gx_iconst (v := 1) C dX9_rejectedWith_15 rfl ?_
    refine gx_goto (tgt := 20) C dX9_rejectedWith_16 rfl ?_
    refine gx_sub [0, 1] rfl ?_
    exact w_X9_rejectedWith_b20 hlt C hx hf
theorem w_X9_rejectedWith {l : Launch} (hlt : l.stackTraces = false) {D : gx_D} {b : HX} {o : Nat} {h : MS} {p1 : Int32} {r : Int32} {hz : MS} (hf : f_X9_rejectedWith D b o h p1 = some (r, hz)) : gx_Met l yX9_rejectedWith cX9_rejectedWith 2 (some .int) 2 46 D [(va_rf (some o)), (.int p1)] (mh b o h) (some (.int r)) (mh b o hz) :=
  gx_ofG gz_495 (by simp only [gx_lsr, gx_lsi, gx_lsj, gx_ls0]; decide) mh_le (fun p e R s m args below meth c C hx => by
    simp only [gx_lar, gx_lai, gx_laj, gx_la0, Nat.reduceAdd]
    exact w_X9_rejectedWith_b hlt C hx hf)
def f_X9_one (D : gx_D) (b : HX) (o : Nat) (h : MS) (p0 : Bool) : Option Int32 :=
  if p0 = true then
  some ((1 : Int32))
  else
  some ((0 : Int32))
theorem w_X9_one_b {l : Launch} (hlt : l.stackTraces = false) {p : Program} {e : Env} {R : Room} {s : State} {m : MethodId} {args : Array Value} {below : List Frame} {meth : Method} {c : Code} {D : gx_D} {b : HX} {o : Nat} {h0 : MS} {r : Int32} (C : gx_Ctx p R s m args meth c "ContractMachineModel" cX9_one 1 (some .int) 1 24 D (mh b o h0) (mh b o h0)) (hx : meth.name = "one") {p0 : Bool} (hf : f_X9_one D b o h0 p0 = some r) : gx_G p l e R s m args below meth c D (mh b o h0) (mh b o h0) 1 (gx_MQ below args s D (mh b o h0) (mh b o h0) (some (.int r))) 0 [(0, (.int (b2i p0)))] [] (mh b o h0) := by
  unfold f_X9_one at hf
  refine gx_iload_n C dX9_one_0 0 rfl ?_
  replace hf := gx_ite hf
  rcases hf with ⟨c1, hf⟩ | ⟨c1, hf⟩
  · refine gx_ifz_eq_f (tgt := 8) C dX9_one_1 rfl c1 ?_
    refine gx_iconst (v := 1) C dX9_one_4 rfl ?_
    refine gx_goto (tgt := 9) C dX9_one_5 rfl ?_
    obtain rfl := Option.some.inj hf
    exact gx_iret C dX9_one_9
  · refine gx_ifz_eq_t (tgt := 8) C dX9_one_1 rfl c1 ?_
    refine gx_iconst (v := 0) C dX9_one_8 rfl ?_
    obtain rfl := Option.some.inj hf
    exact gx_iret C dX9_one_9
theorem w_X9_one {l : Launch} (hlt : l.stackTraces = false) {D : gx_D} {b : HX} {o : Nat} {h : MS} {p0 : Bool} {r : Int32} (hf : f_X9_one D b o h p0 = some r) : gx_Met l yX9_one cX9_one 1 (some .int) 1 24 D [(.int (b2i p0))] (mh b o h) (some (.int r)) (mh b o h) :=
  gx_ofG gz_495 (by simp only [gx_lsr, gx_lsi, gx_lsj, gx_ls0]; decide) gx_le.rf (fun p e R s m args below meth c C hx => by
    simp only [gx_lar, gx_lai, gx_laj, gx_la0, Nat.reduceAdd]
    exact w_X9_one_b hlt C hx hf)
def f_X9_counted_b34 (D : gx_D) (b : HX) (o : Nat) (k5 : MS → Int32 → Int32 → Int32 → Int32 → Option Int32) (h : MS) (v1 : Int32) (v2 : Int32) (v4 : Int32) (s0 : Bool) (s1 : Int32) : Option Int32 :=
  (f_X9_one D b o h s0).bind fun x6 =>
  k5 h v1 v2 ((s1 + x6)) ((v4 + (1 : Int32)))
theorem w_X9_counted_b34 {l : Launch} (hlt : l.stackTraces = false) {p : Program} {e : Env} {R : Room} {s : State} {m : MethodId} {args : Array Value} {below : List Frame} {meth : Method} {c : Code} {D : gx_D} {b : HX} {o : Nat} {h0 : MS} {r : Int32} (C : gx_Ctx p R s m args meth c "ContractMachineModel" cX9_counted 5 (some .int) 2 44 D (mh b o h0) (mh b o h0)) (hx : meth.name = "counted")  {k5 : MS → Int32 → Int32 → Int32 → Int32 → Option Int32} (wk5 : ∀ ⦃v1 : Int32⦄ ⦃v2 : Int32⦄ ⦃v3 : Int32⦄ ⦃v4 : Int32⦄, k5 h0 v1 v2 v3 v4 = some r → gx_G p l e R s m args below meth c D (mh b o h0) (mh b o h0) 5 (gx_MQ below args s D (mh b o h0) (mh b o h0) (some (.int r))) 5 [(0, (va_rf (some o))), (1, (.int v1)), (2, (.int v2)), (3, (.int v3)), (4, (.int v4))] [] (mh b o h0)) {v1 : Int32} {v2 : Int32} {v4 : Int32} {s0 : Bool} {s1 : Int32} (hf : f_X9_counted_b34 D b o k5 h0 v1 v2 v4 s0 s1 = some r) : gx_G p l e R s m args below meth c D (mh b o h0) (mh b o h0) 5 (gx_MQ below args s D (mh b o h0) (mh b o h0) (some (.int r))) 34 [(0, (va_rf (some o))), (1, (.int v1)), (2, (.int v2)), (4, (.int v4))] [(.int (b2i s0)), (.int s1)] (mh b o h0) := by
  unfold f_X9_counted_b34 at hf
  replace hf := gx_bs hf
  obtain ⟨x6, g5, hf⟩ := hf
  refine gx_callS (st := [(.int s1)]) C (w_X9_one hlt g5) (lw_S q3129 q3130 q151 q3131) gz_593 (by decide) rfl rfl (gx_catn (Nat.le_of_ble_eq_true rfl)) dX9_counted_34 ?_
  refine gx_iadd C dX9_counted_37 ?_
  refine gx_istn C dX9_counted_38 3 rfl (by decide) [0, 1, 2, 3]  rfl (gx_okn rfl rfl (gx_okn rfl rfl (gx_okr rfl gx_catv_i (gx_okn rfl rfl gx_ok0)))) ?_
  refine gx_inc (v := 1) C dX9_counted_39 4 rfl rfl (by decide) [0, 1, 2, 3] rfl (gx_okr rfl gx_catv_i (gx_okn rfl rfl (gx_okn rfl rfl (gx_okn rfl rfl gx_ok0)))) ?_
  refine gx_goto (tgt := 5) C dX9_counted_42 rfl ?_
  refine gx_sub [2, 3, 4, 1, 0] rfl ?_
  exact wk5 hf
def f_X9_counted_b5 (D : gx_D) (b : HX) (o : Nat) : Nat → MS → Int32 → Int32 → Int32 → Int32 → Option Int32
  | 0, _, _, _, _, _ => none
  | n + 1, h, v1, v2, v3, v4 =>
  (ms_ai h 0 v2).bind fun x1 =>
  if x1 ≤ v4 then
  some v3
  else
  (ms_ai h 0 (v1 + v4)).bind fun x3 =>
  if x3 ≤ 0 then
  f_X9_counted_b34 D b o (f_X9_counted_b5 D b o n) h v1 v2 v4 false v3
  else
  f_X9_counted_b34 D b o (f_X9_counted_b5 D b o n) h v1 v2 v4 true v3
theorem w_X9_counted_b5 {l : Launch} (hlt : l.stackTraces = false) {p : Program} {e : Env} {R : Room} {s : State} {m : MethodId} {args : Array Value} {below : List Frame} {meth : Method} {c : Code} {D : gx_D} {b : HX} {o : Nat} {h0 : MS} {r : Int32} (C : gx_Ctx p R s m args meth c "ContractMachineModel" cX9_counted 5 (some .int) 2 44 D (mh b o h0) (mh b o h0)) (hx : meth.name = "counted")  : ∀ (n : Nat) ⦃v1 : Int32⦄ ⦃v2 : Int32⦄ ⦃v3 : Int32⦄ ⦃v4 : Int32⦄, f_X9_counted_b5 D b o n h0 v1 v2 v3 v4 = some r → gx_G p l e R s m args below meth c D (mh b o h0) (mh b o h0) 5 (gx_MQ below args s D (mh b o h0) (mh b o h0) (some (.int r))) 5 [(0, (va_rf (some o))), (1, (.int v1)), (2, (.int v2)), (3, (.int v3)), (4, (.int v4))] [] (mh b o h0) := by
  intro n
  induction n with
  | zero => intro v1 v2 v3 v4 hf; unfold f_X9_counted_b5 at hf; cases hf
  | succ n wk5 =>
    intro v1 v2 v3 v4 hf
    unfold f_X9_counted_b5 at hf
    refine gx_iload C dX9_counted_5 4 rfl ?_
    refine gx_aload_n C dX9_counted_7 0 rfl ?_
    refine gx_gr C (mh_gr (k := 0) rfl) gz_494 q2634 dX9_counted_8 ?_
    refine gx_iload_n C dX9_counted_11 2 rfl ?_
    replace hf := gx_bs hf
    obtain ⟨x1, g8, hf⟩ := hf
    refine gx_iald C (mh_ai g8) dX9_counted_12 ?_
    replace hf := gx_ite hf
    rcases hf with ⟨c2, hf⟩ | ⟨c2, hf⟩
    · refine gx_icmp_ge_t (tgt := 45) C dX9_counted_13 rfl c2 ?_
      refine gx_iload_n C dX9_counted_45 3 rfl ?_
      obtain rfl := Option.some.inj hf
      exact gx_iret C dX9_counted_46
    · refine gx_icmp_ge_f (tgt := 45) C dX9_counted_13 rfl c2 ?_
      refine gx_iload_n C dX9_counted_16 3 rfl ?_
      refine gx_aload_n C dX9_counted_17 0 rfl ?_
      refine gx_gr C (mh_gr (k := 0) rfl) gz_494 q2634 dX9_counted_18 ?_
      refine gx_iload_n C dX9_counted_21 1 rfl ?_
      refine gx_iload C dX9_counted_22 4 rfl ?_
      refine gx_iadd C dX9_counted_24 ?_
      replace hf := gx_bs hf
      obtain ⟨x3, g7, hf⟩ := hf
      refine gx_iald C (mh_ai g7) dX9_counted_25 ?_
      replace hf := gx_ite hf
      rcases hf with ⟨c4, hf⟩ | ⟨c4, hf⟩
      · refine gx_if_le_t (tgt := 33) C dX9_counted_26 rfl c4 ?_
        refine gx_iconst (v := 0) C dX9_counted_33 rfl ?_
        refine gx_sub [0, 1, 2, 4] rfl ?_
        exact w_X9_counted_b34 hlt C hx wk5 hf
      · refine gx_if_le_f (tgt := 33) C dX9_counted_26 rfl c4 ?_
        refine gx_iconst (v := 1) C dX9_counted_29 rfl ?_
        refine gx_goto (tgt := 34) C dX9_counted_30 rfl ?_
        refine gx_sub [0, 1, 2, 4] rfl ?_
        exact w_X9_counted_b34 hlt C hx wk5 hf
def f_X9_counted (D : gx_D) (b : HX) (o : Nat) (h : MS) (p1 : Int32) (p2 : Int32) : Option Int32 :=
  f_X9_counted_b5 D b o gx_fuel h p1 p2 ((0 : Int32)) ((0 : Int32))
theorem w_X9_counted_b {l : Launch} (hlt : l.stackTraces = false) {p : Program} {e : Env} {R : Room} {s : State} {m : MethodId} {args : Array Value} {below : List Frame} {meth : Method} {c : Code} {D : gx_D} {b : HX} {o : Nat} {h0 : MS} {r : Int32} (C : gx_Ctx p R s m args meth c "ContractMachineModel" cX9_counted 5 (some .int) 2 44 D (mh b o h0) (mh b o h0)) (hx : meth.name = "counted") {p1 : Int32} {p2 : Int32} (hf : f_X9_counted D b o h0 p1 p2 = some r) : gx_G p l e R s m args below meth c D (mh b o h0) (mh b o h0) 5 (gx_MQ below args s D (mh b o h0) (mh b o h0) (some (.int r))) 0 [(0, (va_rf (some o))), (1, (.int p1)), (2, (.int p2))] [] (mh b o h0) := by
  unfold f_X9_counted at hf
  refine gx_iconst (v := 0) C dX9_counted_0 rfl ?_
  refine gx_istn C dX9_counted_1 3 rfl (by decide) [0, 1, 2]  rfl (gx_okn rfl rfl (gx_okn rfl rfl (gx_okr rfl gx_catv_i gx_ok0))) ?_
  refine gx_iconst (v := 0) C dX9_counted_2 rfl ?_
  refine gx_ist C dX9_counted_3 (by decide) [0, 1, 2, 3]  rfl (gx_okr rfl gx_catv_i (gx_okn rfl rfl (gx_okn rfl rfl (gx_okn rfl rfl gx_ok0)))) ?_
  refine gx_sub [2, 3, 4, 1, 0] rfl ?_
  exact w_X9_counted_b5 hlt C hx gx_fuel hf
theorem w_X9_counted {l : Launch} (hlt : l.stackTraces = false) {D : gx_D} {b : HX} {o : Nat} {h : MS} {p1 : Int32} {p2 : Int32} {r : Int32} (hf : f_X9_counted D b o h p1 p2 = some r) : gx_Met l yX9_counted cX9_counted 5 (some .int) 2 44 D [(va_rf (some o)), (.int p1), (.int p2)] (mh b o h) (some (.int r)) (mh b o h) :=
  gx_ofG gz_495 (by simp only [gx_lsr, gx_lsi, gx_lsj, gx_ls0]; decide) gx_le.rf (fun p e R s m args below meth c C hx => by
    simp only [gx_lar, gx_lai, gx_laj, gx_la0, Nat.reduceAdd]
    exact w_X9_counted_b hlt C hx hf)
def f_X9_stateCoverage (D : gx_D) (b : HX) (o : Nat) (h : MS) : Option ((UInt32) × MS) :=
  (ms_pf h 6 (0 : Int32)).bind fun h1 =>
  (f_X9_counted D b o h1 (59 : Int32) (0 : Int32)).bind fun x3 =>
  (ms_ai h1 0 (0 : Int32)).bind fun x4 =>
  if (FP.fdiv (FP.i2f x3) (FP.i2f x4)) &&& 0x7fffffff ≤ 0x7f800000 then
  some ((FP.fdiv (FP.i2f x3) (FP.i2f x4)), h1)
  else none
theorem w_X9_stateCoverage_b {l : Launch} (hlt : l.stackTraces = false) {p : Program} {e : Env} {R : Room} {s : State} {m : MethodId} {args : Array Value} {below : List Frame} {meth : Method} {c : Code} {D : gx_D} {b : HX} {o : Nat} {h0 : MS} {r : UInt32} {hz : MS} (C : gx_Ctx p R s m args meth c "ContractMachineModel" cX9_stateCoverage 1 (some .float) 3 68 D (mh b o h0) (mh b o hz)) (hx : meth.name = "stateCoverage") (hf : f_X9_stateCoverage D b o h0 = some (r, hz)) : gx_G p l e R s m args below meth c D (mh b o h0) (mh b o hz) 1 (gx_MQ below args s D (mh b o h0) (mh b o hz) (some (.float r))) 0 [(0, (va_rf (some o)))] [] (mh b o h0) := by
  unfold f_X9_stateCoverage at hf
  refine gx_aload_n C dX9_stateCoverage_0 0 rfl ?_
  refine gx_iconst (v := 0) C dX9_stateCoverage_1 rfl ?_
  replace hf := gx_bs hf
  obtain ⟨h1, g7, hf⟩ := hf
  refine gx_putv C (mh_pg (by decide) (fun _ _ => mh_p6) g7) gz_519 gz_1 rfl rfl q2640 dX9_stateCoverage_2 ?_
  refine gx_aload_n C dX9_stateCoverage_5 0 rfl ?_
  refine gx_bipush (v := 59) C dX9_stateCoverage_6 rfl ?_
  refine gx_iconst (v := 0) C dX9_stateCoverage_8 rfl ?_
  replace hf := gx_bs hf
  obtain ⟨x3, g2, hf⟩ := hf
  refine gx_callV (st := []) C (w_X9_counted hlt g2) mh_is gz_497 rfl (lw_V q3125 q3127 qs111 q151 q3128) gz_594 (by decide) rfl rfl (gx_catn (Nat.le_of_ble_eq_true rfl)) dX9_stateCoverage_9 ?_
  refine gx_i2f C dX9_stateCoverage_12 ?_
  refine gx_aload_n C dX9_stateCoverage_13 0 rfl ?_
  refine gx_gr C (mh_gr (k := 0) rfl) gz_494 q2634 dX9_stateCoverage_14 ?_
  refine gx_iconst (v := 0) C dX9_stateCoverage_17 rfl ?_
  replace hf := gx_bs hf
  obtain ⟨x4, g6, hf⟩ := hf
  refine gx_iald C (mh_ai g6) dX9_stateCoverage_18 ?_
  refine gx_i2f C dX9_stateCoverage_19 ?_
  replace hf := gx_ite hf
  rcases hf with ⟨c5, hf⟩ | ⟨c5, hf⟩
  rotate_left
  · cases hf
  refine gx_fdiv C dX9_stateCoverage_20 c5 ?_
  obtain ⟨rfl, rfl⟩ := Prod.mk.inj (Option.some.inj hf)
  exact gx_fret C dX9_stateCoverage_21
theorem w_X9_stateCoverage {l : Launch} (hlt : l.stackTraces = false) {D : gx_D} {b : HX} {o : Nat} {h : MS} {r : UInt32} {hz : MS} (hf : f_X9_stateCoverage D b o h = some (r, hz)) : gx_Met l yX9_stateCoverage cX9_stateCoverage 1 (some .float) 3 68 D [(va_rf (some o))] (mh b o h) (some (.float r)) (mh b o hz) :=
  gx_ofG gz_495 (by simp only [gx_lsr, gx_lsi, gx_lsj, gx_ls0]; decide) mh_le (fun p e R s m args below meth c C hx => by
    simp only [gx_lar, gx_lai, gx_laj, gx_la0, Nat.reduceAdd]
    exact w_X9_stateCoverage_b hlt C hx hf)
def f_X9_transitionCoverage (D : gx_D) (b : HX) (o : Nat) (h : MS) : Option ((UInt32) × MS) :=
  (ms_pf h 6 (0 : Int32)).bind fun h1 =>
  (ms_ai h1 0 (3 : Int32)).bind fun x2 =>
  if x2 = 0 then
  some (FP.fconst1, h1)
  else
  (f_X9_counted D b o h1 (69 : Int32) (3 : Int32)).bind fun x5 =>
  (ms_ai h1 0 (3 : Int32)).bind fun x6 =>
  if (FP.fdiv (FP.i2f x5) (FP.i2f x6)) &&& 0x7fffffff ≤ 0x7f800000 then
  some ((FP.fdiv (FP.i2f x5) (FP.i2f x6)), h1)
  else none
theorem w_X9_transitionCoverage_b {l : Launch} (hlt : l.stackTraces = false) {p : Program} {e : Env} {R : Room} {s : State} {m : MethodId} {args : Array Value} {below : List Frame} {meth : Method} {c : Code} {D : gx_D} {b : HX} {o : Nat} {h0 : MS} {r : UInt32} {hz : MS} (C : gx_Ctx p R s m args meth c "ContractMachineModel" cX9_transitionCoverage 1 (some .float) 3 68 D (mh b o h0) (mh b o hz)) (hx : meth.name = "transitionCoverage") (hf : f_X9_transitionCoverage D b o h0 = some (r, hz)) : gx_G p l e R s m args below meth c D (mh b o h0) (mh b o hz) 1 (gx_MQ below args s D (mh b o h0) (mh b o hz) (some (.float r))) 0 [(0, (va_rf (some o)))] [] (mh b o h0) := by
  unfold f_X9_transitionCoverage at hf
  refine gx_aload_n C dX9_transitionCoverage_0 0 rfl ?_
  refine gx_iconst (v := 0) C dX9_transitionCoverage_1 rfl ?_
  replace hf := gx_bs hf
  obtain ⟨h1, g10, hf⟩ := hf
  refine gx_putv C (mh_pg (by decide) (fun _ _ => mh_p6) g10) gz_519 gz_1 rfl rfl q2640 dX9_transitionCoverage_2 ?_
  refine gx_aload_n C dX9_transitionCoverage_5 0 rfl ?_
  refine gx_gr C (mh_gr (k := 0) rfl) gz_494 q2634 dX9_transitionCoverage_6 ?_
  refine gx_iconst (v := 3) C dX9_transitionCoverage_9 rfl ?_
  replace hf := gx_bs hf
  obtain ⟨x2, g9, hf⟩ := hf
  refine gx_iald C (mh_ai g9) dX9_transitionCoverage_10 ?_
  replace hf := gx_ite hf
  rcases hf with ⟨c3, hf⟩ | ⟨c3, hf⟩
  · refine gx_if_ne_f (tgt := 18) C dX9_transitionCoverage_11 rfl c3 ?_
    refine gx_fconst1 C dX9_transitionCoverage_14 ?_
    refine gx_goto (tgt := 34) C dX9_transitionCoverage_15 rfl ?_
    obtain ⟨rfl, rfl⟩ := Prod.mk.inj (Option.some.inj hf)
    exact gx_fret C dX9_transitionCoverage_34
  · refine gx_if_ne_t (tgt := 18) C dX9_transitionCoverage_11 rfl c3 ?_
    refine gx_aload_n C dX9_transitionCoverage_18 0 rfl ?_
    refine gx_bipush (v := 69) C dX9_transitionCoverage_19 rfl ?_
    refine gx_iconst (v := 3) C dX9_transitionCoverage_21 rfl ?_
    replace hf := gx_bs hf
    obtain ⟨x5, g4, hf⟩ := hf
    refine gx_callV (st := []) C (w_X9_counted hlt g4) mh_is gz_497 rfl (lw_V q3125 q3127 qs111 q151 q3128) gz_594 (by decide) rfl rfl (gx_catn (Nat.le_of_ble_eq_true rfl)) dX9_transitionCoverage_22 ?_
    refine gx_i2f C dX9_transitionCoverage_25 ?_
    refine gx_aload_n C dX9_transitionCoverage_26 0 rfl ?_
    refine gx_gr C (mh_gr (k := 0) rfl) gz_494 q2634 dX9_transitionCoverage_27 ?_
    refine gx_iconst (v := 3) C dX9_transitionCoverage_30 rfl ?_
    replace hf := gx_bs hf
    obtain ⟨x6, g8, hf⟩ := hf
    refine gx_iald C (mh_ai g8) dX9_transitionCoverage_31 ?_
    refine gx_i2f C dX9_transitionCoverage_32 ?_
    replace hf := gx_ite hf
    rcases hf with ⟨c7, hf⟩ | ⟨c7, hf⟩
    rotate_left
    · cases hf
    refine gx_fdiv C dX9_transitionCoverage_33 c7 ?_
    obtain ⟨rfl, rfl⟩ := Prod.mk.inj (Option.some.inj hf)
    exact gx_fret C dX9_transitionCoverage_34
theorem w_X9_transitionCoverage {l : Launch} (hlt : l.stackTraces = false) {D : gx_D} {b : HX} {o : Nat} {h : MS} {r : UInt32} {hz : MS} (hf : f_X9_transitionCoverage D b o h = some (r, hz)) : gx_Met l yX9_transitionCoverage cX9_transitionCoverage 1 (some .float) 3 68 D [(va_rf (some o))] (mh b o h) (some (.float r)) (mh b o hz) :=
  gx_ofG gz_495 (by simp only [gx_lsr, gx_lsi, gx_lsj, gx_ls0]; decide) mh_le (fun p e R s m args below meth c C hx => by
    simp only [gx_lar, gx_lai, gx_laj, gx_la0, Nat.reduceAdd]
    exact w_X9_transitionCoverage_b hlt C hx hf)
def f_X9_firstUncovered_b7 (D : gx_D) (b : HX) (o : Nat) : Nat → MS → Int32 → Option ((Int32) × MS)
  | 0, _, _ => none
  | n + 1, h, v1 =>
  (ms_ai h 0 (3 : Int32)).bind fun x2 =>
  if x2 ≤ v1 then
  some ((-1 : Int32), h)
  else
  (ms_ai h 0 ((69 : Int32) + v1)).bind fun x4 =>
  if x4 = 0 then
  some (v1, h)
  else
  (f_X9_firstUncovered_b7 D b o n) h ((v1 + (1 : Int32)))
theorem w_X9_firstUncovered_b7 {l : Launch} (hlt : l.stackTraces = false) {p : Program} {e : Env} {R : Room} {s : State} {m : MethodId} {args : Array Value} {below : List Frame} {meth : Method} {c : Code} {D : gx_D} {b : HX} {o : Nat} {h0 : MS} {r : Int32} {hz : MS} (C : gx_Ctx p R s m args meth c "ContractMachineModel" cX9_firstUncovered 2 (some .int) 1 24 D (mh b o h0) (mh b o hz)) (hx : meth.name = "firstUncovered")  : ∀ (n : Nat) ⦃h : MS⦄ ⦃v1 : Int32⦄, f_X9_firstUncovered_b7 D b o n h v1 = some (r, hz) → gx_G p l e R s m args below meth c D (mh b o h0) (mh b o hz) 2 (gx_MQ below args s D (mh b o h0) (mh b o hz) (some (.int r))) 7 [(0, (va_rf (some o))), (1, (.int v1))] [] (mh b o h) := by
  intro n
  induction n with
  | zero => intro h v1 hf; unfold f_X9_firstUncovered_b7 at hf; cases hf
  | succ n wk7 =>
    intro h v1 hf
    unfold f_X9_firstUncovered_b7 at hf
    refine gx_iload_n C dX9_firstUncovered_7 1 rfl ?_
    refine gx_aload_n C dX9_firstUncovered_8 0 rfl ?_
    refine gx_gr C (mh_gr (k := 0) rfl) gz_494 q2634 dX9_firstUncovered_9 ?_
    refine gx_iconst (v := 3) C dX9_firstUncovered_12 rfl ?_
    replace hf := gx_bs hf
    obtain ⟨x2, g7, hf⟩ := hf
    refine gx_iald C (mh_ai g7) dX9_firstUncovered_13 ?_
    replace hf := gx_ite hf
    rcases hf with ⟨c3, hf⟩ | ⟨c3, hf⟩
    · refine gx_icmp_ge_t (tgt := 37) C dX9_firstUncovered_14 rfl c3 ?_
      refine gx_iconst (v := -1) C dX9_firstUncovered_37 rfl ?_
      obtain ⟨rfl, rfl⟩ := Prod.mk.inj (Option.some.inj hf)
      exact gx_iret C dX9_firstUncovered_38
    · refine gx_icmp_ge_f (tgt := 37) C dX9_firstUncovered_14 rfl c3 ?_
      refine gx_aload_n C dX9_firstUncovered_17 0 rfl ?_
      refine gx_gr C (mh_gr (k := 0) rfl) gz_494 q2634 dX9_firstUncovered_18 ?_
      refine gx_bipush (v := 69) C dX9_firstUncovered_21 rfl ?_
      refine gx_iload_n C dX9_firstUncovered_23 1 rfl ?_
      refine gx_iadd C dX9_firstUncovered_24 ?_
      replace hf := gx_bs hf
      obtain ⟨x4, g6, hf⟩ := hf
      refine gx_iald C (mh_ai g6) dX9_firstUncovered_25 ?_
      replace hf := gx_ite hf
      rcases hf with ⟨c5, hf⟩ | ⟨c5, hf⟩
      · refine gx_if_ne_f (tgt := 31) C dX9_firstUncovered_26 rfl c5 ?_
        refine gx_iload_n C dX9_firstUncovered_29 1 rfl ?_
        obtain ⟨rfl, rfl⟩ := Prod.mk.inj (Option.some.inj hf)
        exact gx_iret C dX9_firstUncovered_30
      · refine gx_if_ne_t (tgt := 31) C dX9_firstUncovered_26 rfl c5 ?_
        refine gx_inc (v := 1) C dX9_firstUncovered_31 1 rfl rfl (by decide) [0] rfl (gx_okr rfl gx_catv_r gx_ok0) ?_
        refine gx_goto (tgt := 7) C dX9_firstUncovered_34 rfl ?_
        refine gx_sub [1, 0] rfl ?_
        exact wk7 hf
def f_X9_firstUncovered (D : gx_D) (b : HX) (o : Nat) (h : MS) : Option ((Int32) × MS) :=
  (ms_pf h 6 (0 : Int32)).bind fun h1 =>
  f_X9_firstUncovered_b7 D b o gx_fuel h1 ((0 : Int32))
theorem w_X9_firstUncovered_b {l : Launch} (hlt : l.stackTraces = false) {p : Program} {e : Env} {R : Room} {s : State} {m : MethodId} {args : Array Value} {below : List Frame} {meth : Method} {c : Code} {D : gx_D} {b : HX} {o : Nat} {h0 : MS} {r : Int32} {hz : MS} (C : gx_Ctx p R s m args meth c "ContractMachineModel" cX9_firstUncovered 2 (some .int) 1 24 D (mh b o h0) (mh b o hz)) (hx : meth.name = "firstUncovered") (hf : f_X9_firstUncovered D b o h0 = some (r, hz)) : gx_G p l e R s m args below meth c D (mh b o h0) (mh b o hz) 2 (gx_MQ below args s D (mh b o h0) (mh b o hz) (some (.int r))) 0 [(0, (va_rf (some o)))] [] (mh b o h0) := by
  unfold f_X9_firstUncovered at hf
  refine gx_aload_n C dX9_firstUncovered_0 0 rfl ?_
  refine gx_iconst (v := 0) C dX9_firstUncovered_1 rfl ?_
  replace hf := gx_bs hf
  obtain ⟨h1, g8, hf⟩ := hf
  refine gx_putv C (mh_pg (by decide) (fun _ _ => mh_p6) g8) gz_519 gz_1 rfl rfl q2640 dX9_firstUncovered_2 ?_
  refine gx_iconst (v := 0) C dX9_firstUncovered_5 rfl ?_
  refine gx_istn C dX9_firstUncovered_6 1 rfl (by decide) [0]  rfl (gx_okr rfl gx_catv_r gx_ok0) ?_
  refine gx_sub [1, 0] rfl ?_
  exact w_X9_firstUncovered_b7 hlt C hx gx_fuel hf
theorem w_X9_firstUncovered {l : Launch} (hlt : l.stackTraces = false) {D : gx_D} {b : HX} {o : Nat} {h : MS} {r : Int32} {hz : MS} (hf : f_X9_firstUncovered D b o h = some (r, hz)) : gx_Met l yX9_firstUncovered cX9_firstUncovered 2 (some .int) 1 24 D [(va_rf (some o))] (mh b o h) (some (.int r)) (mh b o hz) :=
  gx_ofG gz_495 (by simp only [gx_lsr, gx_lsi, gx_lsj, gx_ls0]; decide) mh_le (fun p e R s m args below meth c C hx => by
    simp only [gx_lar, gx_lai, gx_laj, gx_la0, Nat.reduceAdd]
    exact w_X9_firstUncovered_b hlt C hx hf)
def f_X9_mostVisitedState_b42 (D : gx_D) (b : HX) (o : Nat) (k9 : MS → Int32 → Int32 → Option ((Int32) × MS)) (h : MS) (v1 : Int32) (v2 : Int32) : Option ((Int32) × MS) :=
  k9 h v1 ((v2 + (1 : Int32)))
theorem w_X9_mostVisitedState_b42 {l : Launch} (hlt : l.stackTraces = false) {p : Program} {e : Env} {R : Room} {s : State} {m : MethodId} {args : Array Value} {below : List Frame} {meth : Method} {c : Code} {D : gx_D} {b : HX} {o : Nat} {h0 : MS} {r : Int32} {hz : MS} (C : gx_Ctx p R s m args meth c "ContractMachineModel" cX9_mostVisitedState 3 (some .int) 1 24 D (mh b o h0) (mh b o hz)) (hx : meth.name = "mostVisitedState")  {k9 : MS → Int32 → Int32 → Option ((Int32) × MS)} (wk9 : ∀ ⦃h : MS⦄ ⦃v1 : Int32⦄ ⦃v2 : Int32⦄, k9 h v1 v2 = some (r, hz) → gx_G p l e R s m args below meth c D (mh b o h0) (mh b o hz) 3 (gx_MQ below args s D (mh b o h0) (mh b o hz) (some (.int r))) 9 [(0, (va_rf (some o))), (1, (.int v1)), (2, (.int v2))] [] (mh b o h)) {h : MS} {v1 : Int32} {v2 : Int32} (hf : f_X9_mostVisitedState_b42 D b o k9 h v1 v2 = some (r, hz)) : gx_G p l e R s m args below meth c D (mh b o h0) (mh b o hz) 3 (gx_MQ below args s D (mh b o h0) (mh b o hz) (some (.int r))) 42 [(0, (va_rf (some o))), (1, (.int v1)), (2, (.int v2))] [] (mh b o h) := by
  unfold f_X9_mostVisitedState_b42 at hf
  refine gx_inc (v := 1) C dX9_mostVisitedState_42 2 rfl rfl (by decide) [0, 1] rfl (gx_okn rfl rfl (gx_okr rfl gx_catv_i gx_ok0)) ?_
  refine gx_goto (tgt := 9) C dX9_mostVisitedState_45 rfl ?_
  refine gx_sub [1, 2, 0] rfl ?_
  exact wk9 hf
def f_X9_mostVisitedState_b9 (D : gx_D) (b : HX) (o : Nat) : Nat → MS → Int32 → Int32 → Option ((Int32) × MS)
  | 0, _, _, _ => none
  | n + 1, h, v1, v2 =>
  (ms_ai h 0 (0 : Int32)).bind fun x2 =>
  if x2 ≤ v2 then
  some (v1, h)
  else
  (ms_ai h 0 ((59 : Int32) + v2)).bind fun x4 =>
  (ms_ai h 0 ((59 : Int32) + v1)).bind fun x5 =>
  if x4 ≤ x5 then
  f_X9_mostVisitedState_b42 D b o (f_X9_mostVisitedState_b9 D b o n) h v1 v2
  else
  f_X9_mostVisitedState_b42 D b o (f_X9_mostVisitedState_b9 D b o n) h v2 v2
theorem w_X9_mostVisitedState_b9 {l : Launch} (hlt : l.stackTraces = false) {p : Program} {e : Env} {R : Room} {s : State} {m : MethodId} {args : Array Value} {below : List Frame} {meth : Method} {c : Code} {D : gx_D} {b : HX} {o : Nat} {h0 : MS} {r : Int32} {hz : MS} (C : gx_Ctx p R s m args meth c "ContractMachineModel" cX9_mostVisitedState 3 (some .int) 1 24 D (mh b o h0) (mh b o hz)) (hx : meth.name = "mostVisitedState")  : ∀ (n : Nat) ⦃h : MS⦄ ⦃v1 : Int32⦄ ⦃v2 : Int32⦄, f_X9_mostVisitedState_b9 D b o n h v1 v2 = some (r, hz) → gx_G p l e R s m args below meth c D (mh b o h0) (mh b o hz) 3 (gx_MQ below args s D (mh b o h0) (mh b o hz) (some (.int r))) 9 [(0, (va_rf (some o))), (1, (.int v1)), (2, (.int v2))] [] (mh b o h) := by
  intro n
  induction n with
  | zero => intro h v1 v2 hf; unfold f_X9_mostVisitedState_b9 at hf; cases hf
  | succ n wk9 =>
    intro h v1 v2 hf
    unfold f_X9_mostVisitedState_b9 at hf
    refine gx_iload_n C dX9_mostVisitedState_9 2 rfl ?_
    refine gx_aload_n C dX9_mostVisitedState_10 0 rfl ?_
    refine gx_gr C (mh_gr (k := 0) rfl) gz_494 q2634 dX9_mostVisitedState_11 ?_
    refine gx_iconst (v := 0) C dX9_mostVisitedState_14 rfl ?_
    replace hf := gx_bs hf
    obtain ⟨x2, g9, hf⟩ := hf
    refine gx_iald C (mh_ai g9) dX9_mostVisitedState_15 ?_
    replace hf := gx_ite hf
    rcases hf with ⟨c3, hf⟩ | ⟨c3, hf⟩
    · refine gx_icmp_ge_t (tgt := 48) C dX9_mostVisitedState_16 rfl c3 ?_
      refine gx_iload_n C dX9_mostVisitedState_48 1 rfl ?_
      obtain ⟨rfl, rfl⟩ := Prod.mk.inj (Option.some.inj hf)
      exact gx_iret C dX9_mostVisitedState_49
    · refine gx_icmp_ge_f (tgt := 48) C dX9_mostVisitedState_16 rfl c3 ?_
      refine gx_aload_n C dX9_mostVisitedState_19 0 rfl ?_
      refine gx_gr C (mh_gr (k := 0) rfl) gz_494 q2634 dX9_mostVisitedState_20 ?_
      refine gx_bipush (v := 59) C dX9_mostVisitedState_23 rfl ?_
      refine gx_iload_n C dX9_mostVisitedState_25 2 rfl ?_
      refine gx_iadd C dX9_mostVisitedState_26 ?_
      replace hf := gx_bs hf
      obtain ⟨x4, g8, hf⟩ := hf
      refine gx_iald C (mh_ai g8) dX9_mostVisitedState_27 ?_
      refine gx_aload_n C dX9_mostVisitedState_28 0 rfl ?_
      refine gx_gr C (mh_gr (k := 0) rfl) gz_494 q2634 dX9_mostVisitedState_29 ?_
      refine gx_bipush (v := 59) C dX9_mostVisitedState_32 rfl ?_
      refine gx_iload_n C dX9_mostVisitedState_34 1 rfl ?_
      refine gx_iadd C dX9_mostVisitedState_35 ?_
      replace hf := gx_bs hf
      obtain ⟨x5, g7, hf⟩ := hf
      refine gx_iald C (mh_ai g7) dX9_mostVisitedState_36 ?_
      replace hf := gx_ite hf
      rcases hf with ⟨c6, hf⟩ | ⟨c6, hf⟩
      · refine gx_icmp_le_t (tgt := 42) C dX9_mostVisitedState_37 rfl c6 ?_
        refine gx_sub [0, 1, 2] rfl ?_
        exact w_X9_mostVisitedState_b42 hlt C hx wk9 hf
      · refine gx_icmp_le_f (tgt := 42) C dX9_mostVisitedState_37 rfl c6 ?_
        refine gx_iload_n C dX9_mostVisitedState_40 2 rfl ?_
        refine gx_istn C dX9_mostVisitedState_41 1 rfl (by decide) [0, 2]  rfl (gx_okr rfl gx_catv_r (gx_okn rfl rfl gx_ok0)) ?_
        refine gx_sub [1, 0, 2] rfl ?_
        exact w_X9_mostVisitedState_b42 hlt C hx wk9 hf
def f_X9_mostVisitedState (D : gx_D) (b : HX) (o : Nat) (h : MS) : Option ((Int32) × MS) :=
  (ms_pf h 6 (0 : Int32)).bind fun h1 =>
  f_X9_mostVisitedState_b9 D b o gx_fuel h1 ((0 : Int32)) ((1 : Int32))
theorem w_X9_mostVisitedState_b {l : Launch} (hlt : l.stackTraces = false) {p : Program} {e : Env} {R : Room} {s : State} {m : MethodId} {args : Array Value} {below : List Frame} {meth : Method} {c : Code} {D : gx_D} {b : HX} {o : Nat} {h0 : MS} {r : Int32} {hz : MS} (C : gx_Ctx p R s m args meth c "ContractMachineModel" cX9_mostVisitedState 3 (some .int) 1 24 D (mh b o h0) (mh b o hz)) (hx : meth.name = "mostVisitedState") (hf : f_X9_mostVisitedState D b o h0 = some (r, hz)) : gx_G p l e R s m args below meth c D (mh b o h0) (mh b o hz) 3 (gx_MQ below args s D (mh b o h0) (mh b o hz) (some (.int r))) 0 [(0, (va_rf (some o)))] [] (mh b o h0) := by
  unfold f_X9_mostVisitedState at hf
  refine gx_aload_n C dX9_mostVisitedState_0 0 rfl ?_
  refine gx_iconst (v := 0) C dX9_mostVisitedState_1 rfl ?_
  replace hf := gx_bs hf
  obtain ⟨h1, g10, hf⟩ := hf
  refine gx_putv C (mh_pg (by decide) (fun _ _ => mh_p6) g10) gz_519 gz_1 rfl rfl q2640 dX9_mostVisitedState_2 ?_
  refine gx_iconst (v := 0) C dX9_mostVisitedState_5 rfl ?_
  refine gx_istn C dX9_mostVisitedState_6 1 rfl (by decide) [0]  rfl (gx_okr rfl gx_catv_r gx_ok0) ?_
  refine gx_iconst (v := 1) C dX9_mostVisitedState_7 rfl ?_
  refine gx_istn C dX9_mostVisitedState_8 2 rfl (by decide) [0, 1]  rfl (gx_okr rfl gx_catv_i (gx_okn rfl rfl gx_ok0)) ?_
  refine gx_sub [2, 1, 0] rfl ?_
  exact w_X9_mostVisitedState_b9 hlt C hx gx_fuel hf
theorem w_X9_mostVisitedState {l : Launch} (hlt : l.stackTraces = false) {D : gx_D} {b : HX} {o : Nat} {h : MS} {r : Int32} {hz : MS} (hf : f_X9_mostVisitedState D b o h = some (r, hz)) : gx_Met l yX9_mostVisitedState cX9_mostVisitedState 3 (some .int) 1 24 D [(va_rf (some o))] (mh b o h) (some (.int r)) (mh b o hz) :=
  gx_ofG gz_495 (by simp only [gx_lsr, gx_lsi, gx_lsj, gx_ls0]; decide) mh_le (fun p e R s m args below meth c C hx => by
    simp only [gx_lar, gx_lai, gx_laj, gx_la0, Nat.reduceAdd]
    exact w_X9_mostVisitedState_b hlt C hx hf)
def f_X9_traceEvent (D : gx_D) (b : HX) (o : Nat) (h : MS) (p1 : Int32) : Option ((Int32) × MS) :=
  (ms_pf h 6 (0 : Int32)).bind fun h1 =>
  (ms_ai h1 0 (18 : Int32)).bind fun x2 =>
  (f_X9_inRange D b o h1 p1 (0 : Int32) (x2 - (1 : Int32))).bind fun b4 =>
  if b4 = true then
  (ms_ai h1 0 ((19 : Int32) + ((2 : Int32) * p1))).bind fun x6 =>
  some (x6, h1)
  else
  some ((-1 : Int32), h1)
theorem w_X9_traceEvent_b {l : Launch} (hlt : l.stackTraces = false) {p : Program} {e : Env} {R : Room} {s : State} {m : MethodId} {args : Array Value} {below : List Frame} {meth : Method} {c : Code} {D : gx_D} {b : HX} {o : Nat} {h0 : MS} {r : Int32} {hz : MS} (C : gx_Ctx p R s m args meth c "ContractMachineModel" cX9_traceEvent 2 (some .int) 2 46 D (mh b o h0) (mh b o hz)) (hx : meth.name = "traceEvent") {p1 : Int32} (hf : f_X9_traceEvent D b o h0 p1 = some (r, hz)) : gx_G p l e R s m args below meth c D (mh b o h0) (mh b o hz) 2 (gx_MQ below args s D (mh b o h0) (mh b o hz) (some (.int r))) 0 [(0, (va_rf (some o))), (1, (.int p1))] [] (mh b o h0) := by
  unfold f_X9_traceEvent at hf
  refine gx_aload_n C dX9_traceEvent_0 0 rfl ?_
  refine gx_iconst (v := 0) C dX9_traceEvent_1 rfl ?_
  replace hf := gx_bs hf
  obtain ⟨h1, g9, hf⟩ := hf
  refine gx_putv C (mh_pg (by decide) (fun _ _ => mh_p6) g9) gz_519 gz_1 rfl rfl q2640 dX9_traceEvent_2 ?_
  refine gx_iload_n C dX9_traceEvent_5 1 rfl ?_
  refine gx_iconst (v := 0) C dX9_traceEvent_6 rfl ?_
  refine gx_aload_n C dX9_traceEvent_7 0 rfl ?_
  refine gx_gr C (mh_gr (k := 0) rfl) gz_494 q2634 dX9_traceEvent_8 ?_
  refine gx_bipush (v := 18) C dX9_traceEvent_11 rfl ?_
  replace hf := gx_bs hf
  obtain ⟨x2, g8, hf⟩ := hf
  refine gx_iald C (mh_ai g8) dX9_traceEvent_13 ?_
  refine gx_iconst (v := 1) C dX9_traceEvent_14 rfl ?_
  refine gx_isub C dX9_traceEvent_15 ?_
  replace hf := gx_bs hf
  obtain ⟨b4, g3, hf⟩ := hf
  refine gx_callS (st := []) C (w_X9_inRange hlt g3) (lw_S q2745 q2746 q151 q2747) gz_522 (by decide) rfl rfl (gx_catn (Nat.le_of_ble_eq_true rfl)) dX9_traceEvent_16 ?_
  replace hf := gx_ite hf
  rcases hf with ⟨c5, hf⟩ | ⟨c5, hf⟩
  · refine gx_ifz_eq_f (tgt := 36) C dX9_traceEvent_19 rfl c5 ?_
    refine gx_aload_n C dX9_traceEvent_22 0 rfl ?_
    refine gx_gr C (mh_gr (k := 0) rfl) gz_494 q2634 dX9_traceEvent_23 ?_
    refine gx_bipush (v := 19) C dX9_traceEvent_26 rfl ?_
    refine gx_iconst (v := 2) C dX9_traceEvent_28 rfl ?_
    refine gx_iload_n C dX9_traceEvent_29 1 rfl ?_
    refine gx_imul C dX9_traceEvent_30 ?_
    refine gx_iadd C dX9_traceEvent_31 ?_
    replace hf := gx_bs hf
    obtain ⟨x6, g7, hf⟩ := hf
    refine gx_iald C (mh_ai g7) dX9_traceEvent_32 ?_
    refine gx_goto (tgt := 37) C dX9_traceEvent_33 rfl ?_
    obtain ⟨rfl, rfl⟩ := Prod.mk.inj (Option.some.inj hf)
    exact gx_iret C dX9_traceEvent_37
  · refine gx_ifz_eq_t (tgt := 36) C dX9_traceEvent_19 rfl c5 ?_
    refine gx_iconst (v := -1) C dX9_traceEvent_36 rfl ?_
    obtain ⟨rfl, rfl⟩ := Prod.mk.inj (Option.some.inj hf)
    exact gx_iret C dX9_traceEvent_37
theorem w_X9_traceEvent {l : Launch} (hlt : l.stackTraces = false) {D : gx_D} {b : HX} {o : Nat} {h : MS} {p1 : Int32} {r : Int32} {hz : MS} (hf : f_X9_traceEvent D b o h p1 = some (r, hz)) : gx_Met l yX9_traceEvent cX9_traceEvent 2 (some .int) 2 46 D [(va_rf (some o)), (.int p1)] (mh b o h) (some (.int r)) (mh b o hz) :=
  gx_ofG gz_495 (by simp only [gx_lsr, gx_lsi, gx_lsj, gx_ls0]; decide) mh_le (fun p e R s m args below meth c C hx => by
    simp only [gx_lar, gx_lai, gx_laj, gx_la0, Nat.reduceAdd]
    exact w_X9_traceEvent_b hlt C hx hf)
def f_X9_traceTransition (D : gx_D) (b : HX) (o : Nat) (h : MS) (p1 : Int32) : Option ((Int32) × MS) :=
  (ms_pf h 6 (0 : Int32)).bind fun h1 =>
  (ms_ai h1 0 (18 : Int32)).bind fun x2 =>
  (f_X9_inRange D b o h1 p1 (0 : Int32) (x2 - (1 : Int32))).bind fun b4 =>
  if b4 = true then
  (ms_ai h1 0 (((19 : Int32) + ((2 : Int32) * p1)) + (1 : Int32))).bind fun x6 =>
  some (x6, h1)
  else
  some ((-1 : Int32), h1)
theorem w_X9_traceTransition_b {l : Launch} (hlt : l.stackTraces = false) {p : Program} {e : Env} {R : Room} {s : State} {m : MethodId} {args : Array Value} {below : List Frame} {meth : Method} {c : Code} {D : gx_D} {b : HX} {o : Nat} {h0 : MS} {r : Int32} {hz : MS} (C : gx_Ctx p R s m args meth c "ContractMachineModel" cX9_traceTransition 2 (some .int) 2 46 D (mh b o h0) (mh b o hz)) (hx : meth.name = "traceTransition") {p1 : Int32} (hf : f_X9_traceTransition D b o h0 p1 = some (r, hz)) : gx_G p l e R s m args below meth c D (mh b o h0) (mh b o hz) 2 (gx_MQ below args s D (mh b o h0) (mh b o hz) (some (.int r))) 0 [(0, (va_rf (some o))), (1, (.int p1))] [] (mh b o h0) := by
  unfold f_X9_traceTransition at hf
  refine gx_aload_n C dX9_traceTransition_0 0 rfl ?_
  refine gx_iconst (v := 0) C dX9_traceTransition_1 rfl ?_
  replace hf := gx_bs hf
  obtain ⟨h1, g9, hf⟩ := hf
  refine gx_putv C (mh_pg (by decide) (fun _ _ => mh_p6) g9) gz_519 gz_1 rfl rfl q2640 dX9_traceTransition_2 ?_
  refine gx_iload_n C dX9_traceTransition_5 1 rfl ?_
  refine gx_iconst (v := 0) C dX9_traceTransition_6 rfl ?_
  refine gx_aload_n C dX9_traceTransition_7 0 rfl ?_
  refine gx_gr C (mh_gr (k := 0) rfl) gz_494 q2634 dX9_traceTransition_8 ?_
  refine gx_bipush (v := 18) C dX9_traceTransition_11 rfl ?_
  replace hf := gx_bs hf
  obtain ⟨x2, g8, hf⟩ := hf
  refine gx_iald C (mh_ai g8) dX9_traceTransition_13 ?_
  refine gx_iconst (v := 1) C dX9_traceTransition_14 rfl ?_
  refine gx_isub C dX9_traceTransition_15 ?_
  replace hf := gx_bs hf
  obtain ⟨b4, g3, hf⟩ := hf
  refine gx_callS (st := []) C (w_X9_inRange hlt g3) (lw_S q2745 q2746 q151 q2747) gz_522 (by decide) rfl rfl (gx_catn (Nat.le_of_ble_eq_true rfl)) dX9_traceTransition_16 ?_
  replace hf := gx_ite hf
  rcases hf with ⟨c5, hf⟩ | ⟨c5, hf⟩
  · refine gx_ifz_eq_f (tgt := 38) C dX9_traceTransition_19 rfl c5 ?_
    refine gx_aload_n C dX9_traceTransition_22 0 rfl ?_
    refine gx_gr C (mh_gr (k := 0) rfl) gz_494 q2634 dX9_traceTransition_23 ?_
    refine gx_bipush (v := 19) C dX9_traceTransition_26 rfl ?_
    refine gx_iconst (v := 2) C dX9_traceTransition_28 rfl ?_
    refine gx_iload_n C dX9_traceTransition_29 1 rfl ?_
    refine gx_imul C dX9_traceTransition_30 ?_
    refine gx_iadd C dX9_traceTransition_31 ?_
    refine gx_iconst (v := 1) C dX9_traceTransition_32 rfl ?_
    refine gx_iadd C dX9_traceTransition_33 ?_
    replace hf := gx_bs hf
    obtain ⟨x6, g7, hf⟩ := hf
    refine gx_iald C (mh_ai g7) dX9_traceTransition_34 ?_
    refine gx_goto (tgt := 39) C dX9_traceTransition_35 rfl ?_
    obtain ⟨rfl, rfl⟩ := Prod.mk.inj (Option.some.inj hf)
    exact gx_iret C dX9_traceTransition_39
  · refine gx_ifz_eq_t (tgt := 38) C dX9_traceTransition_19 rfl c5 ?_
    refine gx_iconst (v := -1) C dX9_traceTransition_38 rfl ?_
    obtain ⟨rfl, rfl⟩ := Prod.mk.inj (Option.some.inj hf)
    exact gx_iret C dX9_traceTransition_39
theorem w_X9_traceTransition {l : Launch} (hlt : l.stackTraces = false) {D : gx_D} {b : HX} {o : Nat} {h : MS} {p1 : Int32} {r : Int32} {hz : MS} (hf : f_X9_traceTransition D b o h p1 = some (r, hz)) : gx_Met l yX9_traceTransition cX9_traceTransition 2 (some .int) 2 46 D [(va_rf (some o)), (.int p1)] (mh b o h) (some (.int r)) (mh b o hz) :=
  gx_ofG gz_495 (by simp only [gx_lsr, gx_lsi, gx_lsj, gx_ls0]; decide) mh_le (fun p e R s m args below meth c C hx => by
    simp only [gx_lar, gx_lai, gx_laj, gx_la0, Nat.reduceAdd]
    exact w_X9_traceTransition_b hlt C hx hf)
def f_X9_reaches (D : gx_D) (b : HX) (o : Nat) (h : MS) (p1 : Int32) (p2 : Int32) : Option MS :=
  (ms_ai h 4 p1).bind fun x1 =>
  if x1 = (-1 : Int32) then
  (ms_si h 4 p1 p2).bind fun h3 =>
  (ms_si h3 5 (h3.1 11) p1).bind fun h4 =>
  (ms_pf h4 11 ((h4.1 11) + (1 : Int32))).bind fun h5 =>
  some h5
  else
  some h
theorem w_X9_reaches_b {l : Launch} (hlt : l.stackTraces = false) {p : Program} {e : Env} {R : Room} {s : State} {m : MethodId} {args : Array Value} {below : List Frame} {meth : Method} {c : Code} {D : gx_D} {b : HX} {o : Nat} {h0 : MS} {hz : MS} (C : gx_Ctx p R s m args meth c "ContractMachineModel" cX9_reaches 3 none 1 24 D (mh b o h0) (mh b o hz)) (hx : meth.name = "reaches") {p1 : Int32} {p2 : Int32} (hf : f_X9_reaches D b o h0 p1 p2 = some hz) : gx_G p l e R s m args below meth c D (mh b o h0) (mh b o hz) 3 (gx_MQ below args s D (mh b o h0) (mh b o hz) none) 0 [(0, (va_rf (some o))), (1, (.int p1)), (2, (.int p2))] [] (mh b o h0) := by
  unfold f_X9_reaches at hf
  refine gx_aload_n C dX9_reaches_0 0 rfl ?_
  refine gx_gr C (mh_gr (k := 9) rfl) gz_501 q2643 dX9_reaches_1 ?_
  refine gx_iload_n C dX9_reaches_4 1 rfl ?_
  replace hf := gx_bs hf
  obtain ⟨x1, g9, hf⟩ := hf
  refine gx_iald C (mh_ai g9) dX9_reaches_5 ?_
  refine gx_iconst (v := -1) C dX9_reaches_6 rfl ?_
  replace hf := gx_ite hf
  rcases hf with ⟨c2, hf⟩ | ⟨c2, hf⟩
  · refine gx_icmp_eq_t (tgt := 11) C dX9_reaches_7 rfl c2 ?_
    refine gx_aload_n C dX9_reaches_11 0 rfl ?_
    refine gx_gr C (mh_gr (k := 9) rfl) gz_501 q2643 dX9_reaches_12 ?_
    refine gx_iload_n C dX9_reaches_15 1 rfl ?_
    refine gx_iload_n C dX9_reaches_16 2 rfl ?_
    replace hf := gx_bs hf
    obtain ⟨h3, g8, hf⟩ := hf
    refine gx_iast C (mh_si g8) dX9_reaches_17 ?_
    refine gx_aload_n C dX9_reaches_18 0 rfl ?_
    refine gx_gr C (mh_gr (k := 10) rfl) gz_502 q2644 dX9_reaches_19 ?_
    refine gx_aload_n C dX9_reaches_22 0 rfl ?_
    refine gx_gi C (mh_gi (k := 11) rfl) gz_595 q2645 dX9_reaches_23 ?_
    refine gx_iload_n C dX9_reaches_26 1 rfl ?_
    replace hf := gx_bs hf
    obtain ⟨h4, g7, hf⟩ := hf
    refine gx_iast C (mh_si g7) dX9_reaches_27 ?_
    refine gx_aload_n C dX9_reaches_28 0 rfl ?_
    refine gx_dup C dX9_reaches_29 rfl ?_
    refine gx_gi C (mh_gi (k := 11) rfl) gz_595 q2645 dX9_reaches_30 ?_
    refine gx_iconst (v := 1) C dX9_reaches_33 rfl ?_
    refine gx_iadd C dX9_reaches_34 ?_
    replace hf := gx_bs hf
    obtain ⟨h5, g6, hf⟩ := hf
    refine gx_putv C (mh_pg (by decide) (fun _ _ => mh_p11) g6) gz_595 gz_1 rfl rfl q2645 dX9_reaches_35 ?_
    obtain rfl := Option.some.inj hf
    exact gx_vret C dX9_reaches_38
  · refine gx_icmp_eq_f (tgt := 11) C dX9_reaches_7 rfl c2 ?_
    obtain rfl := Option.some.inj hf
    exact gx_vret C dX9_reaches_10
theorem w_X9_reaches {l : Launch} (hlt : l.stackTraces = false) {D : gx_D} {b : HX} {o : Nat} {h : MS} {p1 : Int32} {p2 : Int32} {hz : MS} (hf : f_X9_reaches D b o h p1 p2 = some hz) : gx_Met l yX9_reaches cX9_reaches 3 none 1 24 D [(va_rf (some o)), (.int p1), (.int p2)] (mh b o h) none (mh b o hz) :=
  gx_ofG gz_495 (by simp only [gx_lsr, gx_lsi, gx_lsj, gx_ls0]; decide) mh_le (fun p e R s m args below meth c C hx => by
    simp only [gx_lar, gx_lai, gx_laj, gx_la0, Nat.reduceAdd]
    exact w_X9_reaches_b hlt C hx hf)
def f_X9_searches_b96 (D : gx_D) (b : HX) (o : Nat) (k35 : MS → Int32 → Option MS) (h : MS) (v2 : Int32) : Option MS :=
  k35 h ((v2 + (1 : Int32)))
theorem w_X9_searches_b96 {l : Launch} (hlt : l.stackTraces = false) {p : Program} {e : Env} {R : Room} {s : State} {m : MethodId} {args : Array Value} {below : List Frame} {meth : Method} {c : Code} {D : gx_D} {b : HX} {o : Nat} {h0 : MS} {hz : MS} (C : gx_Ctx p R s m args meth c "ContractMachineModel" cX9_searches 5 none 7 157 D (mh b o h0) (mh b o hz)) (hx : meth.name = "searches")  {k35 : MS → Int32 → Option MS} (wk35 : ∀ ⦃h : MS⦄ ⦃v2 : Int32⦄, k35 h v2 = some hz → gx_G p l e R s m args below meth c D (mh b o h0) (mh b o hz) 5 (gx_MQ below args s D (mh b o h0) (mh b o hz) none) 35 [(0, (va_rf (some o))), (2, (.int v2))] [] (mh b o h)) {h : MS} {v2 : Int32} (hf : f_X9_searches_b96 D b o k35 h v2 = some hz) : gx_G p l e R s m args below meth c D (mh b o h0) (mh b o hz) 5 (gx_MQ below args s D (mh b o h0) (mh b o hz) none) 96 [(0, (va_rf (some o))), (2, (.int v2))] [] (mh b o h) := by
  unfold f_X9_searches_b96 at hf
  refine gx_inc (v := 1) C dX9_searches_96 1 rfl rfl (by decide) [0] rfl (gx_okn rfl rfl gx_ok0) ?_
  refine gx_goto (tgt := 35) C dX9_searches_99 rfl ?_
  refine gx_sub [1, 0] rfl ?_
  exact wk35 hf
def f_X9_searches_b90 (D : gx_D) (b : HX) (o : Nat) (k35 : MS → Int32 → Option MS) (k53 : MS → Int32 → Int32 → Int32 → Option MS) (h : MS) (v2 : Int32) (v3 : Int32) (v4 : Int32) : Option MS :=
  k53 h v2 v3 ((v4 + (1 : Int32)))
theorem w_X9_searches_b90 {l : Launch} (hlt : l.stackTraces = false) {p : Program} {e : Env} {R : Room} {s : State} {m : MethodId} {args : Array Value} {below : List Frame} {meth : Method} {c : Code} {D : gx_D} {b : HX} {o : Nat} {h0 : MS} {hz : MS} (C : gx_Ctx p R s m args meth c "ContractMachineModel" cX9_searches 5 none 7 157 D (mh b o h0) (mh b o hz)) (hx : meth.name = "searches")  {k35 : MS → Int32 → Option MS} {k53 : MS → Int32 → Int32 → Int32 → Option MS} (wk35 : ∀ ⦃h : MS⦄ ⦃v2 : Int32⦄, k35 h v2 = some hz → gx_G p l e R s m args below meth c D (mh b o h0) (mh b o hz) 5 (gx_MQ below args s D (mh b o h0) (mh b o hz) none) 35 [(0, (va_rf (some o))), (2, (.int v2))] [] (mh b o h)) (wk53 : ∀ ⦃h : MS⦄ ⦃v2 : Int32⦄ ⦃v3 : Int32⦄ ⦃v4 : Int32⦄, k53 h v2 v3 v4 = some hz → gx_G p l e R s m args below meth c D (mh b o h0) (mh b o hz) 5 (gx_MQ below args s D (mh b o h0) (mh b o hz) none) 53 [(0, (va_rf (some o))), (2, (.int v2)), (3, (.int v3)), (4, (.int v4))] [] (mh b o h)) {h : MS} {v2 : Int32} {v3 : Int32} {v4 : Int32} (hf : f_X9_searches_b90 D b o k35 k53 h v2 v3 v4 = some hz) : gx_G p l e R s m args below meth c D (mh b o h0) (mh b o hz) 5 (gx_MQ below args s D (mh b o h0) (mh b o hz) none) 90 [(0, (va_rf (some o))), (2, (.int v2)), (3, (.int v3)), (4, (.int v4))] [] (mh b o h) := by
  unfold f_X9_searches_b90 at hf
  refine gx_inc (v := 1) C dX9_searches_90 3 rfl rfl (by decide) [0, 1, 2] rfl (gx_okn rfl rfl (gx_okn rfl rfl (gx_okr rfl gx_catv_i gx_ok0))) ?_
  refine gx_goto (tgt := 53) C dX9_searches_93 rfl ?_
  refine gx_sub [1, 2, 3, 0] rfl ?_
  exact wk53 hf
def f_X9_searches_b53 (D : gx_D) (b : HX) (o : Nat) (k35 : MS → Int32 → Option MS) : Nat → MS → Int32 → Int32 → Int32 → Option MS
  | 0, _, _, _, _ => none
  | n + 1, h, v2, v3, v4 =>
  (ms_ai h 0 (1 : Int32)).bind fun x7 =>
  if x7 ≤ v4 then
  f_X9_searches_b96 D b o k35 h v2
  else
  gx_b2 (f_X9_verdict D b o h v3 v4) fun x10 h11 =>
  if x10 = 0 then
  (ms_ai h11 4 v3).bind fun x13 =>
  (f_X9_reaches D b o h11 (h11.1 8) (x13 + (1 : Int32))).bind fun h15 =>
  f_X9_searches_b90 D b o k35 (f_X9_searches_b53 D b o k35 n) h15 v2 v3 v4
  else
  f_X9_searches_b90 D b o k35 (f_X9_searches_b53 D b o k35 n) h11 v2 v3 v4
theorem w_X9_searches_b53 {l : Launch} (hlt : l.stackTraces = false) {p : Program} {e : Env} {R : Room} {s : State} {m : MethodId} {args : Array Value} {below : List Frame} {meth : Method} {c : Code} {D : gx_D} {b : HX} {o : Nat} {h0 : MS} {hz : MS} (C : gx_Ctx p R s m args meth c "ContractMachineModel" cX9_searches 5 none 7 157 D (mh b o h0) (mh b o hz)) (hx : meth.name = "searches")  {k35 : MS → Int32 → Option MS} (wk35 : ∀ ⦃h : MS⦄ ⦃v2 : Int32⦄, k35 h v2 = some hz → gx_G p l e R s m args below meth c D (mh b o h0) (mh b o hz) 5 (gx_MQ below args s D (mh b o h0) (mh b o hz) none) 35 [(0, (va_rf (some o))), (2, (.int v2))] [] (mh b o h)) : ∀ (n : Nat) ⦃h : MS⦄ ⦃v2 : Int32⦄ ⦃v3 : Int32⦄ ⦃v4 : Int32⦄, f_X9_searches_b53 D b o k35 n h v2 v3 v4 = some hz → gx_G p l e R s m args below meth c D (mh b o h0) (mh b o hz) 5 (gx_MQ below args s D (mh b o h0) (mh b o hz) none) 53 [(0, (va_rf (some o))), (2, (.int v2)), (3, (.int v3)), (4, (.int v4))] [] (mh b o h) := by
  intro n
  induction n with
  | zero => intro h v2 v3 v4 hf; unfold f_X9_searches_b53 at hf; cases hf
  | succ n wk53 =>
    intro h v2 v3 v4 hf
    unfold f_X9_searches_b53 at hf
    refine gx_iload C dX9_searches_53 3 rfl ?_
    refine gx_aload_n C dX9_searches_55 0 rfl ?_
    refine gx_gr C (mh_gr (k := 0) rfl) gz_494 q2634 dX9_searches_56 ?_
    refine gx_iconst (v := 1) C dX9_searches_59 rfl ?_
    replace hf := gx_bs hf
    obtain ⟨x7, g17, hf⟩ := hf
    refine gx_iald C (mh_ai g17) dX9_searches_60 ?_
    replace hf := gx_ite hf
    rcases hf with ⟨c8, hf⟩ | ⟨c8, hf⟩
    · refine gx_icmp_ge_t (tgt := 96) C dX9_searches_61 rfl c8 ?_
      refine gx_sub [0, 1] rfl ?_
      exact w_X9_searches_b96 hlt C hx wk35 hf
    · refine gx_icmp_ge_f (tgt := 96) C dX9_searches_61 rfl c8 ?_
      refine gx_aload_n C dX9_searches_64 0 rfl ?_
      refine gx_iload_n C dX9_searches_65 2 rfl ?_
      refine gx_iload C dX9_searches_66 3 rfl ?_
      replace hf := gx_b2s hf
      obtain ⟨x10, h11, g9, hf⟩ := hf
      refine gx_callV (st := []) C (w_X9_verdict hlt g9) mh_is gz_497 rfl (lw_V q2942 q2944 qs97 q151 q2945) gz_577 (by decide) rfl rfl (gx_catn (Nat.le_of_ble_eq_true rfl)) dX9_searches_68 ?_
      replace hf := gx_ite hf
      rcases hf with ⟨c12, hf⟩ | ⟨c12, hf⟩
      · refine gx_if_ne_f (tgt := 90) C dX9_searches_71 rfl c12 ?_
        refine gx_aload_n C dX9_searches_74 0 rfl ?_
        refine gx_aload_n C dX9_searches_75 0 rfl ?_
        refine gx_gi C (mh_gi (k := 8) rfl) gz_572 q2642 dX9_searches_76 ?_
        refine gx_aload_n C dX9_searches_79 0 rfl ?_
        refine gx_gr C (mh_gr (k := 9) rfl) gz_501 q2643 dX9_searches_80 ?_
        refine gx_iload_n C dX9_searches_83 2 rfl ?_
        replace hf := gx_bs hf
        obtain ⟨x13, g16, hf⟩ := hf
        refine gx_iald C (mh_ai g16) dX9_searches_84 ?_
        refine gx_iconst (v := 1) C dX9_searches_85 rfl ?_
        refine gx_iadd C dX9_searches_86 ?_
        replace hf := gx_bs hf
        obtain ⟨h15, g14, hf⟩ := hf
        refine gx_callV (st := []) C (w_X9_reaches hlt g14) mh_is gz_497 rfl (lw_V q3160 q3162 qs113 q151 q3163) gz_596 (by decide) rfl rfl (gx_catn (Nat.le_of_ble_eq_true rfl)) dX9_searches_87 ?_
        refine gx_sub [0, 1, 2, 3] rfl ?_
        exact w_X9_searches_b90 hlt C hx wk35 wk53 hf
      · refine gx_if_ne_t (tgt := 90) C dX9_searches_71 rfl c12 ?_
        refine gx_sub [0, 1, 2, 3] rfl ?_
        exact w_X9_searches_b90 hlt C hx wk35 wk53 hf
def f_X9_searches_b35 (D : gx_D) (b : HX) (o : Nat) : Nat → MS → Int32 → Option MS
  | 0, _, _ => none
  | n + 1, h, v2 =>
  if (h.1 11) ≤ v2 then
  some h
  else
  (ms_ai h 5 v2).bind fun x6 =>
  f_X9_searches_b53 D b o (f_X9_searches_b35 D b o n) gx_fuel h v2 x6 ((0 : Int32))
theorem w_X9_searches_b35 {l : Launch} (hlt : l.stackTraces = false) {p : Program} {e : Env} {R : Room} {s : State} {m : MethodId} {args : Array Value} {below : List Frame} {meth : Method} {c : Code} {D : gx_D} {b : HX} {o : Nat} {h0 : MS} {hz : MS} (C : gx_Ctx p R s m args meth c "ContractMachineModel" cX9_searches 5 none 7 157 D (mh b o h0) (mh b o hz)) (hx : meth.name = "searches")  : ∀ (n : Nat) ⦃h : MS⦄ ⦃v2 : Int32⦄, f_X9_searches_b35 D b o n h v2 = some hz → gx_G p l e R s m args below meth c D (mh b o h0) (mh b o hz) 5 (gx_MQ below args s D (mh b o h0) (mh b o hz) none) 35 [(0, (va_rf (some o))), (2, (.int v2))] [] (mh b o h) := by
  intro n
  induction n with
  | zero => intro h v2 hf; unfold f_X9_searches_b35 at hf; cases hf
  | succ n wk35 =>
    intro h v2 hf
    unfold f_X9_searches_b35 at hf
    refine gx_iload_n C dX9_searches_35 1 rfl ?_
    refine gx_aload_n C dX9_searches_36 0 rfl ?_
    refine gx_gi C (mh_gi (k := 11) rfl) gz_595 q2645 dX9_searches_37 ?_
    replace hf := gx_ite hf
    rcases hf with ⟨c5, hf⟩ | ⟨c5, hf⟩
    · refine gx_icmp_ge_t (tgt := 102) C dX9_searches_40 rfl c5 ?_
      obtain rfl := Option.some.inj hf
      exact gx_vret C dX9_searches_102
    · refine gx_icmp_ge_f (tgt := 102) C dX9_searches_40 rfl c5 ?_
      refine gx_aload_n C dX9_searches_43 0 rfl ?_
      refine gx_gr C (mh_gr (k := 10) rfl) gz_502 q2644 dX9_searches_44 ?_
      refine gx_iload_n C dX9_searches_47 1 rfl ?_
      replace hf := gx_bs hf
      obtain ⟨x6, g18, hf⟩ := hf
      refine gx_iald C (mh_ai g18) dX9_searches_48 ?_
      refine gx_istn C dX9_searches_49 3 rfl (by decide) [0, 1]  rfl (gx_okn rfl rfl (gx_okr rfl gx_catv_i gx_ok0)) ?_
      refine gx_iconst (v := 0) C dX9_searches_50 rfl ?_
      refine gx_ist C dX9_searches_51 (by decide) [0, 1, 2]  rfl (gx_okr rfl gx_catv_i (gx_okn rfl rfl (gx_okn rfl rfl gx_ok0))) ?_
      refine gx_sub [2, 3, 1, 0] rfl ?_
      exact w_X9_searches_b53 hlt C hx wk35 gx_fuel hf
def f_X9_searches_b22 (D : gx_D) (b : HX) (o : Nat) (h : MS) (v1 : Int32) : Option MS :=
  (ms_pf h 11 (0 : Int32)).bind fun h2 =>
  (f_X9_reaches D b o h2 v1 (0 : Int32)).bind fun h4 =>
  f_X9_searches_b35 D b o gx_fuel h4 ((0 : Int32))
theorem w_X9_searches_b22 {l : Launch} (hlt : l.stackTraces = false) {p : Program} {e : Env} {R : Room} {s : State} {m : MethodId} {args : Array Value} {below : List Frame} {meth : Method} {c : Code} {D : gx_D} {b : HX} {o : Nat} {h0 : MS} {hz : MS} (C : gx_Ctx p R s m args meth c "ContractMachineModel" cX9_searches 5 none 7 157 D (mh b o h0) (mh b o hz)) (hx : meth.name = "searches")  {h : MS} {v1 : Int32} (hf : f_X9_searches_b22 D b o h v1 = some hz) : gx_G p l e R s m args below meth c D (mh b o h0) (mh b o hz) 5 (gx_MQ below args s D (mh b o h0) (mh b o hz) none) 22 [(0, (va_rf (some o))), (1, (.int v1))] [] (mh b o h) := by
  unfold f_X9_searches_b22 at hf
  refine gx_aload_n C dX9_searches_22 0 rfl ?_
  refine gx_iconst (v := 0) C dX9_searches_23 rfl ?_
  replace hf := gx_bs hf
  obtain ⟨h2, g19, hf⟩ := hf
  refine gx_putv C (mh_pg (by decide) (fun _ _ => mh_p11) g19) gz_595 gz_1 rfl rfl q2645 dX9_searches_24 ?_
  refine gx_aload_n C dX9_searches_27 0 rfl ?_
  refine gx_iload_n C dX9_searches_28 1 rfl ?_
  refine gx_iconst (v := 0) C dX9_searches_29 rfl ?_
  replace hf := gx_bs hf
  obtain ⟨h4, g3, hf⟩ := hf
  refine gx_callV (st := []) C (w_X9_reaches hlt g3) mh_is gz_497 rfl (lw_V q3160 q3162 qs113 q151 q3163) gz_596 (by decide) rfl rfl (gx_catn (Nat.le_of_ble_eq_true rfl)) dX9_searches_30 ?_
  refine gx_iconst (v := 0) C dX9_searches_33 rfl ?_
  refine gx_istn C dX9_searches_34 2 rfl (by decide) [0]  rfl (gx_okn rfl rfl gx_ok0) ?_
  refine gx_sub [1, 0] rfl ?_
  exact w_X9_searches_b35 hlt C hx gx_fuel hf
def f_X9_searches_b2 (D : gx_D) (b : HX) (o : Nat) : Nat → MS → Int32 → Int32 → Option MS
  | 0, _, _, _ => none
  | n + 1, h, v1, v2 =>
  if (10000 : Int32) ≤ v2 then
  f_X9_searches_b22 D b o h v1
  else
  (ms_si h 4 v2 (-1 : Int32)).bind fun h20 =>
  (f_X9_searches_b2 D b o n) h20 v1 ((v2 + (1 : Int32)))
theorem w_X9_searches_b2 {l : Launch} (hlt : l.stackTraces = false) {p : Program} {e : Env} {R : Room} {s : State} {m : MethodId} {args : Array Value} {below : List Frame} {meth : Method} {c : Code} {D : gx_D} {b : HX} {o : Nat} {h0 : MS} {hz : MS} (C : gx_Ctx p R s m args meth c "ContractMachineModel" cX9_searches 5 none 7 157 D (mh b o h0) (mh b o hz)) (hx : meth.name = "searches")  : ∀ (n : Nat) ⦃h : MS⦄ ⦃v1 : Int32⦄ ⦃v2 : Int32⦄, f_X9_searches_b2 D b o n h v1 v2 = some hz → gx_G p l e R s m args below meth c D (mh b o h0) (mh b o hz) 5 (gx_MQ below args s D (mh b o h0) (mh b o hz) none) 2 [(0, (va_rf (some o))), (1, (.int v1)), (2, (.int v2))] [] (mh b o h) := by
  intro n
  induction n with
  | zero => intro h v1 v2 hf; unfold f_X9_searches_b2 at hf; cases hf
  | succ n wk2 =>
    intro h v1 v2 hf
    unfold f_X9_searches_b2 at hf
    refine gx_iload_n C dX9_searches_2 2 rfl ?_
    refine gx_sipush (v := 10000) C dX9_searches_3 rfl ?_
    replace hf := gx_ite hf
    rcases hf with ⟨c1, hf⟩ | ⟨c1, hf⟩
    · refine gx_icmp_ge_t (tgt := 22) C dX9_searches_6 rfl c1 ?_
      refine gx_sub [0, 1] rfl ?_
      exact w_X9_searches_b22 hlt C hx hf
    · refine gx_icmp_ge_f (tgt := 22) C dX9_searches_6 rfl c1 ?_
      refine gx_aload_n C dX9_searches_9 0 rfl ?_
      refine gx_gr C (mh_gr (k := 9) rfl) gz_501 q2643 dX9_searches_10 ?_
      refine gx_iload_n C dX9_searches_13 2 rfl ?_
      refine gx_iconst (v := -1) C dX9_searches_14 rfl ?_
      replace hf := gx_bs hf
      obtain ⟨h20, g21, hf⟩ := hf
      refine gx_iast C (mh_si g21) dX9_searches_15 ?_
      refine gx_inc (v := 1) C dX9_searches_16 2 rfl rfl (by decide) [0, 1] rfl (gx_okn rfl rfl (gx_okr rfl gx_catv_i gx_ok0)) ?_
      refine gx_goto (tgt := 2) C dX9_searches_19 rfl ?_
      refine gx_sub [1, 2, 0] rfl ?_
      exact wk2 hf
def f_X9_searches (D : gx_D) (b : HX) (o : Nat) (h : MS) (p1 : Int32) : Option MS :=
  f_X9_searches_b2 D b o gx_fuel h p1 ((0 : Int32))
theorem w_X9_searches_b {l : Launch} (hlt : l.stackTraces = false) {p : Program} {e : Env} {R : Room} {s : State} {m : MethodId} {args : Array Value} {below : List Frame} {meth : Method} {c : Code} {D : gx_D} {b : HX} {o : Nat} {h0 : MS} {hz : MS} (C : gx_Ctx p R s m args meth c "ContractMachineModel" cX9_searches 5 none 7 157 D (mh b o h0) (mh b o hz)) (hx : meth.name = "searches") {p1 : Int32} (hf : f_X9_searches D b o h0 p1 = some hz) : gx_G p l e R s m args below meth c D (mh b o h0) (mh b o hz) 5 (gx_MQ below args s D (mh b o h0) (mh b o hz) none) 0 [(0, (va_rf (some o))), (1, (.int p1))] [] (mh b o h0) := by
  unfold f_X9_searches at hf
  refine gx_iconst (v := 0) C dX9_searches_0 rfl ?_
  refine gx_istn C dX9_searches_1 2 rfl (by decide) [0, 1]  rfl (gx_okn rfl rfl (gx_okr rfl gx_catv_i gx_ok0)) ?_
  refine gx_sub [1, 2, 0] rfl ?_
  exact w_X9_searches_b2 hlt C hx gx_fuel hf
theorem w_X9_searches {l : Launch} (hlt : l.stackTraces = false) {D : gx_D} {b : HX} {o : Nat} {h : MS} {p1 : Int32} {hz : MS} (hf : f_X9_searches D b o h p1 = some hz) : gx_Met l yX9_searches cX9_searches 5 none 7 157 D [(va_rf (some o)), (.int p1)] (mh b o h) none (mh b o hz) :=
  gx_ofG gz_495 (by simp only [gx_lsr, gx_lsi, gx_lsj, gx_ls0]; decide) mh_le (fun p e R s m args below meth c C hx => by
    simp only [gx_lar, gx_lai, gx_laj, gx_la0, Nat.reduceAdd]
    exact w_X9_searches_b hlt C hx hf)
def f_X9_reachableCount (D : gx_D) (b : HX) (o : Nat) (h : MS) : Option ((Int32) × MS) :=
  (ms_pf h 6 (0 : Int32)).bind fun h1 =>
  (f_X9_here D b o h1).bind fun x3 =>
  (f_X9_searches D b o h1 x3).bind fun h5 =>
  some ((h5.1 11), h5)
theorem w_X9_reachableCount_b {l : Launch} (hlt : l.stackTraces = false) {p : Program} {e : Env} {R : Room} {s : State} {m : MethodId} {args : Array Value} {below : List Frame} {meth : Method} {c : Code} {D : gx_D} {b : HX} {o : Nat} {h0 : MS} {r : Int32} {hz : MS} (C : gx_Ctx p R s m args meth c "ContractMachineModel" cX9_reachableCount 1 (some .int) 8 181 D (mh b o h0) (mh b o hz)) (hx : meth.name = "reachableCount") (hf : f_X9_reachableCount D b o h0 = some (r, hz)) : gx_G p l e R s m args below meth c D (mh b o h0) (mh b o hz) 1 (gx_MQ below args s D (mh b o h0) (mh b o hz) (some (.int r))) 0 [(0, (va_rf (some o)))] [] (mh b o h0) := by
  unfold f_X9_reachableCount at hf
  refine gx_aload_n C dX9_reachableCount_0 0 rfl ?_
  refine gx_iconst (v := 0) C dX9_reachableCount_1 rfl ?_
  replace hf := gx_bs hf
  obtain ⟨h1, g6, hf⟩ := hf
  refine gx_putv C (mh_pg (by decide) (fun _ _ => mh_p6) g6) gz_519 gz_1 rfl rfl q2640 dX9_reachableCount_2 ?_
  refine gx_aload_n C dX9_reachableCount_5 0 rfl ?_
  refine gx_aload_n C dX9_reachableCount_6 0 rfl ?_
  replace hf := gx_bs hf
  obtain ⟨x3, g2, hf⟩ := hf
  refine gx_callV (st := [(va_rf (some o))]) C (w_X9_here hlt g2) mh_is gz_497 rfl (lw_V q2938 q2940 qs96 q151 q2941) gz_576 (by decide) rfl rfl (gx_catn (Nat.le_of_ble_eq_true rfl)) dX9_reachableCount_7 ?_
  replace hf := gx_bs hf
  obtain ⟨h5, g4, hf⟩ := hf
  refine gx_callV (st := []) C (w_X9_searches hlt g4) mh_is gz_497 rfl (lw_V q3156 q3158 qs112 q151 q3159) gz_597 (by decide) rfl rfl (gx_catn (Nat.le_of_ble_eq_true rfl)) dX9_reachableCount_10 ?_
  refine gx_aload_n C dX9_reachableCount_13 0 rfl ?_
  refine gx_gi C (mh_gi (k := 11) rfl) gz_595 q2645 dX9_reachableCount_14 ?_
  obtain ⟨rfl, rfl⟩ := Prod.mk.inj (Option.some.inj hf)
  exact gx_iret C dX9_reachableCount_17
theorem w_X9_reachableCount {l : Launch} (hlt : l.stackTraces = false) {D : gx_D} {b : HX} {o : Nat} {h : MS} {r : Int32} {hz : MS} (hf : f_X9_reachableCount D b o h = some (r, hz)) : gx_Met l yX9_reachableCount cX9_reachableCount 1 (some .int) 8 181 D [(va_rf (some o))] (mh b o h) (some (.int r)) (mh b o hz) :=
  gx_ofG gz_495 (by simp only [gx_lsr, gx_lsi, gx_lsj, gx_ls0]; decide) mh_le (fun p e R s m args below meth c C hx => by
    simp only [gx_lar, gx_lai, gx_laj, gx_la0, Nat.reduceAdd]
    exact w_X9_reachableCount_b hlt C hx hf)
def f_X9_stepsBetween_b28 (D : gx_D) (b : HX) (o : Nat) (h : MS) (v3 : Int32) : Option ((Int32) × MS) :=
  (ms_ai h 5 v3).bind fun x8 =>
  (ms_ai h 4 x8).bind fun x9 =>
  some (x9, h)
theorem w_X9_stepsBetween_b28 {l : Launch} (hlt : l.stackTraces = false) {p : Program} {e : Env} {R : Room} {s : State} {m : MethodId} {args : Array Value} {below : List Frame} {meth : Method} {c : Code} {D : gx_D} {b : HX} {o : Nat} {h0 : MS} {r : Int32} {hz : MS} (C : gx_Ctx p R s m args meth c "ContractMachineModel" cX9_stepsBetween 4 (some .int) 8 181 D (mh b o h0) (mh b o hz)) (hx : meth.name = "stepsBetween")  {h : MS} {v3 : Int32} (hf : f_X9_stepsBetween_b28 D b o h v3 = some (r, hz)) : gx_G p l e R s m args below meth c D (mh b o h0) (mh b o hz) 4 (gx_MQ below args s D (mh b o h0) (mh b o hz) (some (.int r))) 28 [(0, (va_rf (some o))), (3, (.int v3))] [] (mh b o h) := by
  unfold f_X9_stepsBetween_b28 at hf
  refine gx_aload_n C dX9_stepsBetween_28 0 rfl ?_
  refine gx_gr C (mh_gr (k := 9) rfl) gz_501 q2643 dX9_stepsBetween_29 ?_
  refine gx_aload_n C dX9_stepsBetween_32 0 rfl ?_
  refine gx_gr C (mh_gr (k := 10) rfl) gz_502 q2644 dX9_stepsBetween_33 ?_
  refine gx_iload_n C dX9_stepsBetween_36 1 rfl ?_
  replace hf := gx_bs hf
  obtain ⟨x8, g11, hf⟩ := hf
  refine gx_iald C (mh_ai g11) dX9_stepsBetween_37 ?_
  replace hf := gx_bs hf
  obtain ⟨x9, g10, hf⟩ := hf
  refine gx_iald C (mh_ai g10) dX9_stepsBetween_38 ?_
  obtain ⟨rfl, rfl⟩ := Prod.mk.inj (Option.some.inj hf)
  exact gx_iret C dX9_stepsBetween_39
def f_X9_stepsBetween_b7 (D : gx_D) (b : HX) (o : Nat) : Nat → MS → Int32 → Int32 → Option ((Int32) × MS)
  | 0, _, _, _ => none
  | n + 1, h, v2, v3 =>
  if (h.1 11) ≤ v3 then
  some ((-1 : Int32), h)
  else
  (ms_ai h 5 v3).bind fun x4 =>
  (f_X9_stateIn D b o h x4).bind fun x6 =>
  if x6 = v2 then
  f_X9_stepsBetween_b28 D b o h v3
  else
  (f_X9_stepsBetween_b7 D b o n) h v2 ((v3 + (1 : Int32)))
theorem w_X9_stepsBetween_b7 {l : Launch} (hlt : l.stackTraces = false) {p : Program} {e : Env} {R : Room} {s : State} {m : MethodId} {args : Array Value} {below : List Frame} {meth : Method} {c : Code} {D : gx_D} {b : HX} {o : Nat} {h0 : MS} {r : Int32} {hz : MS} (C : gx_Ctx p R s m args meth c "ContractMachineModel" cX9_stepsBetween 4 (some .int) 8 181 D (mh b o h0) (mh b o hz)) (hx : meth.name = "stepsBetween")  : ∀ (n : Nat) ⦃h : MS⦄ ⦃v2 : Int32⦄ ⦃v3 : Int32⦄, f_X9_stepsBetween_b7 D b o n h v2 v3 = some (r, hz) → gx_G p l e R s m args below meth c D (mh b o h0) (mh b o hz) 4 (gx_MQ below args s D (mh b o h0) (mh b o hz) (some (.int r))) 7 [(0, (va_rf (some o))), (2, (.int v2)), (3, (.int v3))] [] (mh b o h) := by
  intro n
  induction n with
  | zero => intro h v2 v3 hf; unfold f_X9_stepsBetween_b7 at hf; cases hf
  | succ n wk7 =>
    intro h v2 v3 hf
    unfold f_X9_stepsBetween_b7 at hf
    refine gx_iload_n C dX9_stepsBetween_7 2 rfl ?_
    refine gx_aload_n C dX9_stepsBetween_8 0 rfl ?_
    refine gx_gi C (mh_gi (k := 11) rfl) gz_595 q2645 dX9_stepsBetween_9 ?_
    replace hf := gx_ite hf
    rcases hf with ⟨c3, hf⟩ | ⟨c3, hf⟩
    · refine gx_icmp_ge_t (tgt := 46) C dX9_stepsBetween_12 rfl c3 ?_
      refine gx_iconst (v := -1) C dX9_stepsBetween_46 rfl ?_
      obtain ⟨rfl, rfl⟩ := Prod.mk.inj (Option.some.inj hf)
      exact gx_iret C dX9_stepsBetween_47
    · refine gx_icmp_ge_f (tgt := 46) C dX9_stepsBetween_12 rfl c3 ?_
      refine gx_aload_n C dX9_stepsBetween_15 0 rfl ?_
      refine gx_gr C (mh_gr (k := 10) rfl) gz_502 q2644 dX9_stepsBetween_16 ?_
      refine gx_iload_n C dX9_stepsBetween_19 2 rfl ?_
      replace hf := gx_bs hf
      obtain ⟨x4, g12, hf⟩ := hf
      refine gx_iald C (mh_ai g12) dX9_stepsBetween_20 ?_
      replace hf := gx_bs hf
      obtain ⟨x6, g5, hf⟩ := hf
      refine gx_callS (st := []) C (w_X9_stateIn hlt g5) (lw_S q2887 q2888 q151 q2889) gz_532 (by decide) rfl rfl (gx_catn (Nat.le_of_ble_eq_true rfl)) dX9_stepsBetween_21 ?_
      refine gx_iload_n C dX9_stepsBetween_24 1 rfl ?_
      replace hf := gx_ite hf
      rcases hf with ⟨c7, hf⟩ | ⟨c7, hf⟩
      · refine gx_icmp_ne_f (tgt := 40) C dX9_stepsBetween_25 rfl c7 ?_
        refine gx_sub [0, 2] rfl ?_
        exact w_X9_stepsBetween_b28 hlt C hx hf
      · refine gx_icmp_ne_t (tgt := 40) C dX9_stepsBetween_25 rfl c7 ?_
        refine gx_inc (v := 1) C dX9_stepsBetween_40 2 rfl rfl (by decide) [0, 1] rfl (gx_okn rfl rfl (gx_okr rfl gx_catv_i gx_ok0)) ?_
        refine gx_goto (tgt := 7) C dX9_stepsBetween_43 rfl ?_
        refine gx_sub [1, 2, 0] rfl ?_
        exact wk7 hf
def f_X9_stepsBetween (D : gx_D) (b : HX) (o : Nat) (h : MS) (p1 : Int32) (p2 : Int32) : Option ((Int32) × MS) :=
  (f_X9_searches D b o h p1).bind fun h2 =>
  f_X9_stepsBetween_b7 D b o gx_fuel h2 p2 ((0 : Int32))
theorem w_X9_stepsBetween_b {l : Launch} (hlt : l.stackTraces = false) {p : Program} {e : Env} {R : Room} {s : State} {m : MethodId} {args : Array Value} {below : List Frame} {meth : Method} {c : Code} {D : gx_D} {b : HX} {o : Nat} {h0 : MS} {r : Int32} {hz : MS} (C : gx_Ctx p R s m args meth c "ContractMachineModel" cX9_stepsBetween 4 (some .int) 8 181 D (mh b o h0) (mh b o hz)) (hx : meth.name = "stepsBetween") {p1 : Int32} {p2 : Int32} (hf : f_X9_stepsBetween D b o h0 p1 p2 = some (r, hz)) : gx_G p l e R s m args below meth c D (mh b o h0) (mh b o hz) 4 (gx_MQ below args s D (mh b o h0) (mh b o hz) (some (.int r))) 0 [(0, (va_rf (some o))), (1, (.int p1)), (2, (.int p2))] [] (mh b o h0) := by
  unfold f_X9_stepsBetween at hf
  refine gx_aload_n C dX9_stepsBetween_0 0 rfl ?_
  refine gx_iload_n C dX9_stepsBetween_1 1 rfl ?_
  replace hf := gx_bs hf
  obtain ⟨h2, g1, hf⟩ := hf
  refine gx_callV (st := []) C (w_X9_searches hlt g1) mh_is gz_497 rfl (lw_V q3156 q3158 qs112 q151 q3159) gz_597 (by decide) rfl rfl (gx_catn (Nat.le_of_ble_eq_true rfl)) dX9_stepsBetween_2 ?_
  refine gx_iconst (v := 0) C dX9_stepsBetween_5 rfl ?_
  refine gx_istn C dX9_stepsBetween_6 3 rfl (by decide) [0, 2]  rfl (gx_okn rfl rfl (gx_okr rfl gx_catv_i gx_ok0)) ?_
  refine gx_sub [1, 2, 0] rfl ?_
  exact w_X9_stepsBetween_b7 hlt C hx gx_fuel hf
theorem w_X9_stepsBetween {l : Launch} (hlt : l.stackTraces = false) {D : gx_D} {b : HX} {o : Nat} {h : MS} {p1 : Int32} {p2 : Int32} {r : Int32} {hz : MS} (hf : f_X9_stepsBetween D b o h p1 p2 = some (r, hz)) : gx_Met l yX9_stepsBetween cX9_stepsBetween 4 (some .int) 8 181 D [(va_rf (some o)), (.int p1), (.int p2)] (mh b o h) (some (.int r)) (mh b o hz) :=
  gx_ofG gz_495 (by simp only [gx_lsr, gx_lsi, gx_lsj, gx_ls0]; decide) mh_le (fun p e R s m args below meth c C hx => by
    simp only [gx_lar, gx_lai, gx_laj, gx_la0, Nat.reduceAdd]
    exact w_X9_stepsBetween_b hlt C hx hf)
def f_X9_isReachable (D : gx_D) (b : HX) (o : Nat) (h : MS) (p1 : Int32) : Option ((Bool) × MS) :=
  (ms_pf h 6 (0 : Int32)).bind fun h1 =>
  gx_b2 (f_X9_no D b o h1 p1 (0 : Int32)) fun b3 h4 =>
  if b3 = true then
  some (false, h4)
  else
  (f_X9_here D b o h4).bind fun x7 =>
  gx_b2 (f_X9_stepsBetween D b o h4 x7 p1) fun x9 h10 =>
  if x9 = (-1 : Int32) then
  some (false, h10)
  else
  some (true, h10)
theorem w_X9_isReachable_b {l : Launch} (hlt : l.stackTraces = false) {p : Program} {e : Env} {R : Room} {s : State} {m : MethodId} {args : Array Value} {below : List Frame} {meth : Method} {c : Code} {D : gx_D} {b : HX} {o : Nat} {h0 : MS} {r : Bool} {hz : MS} (C : gx_Ctx p R s m args meth c "ContractMachineModel" cX9_isReachable 2 (some .boolean) 9 204 D (mh b o h0) (mh b o hz)) (hx : meth.name = "isReachable") {p1 : Int32} (hf : f_X9_isReachable D b o h0 p1 = some (r, hz)) : gx_G p l e R s m args below meth c D (mh b o h0) (mh b o hz) 2 (gx_MQ below args s D (mh b o h0) (mh b o hz) (some (.int (b2i r)))) 0 [(0, (va_rf (some o))), (1, (.int p1))] [] (mh b o h0) := by
  unfold f_X9_isReachable at hf
  refine gx_aload_n C dX9_isReachable_0 0 rfl ?_
  refine gx_iconst (v := 0) C dX9_isReachable_1 rfl ?_
  replace hf := gx_bs hf
  obtain ⟨h1, g12, hf⟩ := hf
  refine gx_putv C (mh_pg (by decide) (fun _ _ => mh_p6) g12) gz_519 gz_1 rfl rfl q2640 dX9_isReachable_2 ?_
  refine gx_aload_n C dX9_isReachable_5 0 rfl ?_
  refine gx_iload_n C dX9_isReachable_6 1 rfl ?_
  refine gx_iconst (v := 0) C dX9_isReachable_7 rfl ?_
  replace hf := gx_b2s hf
  obtain ⟨b3, h4, g2, hf⟩ := hf
  refine gx_callV (st := []) C (w_X9_no hlt g2) mh_is gz_497 rfl (lw_V q3033 q3035 qs107 q151 q3036) gz_590 (by decide) rfl rfl (gx_catn (Nat.le_of_ble_eq_true rfl)) dX9_isReachable_8 ?_
  replace hf := gx_ite hf
  rcases hf with ⟨c5, hf⟩ | ⟨c5, hf⟩
  · refine gx_ifz_ne_t (tgt := 31) C dX9_isReachable_11 rfl c5 ?_
    refine gx_iconst (v := 0) C dX9_isReachable_31 rfl ?_
    obtain ⟨rfl, rfl⟩ := Prod.mk.inj (Option.some.inj hf)
    exact gx_zret (b := false) C dX9_isReachable_32
  · refine gx_ifz_ne_f (tgt := 31) C dX9_isReachable_11 rfl c5 ?_
    refine gx_aload_n C dX9_isReachable_14 0 rfl ?_
    refine gx_aload_n C dX9_isReachable_15 0 rfl ?_
    replace hf := gx_bs hf
    obtain ⟨x7, g6, hf⟩ := hf
    refine gx_callV (st := [(va_rf (some o))]) C (w_X9_here hlt g6) mh_is gz_497 rfl (lw_V q2938 q2940 qs96 q151 q2941) gz_576 (by decide) rfl rfl (gx_catn (Nat.le_of_ble_eq_true rfl)) dX9_isReachable_16 ?_
    refine gx_iload_n C dX9_isReachable_19 1 rfl ?_
    replace hf := gx_b2s hf
    obtain ⟨x9, h10, g8, hf⟩ := hf
    refine gx_callV (st := []) C (w_X9_stepsBetween hlt g8) mh_is gz_497 rfl (lw_V q3168 q3170 qs114 q151 q3171) gz_598 (by decide) rfl rfl (gx_catn (Nat.le_of_ble_eq_true rfl)) dX9_isReachable_20 ?_
    refine gx_iconst (v := -1) C dX9_isReachable_23 rfl ?_
    replace hf := gx_ite hf
    rcases hf with ⟨c11, hf⟩ | ⟨c11, hf⟩
    · refine gx_icmp_eq_t (tgt := 31) C dX9_isReachable_24 rfl c11 ?_
      refine gx_iconst (v := 0) C dX9_isReachable_31 rfl ?_
      obtain ⟨rfl, rfl⟩ := Prod.mk.inj (Option.some.inj hf)
      exact gx_zret (b := false) C dX9_isReachable_32
    · refine gx_icmp_eq_f (tgt := 31) C dX9_isReachable_24 rfl c11 ?_
      refine gx_iconst (v := 1) C dX9_isReachable_27 rfl ?_
      refine gx_goto (tgt := 32) C dX9_isReachable_28 rfl ?_
      obtain ⟨rfl, rfl⟩ := Prod.mk.inj (Option.some.inj hf)
      exact gx_zret (b := true) C dX9_isReachable_32
theorem w_X9_isReachable {l : Launch} (hlt : l.stackTraces = false) {D : gx_D} {b : HX} {o : Nat} {h : MS} {p1 : Int32} {r : Bool} {hz : MS} (hf : f_X9_isReachable D b o h p1 = some (r, hz)) : gx_Met l yX9_isReachable cX9_isReachable 2 (some .boolean) 9 204 D [(va_rf (some o)), (.int p1)] (mh b o h) (some (.int (b2i r))) (mh b o hz) :=
  gx_ofG gz_495 (by simp only [gx_lsr, gx_lsi, gx_lsj, gx_ls0]; decide) mh_le (fun p e R s m args below meth c C hx => by
    simp only [gx_lar, gx_lai, gx_laj, gx_la0, Nat.reduceAdd]
    exact w_X9_isReachable_b hlt C hx hf)
def f_X9_canBeTaken_b63 (D : gx_D) (b : HX) (o : Nat) (k26 : MS → Int32 → Int32 → Option ((Bool) × MS)) (h : MS) (v1 : Int32) (v2 : Int32) : Option ((Bool) × MS) :=
  k26 h v1 ((v2 + (1 : Int32)))
theorem w_X9_canBeTaken_b63 {l : Launch} (hlt : l.stackTraces = false) {p : Program} {e : Env} {R : Room} {s : State} {m : MethodId} {args : Array Value} {below : List Frame} {meth : Method} {c : Code} {D : gx_D} {b : HX} {o : Nat} {h0 : MS} {r : Bool} {hz : MS} (C : gx_Ctx p R s m args meth c "ContractMachineModel" cX9_canBeTaken 3 (some .boolean) 8 181 D (mh b o h0) (mh b o hz)) (hx : meth.name = "canBeTaken")  {k26 : MS → Int32 → Int32 → Option ((Bool) × MS)} (wk26 : ∀ ⦃h : MS⦄ ⦃v1 : Int32⦄ ⦃v2 : Int32⦄, k26 h v1 v2 = some (r, hz) → gx_G p l e R s m args below meth c D (mh b o h0) (mh b o hz) 3 (gx_MQ below args s D (mh b o h0) (mh b o hz) (some (.int (b2i r)))) 26 [(0, (va_rf (some o))), (1, (.int v1)), (2, (.int v2))] [] (mh b o h)) {h : MS} {v1 : Int32} {v2 : Int32} (hf : f_X9_canBeTaken_b63 D b o k26 h v1 v2 = some (r, hz)) : gx_G p l e R s m args below meth c D (mh b o h0) (mh b o hz) 3 (gx_MQ below args s D (mh b o h0) (mh b o hz) (some (.int (b2i r)))) 63 [(0, (va_rf (some o))), (1, (.int v1)), (2, (.int v2))] [] (mh b o h) := by
  unfold f_X9_canBeTaken_b63 at hf
  refine gx_inc (v := 1) C dX9_canBeTaken_63 2 rfl rfl (by decide) [0, 1] rfl (gx_okn rfl rfl (gx_okr rfl gx_catv_i gx_ok0)) ?_
  refine gx_goto (tgt := 26) C dX9_canBeTaken_66 rfl ?_
  refine gx_sub [1, 2, 0] rfl ?_
  exact wk26 hf
def f_X9_canBeTaken_b26 (D : gx_D) (b : HX) (o : Nat) : Nat → MS → Int32 → Int32 → Option ((Bool) × MS)
  | 0, _, _, _ => none
  | n + 1, h, v1, v2 =>
  if (h.1 11) ≤ v2 then
  some (false, h)
  else
  (ms_ai h 5 v2).bind fun x11 =>
  (f_X9_of D b o h v1 (1 : Int32)).bind fun x13 =>
  gx_b2 (f_X9_verdict D b o h x11 x13) fun x15 h16 =>
  if x15 = 0 then
  if (h16.1 7) = v1 then
  some (true, h16)
  else
  f_X9_canBeTaken_b63 D b o (f_X9_canBeTaken_b26 D b o n) h16 v1 v2
  else
  f_X9_canBeTaken_b63 D b o (f_X9_canBeTaken_b26 D b o n) h16 v1 v2
theorem w_X9_canBeTaken_b26 {l : Launch} (hlt : l.stackTraces = false) {p : Program} {e : Env} {R : Room} {s : State} {m : MethodId} {args : Array Value} {below : List Frame} {meth : Method} {c : Code} {D : gx_D} {b : HX} {o : Nat} {h0 : MS} {r : Bool} {hz : MS} (C : gx_Ctx p R s m args meth c "ContractMachineModel" cX9_canBeTaken 3 (some .boolean) 8 181 D (mh b o h0) (mh b o hz)) (hx : meth.name = "canBeTaken")  : ∀ (n : Nat) ⦃h : MS⦄ ⦃v1 : Int32⦄ ⦃v2 : Int32⦄, f_X9_canBeTaken_b26 D b o n h v1 v2 = some (r, hz) → gx_G p l e R s m args below meth c D (mh b o h0) (mh b o hz) 3 (gx_MQ below args s D (mh b o h0) (mh b o hz) (some (.int (b2i r)))) 26 [(0, (va_rf (some o))), (1, (.int v1)), (2, (.int v2))] [] (mh b o h) := by
  intro n
  induction n with
  | zero => intro h v1 v2 hf; unfold f_X9_canBeTaken_b26 at hf; cases hf
  | succ n wk26 =>
    intro h v1 v2 hf
    unfold f_X9_canBeTaken_b26 at hf
    refine gx_iload_n C dX9_canBeTaken_26 2 rfl ?_
    refine gx_aload_n C dX9_canBeTaken_27 0 rfl ?_
    refine gx_gi C (mh_gi (k := 11) rfl) gz_595 q2645 dX9_canBeTaken_28 ?_
    replace hf := gx_ite hf
    rcases hf with ⟨c10, hf⟩ | ⟨c10, hf⟩
    · refine gx_icmp_ge_t (tgt := 69) C dX9_canBeTaken_31 rfl c10 ?_
      refine gx_iconst (v := 0) C dX9_canBeTaken_69 rfl ?_
      obtain ⟨rfl, rfl⟩ := Prod.mk.inj (Option.some.inj hf)
      exact gx_zret (b := false) C dX9_canBeTaken_70
    · refine gx_icmp_ge_f (tgt := 69) C dX9_canBeTaken_31 rfl c10 ?_
      refine gx_aload_n C dX9_canBeTaken_34 0 rfl ?_
      refine gx_aload_n C dX9_canBeTaken_35 0 rfl ?_
      refine gx_gr C (mh_gr (k := 10) rfl) gz_502 q2644 dX9_canBeTaken_36 ?_
      refine gx_iload_n C dX9_canBeTaken_39 2 rfl ?_
      replace hf := gx_bs hf
      obtain ⟨x11, g19, hf⟩ := hf
      refine gx_iald C (mh_ai g19) dX9_canBeTaken_40 ?_
      refine gx_aload_n C dX9_canBeTaken_41 0 rfl ?_
      refine gx_iload_n C dX9_canBeTaken_42 1 rfl ?_
      refine gx_iconst (v := 1) C dX9_canBeTaken_43 rfl ?_
      replace hf := gx_bs hf
      obtain ⟨x13, g12, hf⟩ := hf
      refine gx_callV (st := [(.int x11), (va_rf (some o))]) C (w_X9_of hlt g12) mh_is gz_497 rfl (lw_V q2950 q2952 qs99 q151 q2953) gz_569 (by decide) rfl rfl (gx_catn (Nat.le_of_ble_eq_true rfl)) dX9_canBeTaken_44 ?_
      replace hf := gx_b2s hf
      obtain ⟨x15, h16, g14, hf⟩ := hf
      refine gx_callV (st := []) C (w_X9_verdict hlt g14) mh_is gz_497 rfl (lw_V q2942 q2944 qs97 q151 q2945) gz_577 (by decide) rfl rfl (gx_catn (Nat.le_of_ble_eq_true rfl)) dX9_canBeTaken_47 ?_
      replace hf := gx_ite hf
      rcases hf with ⟨c17, hf⟩ | ⟨c17, hf⟩
      · refine gx_if_ne_f (tgt := 63) C dX9_canBeTaken_50 rfl c17 ?_
        refine gx_aload_n C dX9_canBeTaken_53 0 rfl ?_
        refine gx_gi C (mh_gi (k := 7) rfl) gz_570 q2641 dX9_canBeTaken_54 ?_
        refine gx_iload_n C dX9_canBeTaken_57 1 rfl ?_
        replace hf := gx_ite hf
        rcases hf with ⟨c18, hf⟩ | ⟨c18, hf⟩
        · refine gx_icmp_ne_f (tgt := 63) C dX9_canBeTaken_58 rfl c18 ?_
          refine gx_iconst (v := 1) C dX9_canBeTaken_61 rfl ?_
          obtain ⟨rfl, rfl⟩ := Prod.mk.inj (Option.some.inj hf)
          exact gx_zret (b := true) C dX9_canBeTaken_62
        · refine gx_icmp_ne_t (tgt := 63) C dX9_canBeTaken_58 rfl c18 ?_
          refine gx_sub [0, 1, 2] rfl ?_
          exact w_X9_canBeTaken_b63 hlt C hx wk26 hf
      · refine gx_if_ne_t (tgt := 63) C dX9_canBeTaken_50 rfl c17 ?_
        refine gx_sub [0, 1, 2] rfl ?_
        exact w_X9_canBeTaken_b63 hlt C hx wk26 hf
def f_X9_canBeTaken (D : gx_D) (b : HX) (o : Nat) (h : MS) (p1 : Int32) : Option ((Bool) × MS) :=
  (ms_pf h 6 (0 : Int32)).bind fun h1 =>
  gx_b2 (f_X9_no D b o h1 p1 (3 : Int32)) fun b3 h4 =>
  if b3 = true then
  some (false, h4)
  else
  (f_X9_here D b o h4).bind fun x7 =>
  (f_X9_searches D b o h4 x7).bind fun h9 =>
  f_X9_canBeTaken_b26 D b o gx_fuel h9 p1 ((0 : Int32))
theorem w_X9_canBeTaken_b {l : Launch} (hlt : l.stackTraces = false) {p : Program} {e : Env} {R : Room} {s : State} {m : MethodId} {args : Array Value} {below : List Frame} {meth : Method} {c : Code} {D : gx_D} {b : HX} {o : Nat} {h0 : MS} {r : Bool} {hz : MS} (C : gx_Ctx p R s m args meth c "ContractMachineModel" cX9_canBeTaken 3 (some .boolean) 8 181 D (mh b o h0) (mh b o hz)) (hx : meth.name = "canBeTaken") {p1 : Int32} (hf : f_X9_canBeTaken D b o h0 p1 = some (r, hz)) : gx_G p l e R s m args below meth c D (mh b o h0) (mh b o hz) 3 (gx_MQ below args s D (mh b o h0) (mh b o hz) (some (.int (b2i r)))) 0 [(0, (va_rf (some o))), (1, (.int p1))] [] (mh b o h0) := by
  unfold f_X9_canBeTaken at hf
  refine gx_aload_n C dX9_canBeTaken_0 0 rfl ?_
  refine gx_iconst (v := 0) C dX9_canBeTaken_1 rfl ?_
  replace hf := gx_bs hf
  obtain ⟨h1, g20, hf⟩ := hf
  refine gx_putv C (mh_pg (by decide) (fun _ _ => mh_p6) g20) gz_519 gz_1 rfl rfl q2640 dX9_canBeTaken_2 ?_
  refine gx_aload_n C dX9_canBeTaken_5 0 rfl ?_
  refine gx_iload_n C dX9_canBeTaken_6 1 rfl ?_
  refine gx_iconst (v := 3) C dX9_canBeTaken_7 rfl ?_
  replace hf := gx_b2s hf
  obtain ⟨b3, h4, g2, hf⟩ := hf
  refine gx_callV (st := []) C (w_X9_no hlt g2) mh_is gz_497 rfl (lw_V q3033 q3035 qs107 q151 q3036) gz_590 (by decide) rfl rfl (gx_catn (Nat.le_of_ble_eq_true rfl)) dX9_canBeTaken_8 ?_
  replace hf := gx_ite hf
  rcases hf with ⟨c5, hf⟩ | ⟨c5, hf⟩
  · refine gx_ifz_eq_f (tgt := 16) C dX9_canBeTaken_11 rfl c5 ?_
    refine gx_iconst (v := 0) C dX9_canBeTaken_14 rfl ?_
    obtain ⟨rfl, rfl⟩ := Prod.mk.inj (Option.some.inj hf)
    exact gx_zret (b := false) C dX9_canBeTaken_15
  · refine gx_ifz_eq_t (tgt := 16) C dX9_canBeTaken_11 rfl c5 ?_
    refine gx_aload_n C dX9_canBeTaken_16 0 rfl ?_
    refine gx_aload_n C dX9_canBeTaken_17 0 rfl ?_
    replace hf := gx_bs hf
    obtain ⟨x7, g6, hf⟩ := hf
    refine gx_callV (st := [(va_rf (some o))]) C (w_X9_here hlt g6) mh_is gz_497 rfl (lw_V q2938 q2940 qs96 q151 q2941) gz_576 (by decide) rfl rfl (gx_catn (Nat.le_of_ble_eq_true rfl)) dX9_canBeTaken_18 ?_
    replace hf := gx_bs hf
    obtain ⟨h9, g8, hf⟩ := hf
    refine gx_callV (st := []) C (w_X9_searches hlt g8) mh_is gz_497 rfl (lw_V q3156 q3158 qs112 q151 q3159) gz_597 (by decide) rfl rfl (gx_catn (Nat.le_of_ble_eq_true rfl)) dX9_canBeTaken_21 ?_
    refine gx_iconst (v := 0) C dX9_canBeTaken_24 rfl ?_
    refine gx_istn C dX9_canBeTaken_25 2 rfl (by decide) [0, 1]  rfl (gx_okn rfl rfl (gx_okr rfl gx_catv_i gx_ok0)) ?_
    refine gx_sub [1, 2, 0] rfl ?_
    exact w_X9_canBeTaken_b26 hlt C hx gx_fuel hf
theorem w_X9_canBeTaken {l : Launch} (hlt : l.stackTraces = false) {D : gx_D} {b : HX} {o : Nat} {h : MS} {p1 : Int32} {r : Bool} {hz : MS} (hf : f_X9_canBeTaken D b o h p1 = some (r, hz)) : gx_Met l yX9_canBeTaken cX9_canBeTaken 3 (some .boolean) 8 181 D [(va_rf (some o)), (.int p1)] (mh b o h) (some (.int (b2i r))) (mh b o hz) :=
  gx_ofG gz_495 (by simp only [gx_lsr, gx_lsi, gx_lsj, gx_ls0]; decide) mh_le (fun p e R s m args below meth c C hx => by
    simp only [gx_lar, gx_lai, gx_laj, gx_la0, Nat.reduceAdd]
    exact w_X9_canBeTaken_b hlt C hx hf)
def f_X9_stepsTo (D : gx_D) (b : HX) (o : Nat) (h : MS) (p1 : Int32) : Option ((Int32) × MS) :=
  (ms_pf h 6 (0 : Int32)).bind fun h1 =>
  gx_b2 (f_X9_no D b o h1 p1 (0 : Int32)) fun b3 h4 =>
  if b3 = true then
  some ((0 : Int32), h4)
  else
  (f_X9_here D b o h4).bind fun x7 =>
  gx_b2 (f_X9_stepsBetween D b o h4 x7 p1) fun x9 h10 =>
  some (x9, h10)
theorem w_X9_stepsTo_b {l : Launch} (hlt : l.stackTraces = false) {p : Program} {e : Env} {R : Room} {s : State} {m : MethodId} {args : Array Value} {below : List Frame} {meth : Method} {c : Code} {D : gx_D} {b : HX} {o : Nat} {h0 : MS} {r : Int32} {hz : MS} (C : gx_Ctx p R s m args meth c "ContractMachineModel" cX9_stepsTo 2 (some .int) 9 204 D (mh b o h0) (mh b o hz)) (hx : meth.name = "stepsTo") {p1 : Int32} (hf : f_X9_stepsTo D b o h0 p1 = some (r, hz)) : gx_G p l e R s m args below meth c D (mh b o h0) (mh b o hz) 2 (gx_MQ below args s D (mh b o h0) (mh b o hz) (some (.int r))) 0 [(0, (va_rf (some o))), (1, (.int p1))] [] (mh b o h0) := by
  unfold f_X9_stepsTo at hf
  refine gx_aload_n C dX9_stepsTo_0 0 rfl ?_
  refine gx_iconst (v := 0) C dX9_stepsTo_1 rfl ?_
  replace hf := gx_bs hf
  obtain ⟨h1, g11, hf⟩ := hf
  refine gx_putv C (mh_pg (by decide) (fun _ _ => mh_p6) g11) gz_519 gz_1 rfl rfl q2640 dX9_stepsTo_2 ?_
  refine gx_aload_n C dX9_stepsTo_5 0 rfl ?_
  refine gx_iload_n C dX9_stepsTo_6 1 rfl ?_
  refine gx_iconst (v := 0) C dX9_stepsTo_7 rfl ?_
  replace hf := gx_b2s hf
  obtain ⟨b3, h4, g2, hf⟩ := hf
  refine gx_callV (st := []) C (w_X9_no hlt g2) mh_is gz_497 rfl (lw_V q3033 q3035 qs107 q151 q3036) gz_590 (by decide) rfl rfl (gx_catn (Nat.le_of_ble_eq_true rfl)) dX9_stepsTo_8 ?_
  replace hf := gx_ite hf
  rcases hf with ⟨c5, hf⟩ | ⟨c5, hf⟩
  · refine gx_ifz_eq_f (tgt := 18) C dX9_stepsTo_11 rfl c5 ?_
    refine gx_iconst (v := 0) C dX9_stepsTo_14 rfl ?_
    refine gx_goto (tgt := 27) C dX9_stepsTo_15 rfl ?_
    obtain ⟨rfl, rfl⟩ := Prod.mk.inj (Option.some.inj hf)
    exact gx_iret C dX9_stepsTo_27
  · refine gx_ifz_eq_t (tgt := 18) C dX9_stepsTo_11 rfl c5 ?_
    refine gx_aload_n C dX9_stepsTo_18 0 rfl ?_
    refine gx_aload_n C dX9_stepsTo_19 0 rfl ?_
    replace hf := gx_bs hf
    obtain ⟨x7, g6, hf⟩ := hf
    refine gx_callV (st := [(va_rf (some o))]) C (w_X9_here hlt g6) mh_is gz_497 rfl (lw_V q2938 q2940 qs96 q151 q2941) gz_576 (by decide) rfl rfl (gx_catn (Nat.le_of_ble_eq_true rfl)) dX9_stepsTo_20 ?_
    refine gx_iload_n C dX9_stepsTo_23 1 rfl ?_
    replace hf := gx_b2s hf
    obtain ⟨x9, h10, g8, hf⟩ := hf
    refine gx_callV (st := []) C (w_X9_stepsBetween hlt g8) mh_is gz_497 rfl (lw_V q3168 q3170 qs114 q151 q3171) gz_598 (by decide) rfl rfl (gx_catn (Nat.le_of_ble_eq_true rfl)) dX9_stepsTo_24 ?_
    obtain ⟨rfl, rfl⟩ := Prod.mk.inj (Option.some.inj hf)
    exact gx_iret C dX9_stepsTo_27
theorem w_X9_stepsTo {l : Launch} (hlt : l.stackTraces = false) {D : gx_D} {b : HX} {o : Nat} {h : MS} {p1 : Int32} {r : Int32} {hz : MS} (hf : f_X9_stepsTo D b o h p1 = some (r, hz)) : gx_Met l yX9_stepsTo cX9_stepsTo 2 (some .int) 9 204 D [(va_rf (some o)), (.int p1)] (mh b o h) (some (.int r)) (mh b o hz) :=
  gx_ofG gz_495 (by simp only [gx_lsr, gx_lsi, gx_lsj, gx_ls0]; decide) mh_le (fun p e R s m args below meth c C hx => by
    simp only [gx_lar, gx_lai, gx_laj, gx_la0, Nat.reduceAdd]
    exact w_X9_stepsTo_b hlt C hx hf)
def f_X9_firstEventTo_b76 (D : gx_D) (b : HX) (o : Nat) (k34 : MS → Int32 → Int32 → Int32 → Option ((Int32) × MS)) (h : MS) (v1 : Int32) (v2 : Int32) (v3 : Int32) : Option ((Int32) × MS) :=
  k34 h v1 v2 ((v3 + (1 : Int32)))
theorem w_X9_firstEventTo_b76 {l : Launch} (hlt : l.stackTraces = false) {p : Program} {e : Env} {R : Room} {s : State} {m : MethodId} {args : Array Value} {below : List Frame} {meth : Method} {c : Code} {D : gx_D} {b : HX} {o : Nat} {h0 : MS} {r : Int32} {hz : MS} (C : gx_Ctx p R s m args meth c "ContractMachineModel" cX9_firstEventTo 4 (some .int) 9 204 D (mh b o h0) (mh b o hz)) (hx : meth.name = "firstEventTo")  {k34 : MS → Int32 → Int32 → Int32 → Option ((Int32) × MS)} (wk34 : ∀ ⦃h : MS⦄ ⦃v1 : Int32⦄ ⦃v2 : Int32⦄ ⦃v3 : Int32⦄, k34 h v1 v2 v3 = some (r, hz) → gx_G p l e R s m args below meth c D (mh b o h0) (mh b o hz) 4 (gx_MQ below args s D (mh b o h0) (mh b o hz) (some (.int r))) 34 [(0, (va_rf (some o))), (1, (.int v1)), (2, (.int v2)), (3, (.int v3))] [] (mh b o h)) {h : MS} {v1 : Int32} {v2 : Int32} {v3 : Int32} (hf : f_X9_firstEventTo_b76 D b o k34 h v1 v2 v3 = some (r, hz)) : gx_G p l e R s m args below meth c D (mh b o h0) (mh b o hz) 4 (gx_MQ below args s D (mh b o h0) (mh b o hz) (some (.int r))) 76 [(0, (va_rf (some o))), (1, (.int v1)), (2, (.int v2)), (3, (.int v3))] [] (mh b o h) := by
  unfold f_X9_firstEventTo_b76 at hf
  refine gx_inc (v := 1) C dX9_firstEventTo_76 3 rfl rfl (by decide) [0, 1, 2] rfl (gx_okn rfl rfl (gx_okn rfl rfl (gx_okr rfl gx_catv_i gx_ok0))) ?_
  refine gx_goto (tgt := 34) C dX9_firstEventTo_79 rfl ?_
  refine gx_sub [1, 2, 3, 0] rfl ?_
  exact wk34 hf
def f_X9_firstEventTo_b34 (D : gx_D) (b : HX) (o : Nat) : Nat → MS → Int32 → Int32 → Int32 → Option ((Int32) × MS)
  | 0, _, _, _, _ => none
  | n + 1, h, v1, v2, v3 =>
  (ms_ai h 0 (1 : Int32)).bind fun x12 =>
  if x12 ≤ v3 then
  some ((-1 : Int32), h)
  else
  (f_X9_here D b o h).bind fun x15 =>
  gx_b2 (f_X9_verdict D b o h x15 v3) fun x17 h18 =>
  if x17 = 0 then
  gx_b2 (f_X9_stepsBetween D b o h18 (h18.1 8) v1) fun x21 h22 =>
  if x21 = (v2 - (1 : Int32)) then
  some (v3, h22)
  else
  f_X9_firstEventTo_b76 D b o (f_X9_firstEventTo_b34 D b o n) h22 v1 v2 v3
  else
  f_X9_firstEventTo_b76 D b o (f_X9_firstEventTo_b34 D b o n) h18 v1 v2 v3
theorem w_X9_firstEventTo_b34 {l : Launch} (hlt : l.stackTraces = false) {p : Program} {e : Env} {R : Room} {s : State} {m : MethodId} {args : Array Value} {below : List Frame} {meth : Method} {c : Code} {D : gx_D} {b : HX} {o : Nat} {h0 : MS} {r : Int32} {hz : MS} (C : gx_Ctx p R s m args meth c "ContractMachineModel" cX9_firstEventTo 4 (some .int) 9 204 D (mh b o h0) (mh b o hz)) (hx : meth.name = "firstEventTo")  : ∀ (n : Nat) ⦃h : MS⦄ ⦃v1 : Int32⦄ ⦃v2 : Int32⦄ ⦃v3 : Int32⦄, f_X9_firstEventTo_b34 D b o n h v1 v2 v3 = some (r, hz) → gx_G p l e R s m args below meth c D (mh b o h0) (mh b o hz) 4 (gx_MQ below args s D (mh b o h0) (mh b o hz) (some (.int r))) 34 [(0, (va_rf (some o))), (1, (.int v1)), (2, (.int v2)), (3, (.int v3))] [] (mh b o h) := by
  intro n
  induction n with
  | zero => intro h v1 v2 v3 hf; unfold f_X9_firstEventTo_b34 at hf; cases hf
  | succ n wk34 =>
    intro h v1 v2 v3 hf
    unfold f_X9_firstEventTo_b34 at hf
    refine gx_iload_n C dX9_firstEventTo_34 3 rfl ?_
    refine gx_aload_n C dX9_firstEventTo_35 0 rfl ?_
    refine gx_gr C (mh_gr (k := 0) rfl) gz_494 q2634 dX9_firstEventTo_36 ?_
    refine gx_iconst (v := 1) C dX9_firstEventTo_39 rfl ?_
    replace hf := gx_bs hf
    obtain ⟨x12, g24, hf⟩ := hf
    refine gx_iald C (mh_ai g24) dX9_firstEventTo_40 ?_
    replace hf := gx_ite hf
    rcases hf with ⟨c13, hf⟩ | ⟨c13, hf⟩
    · refine gx_icmp_ge_t (tgt := 82) C dX9_firstEventTo_41 rfl c13 ?_
      refine gx_iconst (v := -1) C dX9_firstEventTo_82 rfl ?_
      obtain ⟨rfl, rfl⟩ := Prod.mk.inj (Option.some.inj hf)
      exact gx_iret C dX9_firstEventTo_83
    · refine gx_icmp_ge_f (tgt := 82) C dX9_firstEventTo_41 rfl c13 ?_
      refine gx_aload_n C dX9_firstEventTo_44 0 rfl ?_
      refine gx_aload_n C dX9_firstEventTo_45 0 rfl ?_
      replace hf := gx_bs hf
      obtain ⟨x15, g14, hf⟩ := hf
      refine gx_callV (st := [(va_rf (some o))]) C (w_X9_here hlt g14) mh_is gz_497 rfl (lw_V q2938 q2940 qs96 q151 q2941) gz_576 (by decide) rfl rfl (gx_catn (Nat.le_of_ble_eq_true rfl)) dX9_firstEventTo_46 ?_
      refine gx_iload_n C dX9_firstEventTo_49 3 rfl ?_
      replace hf := gx_b2s hf
      obtain ⟨x17, h18, g16, hf⟩ := hf
      refine gx_callV (st := []) C (w_X9_verdict hlt g16) mh_is gz_497 rfl (lw_V q2942 q2944 qs97 q151 q2945) gz_577 (by decide) rfl rfl (gx_catn (Nat.le_of_ble_eq_true rfl)) dX9_firstEventTo_50 ?_
      replace hf := gx_ite hf
      rcases hf with ⟨c19, hf⟩ | ⟨c19, hf⟩
      · refine gx_if_eq_t (tgt := 59) C dX9_firstEventTo_53 rfl c19 ?_
        refine gx_aload_n C dX9_firstEventTo_59 0 rfl ?_
        refine gx_aload_n C dX9_firstEventTo_60 0 rfl ?_
        refine gx_gi C (mh_gi (k := 8) rfl) gz_572 q2642 dX9_firstEventTo_61 ?_
        refine gx_iload_n C dX9_firstEventTo_64 1 rfl ?_
        replace hf := gx_b2s hf
        obtain ⟨x21, h22, g20, hf⟩ := hf
        refine gx_callV (st := []) C (w_X9_stepsBetween hlt g20) mh_is gz_497 rfl (lw_V q3168 q3170 qs114 q151 q3171) gz_598 (by decide) rfl rfl (gx_catn (Nat.le_of_ble_eq_true rfl)) dX9_firstEventTo_65 ?_
        refine gx_iload_n C dX9_firstEventTo_68 2 rfl ?_
        refine gx_iconst (v := 1) C dX9_firstEventTo_69 rfl ?_
        refine gx_isub C dX9_firstEventTo_70 ?_
        replace hf := gx_ite hf
        rcases hf with ⟨c23, hf⟩ | ⟨c23, hf⟩
        · refine gx_icmp_ne_f (tgt := 76) C dX9_firstEventTo_71 rfl c23 ?_
          refine gx_iload_n C dX9_firstEventTo_74 3 rfl ?_
          obtain ⟨rfl, rfl⟩ := Prod.mk.inj (Option.some.inj hf)
          exact gx_iret C dX9_firstEventTo_75
        · refine gx_icmp_ne_t (tgt := 76) C dX9_firstEventTo_71 rfl c23 ?_
          refine gx_sub [0, 1, 2, 3] rfl ?_
          exact w_X9_firstEventTo_b76 hlt C hx wk34 hf
      · refine gx_if_eq_f (tgt := 59) C dX9_firstEventTo_53 rfl c19 ?_
        refine gx_goto (tgt := 76) C dX9_firstEventTo_56 rfl ?_
        refine gx_sub [0, 1, 2, 3] rfl ?_
        exact w_X9_firstEventTo_b76 hlt C hx wk34 hf
def f_X9_firstEventTo (D : gx_D) (b : HX) (o : Nat) (h : MS) (p1 : Int32) : Option ((Int32) × MS) :=
  (ms_pf h 6 (0 : Int32)).bind fun h1 =>
  gx_b2 (f_X9_no D b o h1 p1 (0 : Int32)) fun b3 h4 =>
  if b3 = true then
  some ((0 : Int32), h4)
  else
  (f_X9_here D b o h4).bind fun x7 =>
  gx_b2 (f_X9_stepsBetween D b o h4 x7 p1) fun x9 h10 =>
  if 0 < x9 then
  f_X9_firstEventTo_b34 D b o gx_fuel h10 p1 x9 ((0 : Int32))
  else
  some ((-1 : Int32), h10)
theorem w_X9_firstEventTo_b {l : Launch} (hlt : l.stackTraces = false) {p : Program} {e : Env} {R : Room} {s : State} {m : MethodId} {args : Array Value} {below : List Frame} {meth : Method} {c : Code} {D : gx_D} {b : HX} {o : Nat} {h0 : MS} {r : Int32} {hz : MS} (C : gx_Ctx p R s m args meth c "ContractMachineModel" cX9_firstEventTo 4 (some .int) 9 204 D (mh b o h0) (mh b o hz)) (hx : meth.name = "firstEventTo") {p1 : Int32} (hf : f_X9_firstEventTo D b o h0 p1 = some (r, hz)) : gx_G p l e R s m args below meth c D (mh b o h0) (mh b o hz) 4 (gx_MQ below args s D (mh b o h0) (mh b o hz) (some (.int r))) 0 [(0, (va_rf (some o))), (1, (.int p1))] [] (mh b o h0) := by
  unfold f_X9_firstEventTo at hf
  refine gx_aload_n C dX9_firstEventTo_0 0 rfl ?_
  refine gx_iconst (v := 0) C dX9_firstEventTo_1 rfl ?_
  replace hf := gx_bs hf
  obtain ⟨h1, g25, hf⟩ := hf
  refine gx_putv C (mh_pg (by decide) (fun _ _ => mh_p6) g25) gz_519 gz_1 rfl rfl q2640 dX9_firstEventTo_2 ?_
  refine gx_aload_n C dX9_firstEventTo_5 0 rfl ?_
  refine gx_iload_n C dX9_firstEventTo_6 1 rfl ?_
  refine gx_iconst (v := 0) C dX9_firstEventTo_7 rfl ?_
  replace hf := gx_b2s hf
  obtain ⟨b3, h4, g2, hf⟩ := hf
  refine gx_callV (st := []) C (w_X9_no hlt g2) mh_is gz_497 rfl (lw_V q3033 q3035 qs107 q151 q3036) gz_590 (by decide) rfl rfl (gx_catn (Nat.le_of_ble_eq_true rfl)) dX9_firstEventTo_8 ?_
  replace hf := gx_ite hf
  rcases hf with ⟨c5, hf⟩ | ⟨c5, hf⟩
  · refine gx_ifz_eq_f (tgt := 16) C dX9_firstEventTo_11 rfl c5 ?_
    refine gx_iconst (v := 0) C dX9_firstEventTo_14 rfl ?_
    obtain ⟨rfl, rfl⟩ := Prod.mk.inj (Option.some.inj hf)
    exact gx_iret C dX9_firstEventTo_15
  · refine gx_ifz_eq_t (tgt := 16) C dX9_firstEventTo_11 rfl c5 ?_
    refine gx_aload_n C dX9_firstEventTo_16 0 rfl ?_
    refine gx_aload_n C dX9_firstEventTo_17 0 rfl ?_
    replace hf := gx_bs hf
    obtain ⟨x7, g6, hf⟩ := hf
    refine gx_callV (st := [(va_rf (some o))]) C (w_X9_here hlt g6) mh_is gz_497 rfl (lw_V q2938 q2940 qs96 q151 q2941) gz_576 (by decide) rfl rfl (gx_catn (Nat.le_of_ble_eq_true rfl)) dX9_firstEventTo_18 ?_
    refine gx_iload_n C dX9_firstEventTo_21 1 rfl ?_
    replace hf := gx_b2s hf
    obtain ⟨x9, h10, g8, hf⟩ := hf
    refine gx_callV (st := []) C (w_X9_stepsBetween hlt g8) mh_is gz_497 rfl (lw_V q3168 q3170 qs114 q151 q3171) gz_598 (by decide) rfl rfl (gx_catn (Nat.le_of_ble_eq_true rfl)) dX9_firstEventTo_22 ?_
    refine gx_istn C dX9_firstEventTo_25 2 rfl (by decide) [0, 1]  rfl (gx_okn rfl rfl (gx_okr rfl gx_catv_i gx_ok0)) ?_
    refine gx_iload_n C dX9_firstEventTo_26 0 rfl ?_
    replace hf := gx_ite hf
    rcases hf with ⟨c11, hf⟩ | ⟨c11, hf⟩
    · refine gx_if_gt_t (tgt := 32) C dX9_firstEventTo_27 rfl c11 ?_
      refine gx_iconst (v := 0) C dX9_firstEventTo_32 rfl ?_
      refine gx_istn C dX9_firstEventTo_33 3 rfl (by decide) [0, 1, 2]  rfl (gx_okr rfl gx_catv_i (gx_okn rfl rfl (gx_okn rfl rfl gx_ok0))) ?_
      refine gx_sub [2, 3, 1, 0] rfl ?_
      exact w_X9_firstEventTo_b34 hlt C hx gx_fuel hf
    · refine gx_if_gt_f (tgt := 32) C dX9_firstEventTo_27 rfl c11 ?_
      refine gx_iconst (v := -1) C dX9_firstEventTo_30 rfl ?_
      obtain ⟨rfl, rfl⟩ := Prod.mk.inj (Option.some.inj hf)
      exact gx_iret C dX9_firstEventTo_31
theorem w_X9_firstEventTo {l : Launch} (hlt : l.stackTraces = false) {D : gx_D} {b : HX} {o : Nat} {h : MS} {p1 : Int32} {r : Int32} {hz : MS} (hf : f_X9_firstEventTo D b o h p1 = some (r, hz)) : gx_Met l yX9_firstEventTo cX9_firstEventTo 4 (some .int) 9 204 D [(va_rf (some o)), (.int p1)] (mh b o h) (some (.int r)) (mh b o hz) :=
  gx_ofG gz_495 (by simp only [gx_lsr, gx_lsi, gx_lsj, gx_ls0]; decide) mh_le (fun p e R s m args below meth c C hx => by
    simp only [gx_lar, gx_lai, gx_laj, gx_la0, Nat.reduceAdd]
    exact w_X9_firstEventTo_b hlt C hx hf)
def f_X9_deadlockCount_b17 (D : gx_D) (b : HX) (o : Nat) : Nat → MS → Int32 → Int32 → Option ((Int32) × MS)
  | 0, _, _, _ => none
  | n + 1, h, v1, v2 =>
  if (h.1 11) ≤ v2 then
  some (v1, h)
  else
  (ms_ai h 5 v2).bind fun x7 =>
  gx_b2 (f_X9_isStuck D b o h x7) fun b9 h10 =>
  (f_X9_one D b o h10 b9).bind fun x12 =>
  (f_X9_deadlockCount_b17 D b o n) h10 ((v1 + x12)) ((v2 + (1 : Int32)))
theorem w_X9_deadlockCount_b17 {l : Launch} (hlt : l.stackTraces = false) {p : Program} {e : Env} {R : Room} {s : State} {m : MethodId} {args : Array Value} {below : List Frame} {meth : Method} {c : Code} {D : gx_D} {b : HX} {o : Nat} {h0 : MS} {r : Int32} {hz : MS} (C : gx_Ctx p R s m args meth c "ContractMachineModel" cX9_deadlockCount 3 (some .int) 8 181 D (mh b o h0) (mh b o hz)) (hx : meth.name = "deadlockCount")  : ∀ (n : Nat) ⦃h : MS⦄ ⦃v1 : Int32⦄ ⦃v2 : Int32⦄, f_X9_deadlockCount_b17 D b o n h v1 v2 = some (r, hz) → gx_G p l e R s m args below meth c D (mh b o h0) (mh b o hz) 3 (gx_MQ below args s D (mh b o h0) (mh b o hz) (some (.int r))) 17 [(0, (va_rf (some o))), (1, (.int v1)), (2, (.int v2))] [] (mh b o h) := by
  intro n
  induction n with
  | zero => intro h v1 v2 hf; unfold f_X9_deadlockCount_b17 at hf; cases hf
  | succ n wk17 =>
    intro h v1 v2 hf
    unfold f_X9_deadlockCount_b17 at hf
    refine gx_iload_n C dX9_deadlockCount_17 2 rfl ?_
    refine gx_aload_n C dX9_deadlockCount_18 0 rfl ?_
    refine gx_gi C (mh_gi (k := 11) rfl) gz_595 q2645 dX9_deadlockCount_19 ?_
    replace hf := gx_ite hf
    rcases hf with ⟨c6, hf⟩ | ⟨c6, hf⟩
    · refine gx_icmp_ge_t (tgt := 47) C dX9_deadlockCount_22 rfl c6 ?_
      refine gx_iload_n C dX9_deadlockCount_47 1 rfl ?_
      obtain ⟨rfl, rfl⟩ := Prod.mk.inj (Option.some.inj hf)
      exact gx_iret C dX9_deadlockCount_48
    · refine gx_icmp_ge_f (tgt := 47) C dX9_deadlockCount_22 rfl c6 ?_
      refine gx_iload_n C dX9_deadlockCount_25 1 rfl ?_
      refine gx_aload_n C dX9_deadlockCount_26 0 rfl ?_
      refine gx_aload_n C dX9_deadlockCount_27 0 rfl ?_
      refine gx_gr C (mh_gr (k := 10) rfl) gz_502 q2644 dX9_deadlockCount_28 ?_
      refine gx_iload_n C dX9_deadlockCount_31 2 rfl ?_
      replace hf := gx_bs hf
      obtain ⟨x7, g13, hf⟩ := hf
      refine gx_iald C (mh_ai g13) dX9_deadlockCount_32 ?_
      replace hf := gx_b2s hf
      obtain ⟨b9, h10, g8, hf⟩ := hf
      refine gx_callV (st := [(.int v1)]) C (w_X9_isStuck hlt g8) mh_is gz_497 rfl (lw_V q3109 q3111 qs110 q151 q3112) gz_592 (by decide) rfl rfl (gx_catn (Nat.le_of_ble_eq_true rfl)) dX9_deadlockCount_33 ?_
      replace hf := gx_bs hf
      obtain ⟨x12, g11, hf⟩ := hf
      refine gx_callS (st := [(.int v1)]) C (w_X9_one hlt g11) (lw_S q3129 q3130 q151 q3131) gz_593 (by decide) rfl rfl (gx_catn (Nat.le_of_ble_eq_true rfl)) dX9_deadlockCount_36 ?_
      refine gx_iadd C dX9_deadlockCount_39 ?_
      refine gx_istn C dX9_deadlockCount_40 1 rfl (by decide) [0, 2]  rfl (gx_okr rfl gx_catv_r (gx_okn rfl rfl gx_ok0)) ?_
      refine gx_inc (v := 1) C dX9_deadlockCount_41 2 rfl rfl (by decide) [0, 1] rfl (gx_okr rfl gx_catv_i (gx_okn rfl rfl gx_ok0)) ?_
      refine gx_goto (tgt := 17) C dX9_deadlockCount_44 rfl ?_
      refine gx_sub [2, 1, 0] rfl ?_
      exact wk17 hf
def f_X9_deadlockCount (D : gx_D) (b : HX) (o : Nat) (h : MS) : Option ((Int32) × MS) :=
  (ms_pf h 6 (0 : Int32)).bind fun h1 =>
  (f_X9_here D b o h1).bind fun x3 =>
  (f_X9_searches D b o h1 x3).bind fun h5 =>
  f_X9_deadlockCount_b17 D b o gx_fuel h5 ((0 : Int32)) ((0 : Int32))
theorem w_X9_deadlockCount_b {l : Launch} (hlt : l.stackTraces = false) {p : Program} {e : Env} {R : Room} {s : State} {m : MethodId} {args : Array Value} {below : List Frame} {meth : Method} {c : Code} {D : gx_D} {b : HX} {o : Nat} {h0 : MS} {r : Int32} {hz : MS} (C : gx_Ctx p R s m args meth c "ContractMachineModel" cX9_deadlockCount 3 (some .int) 8 181 D (mh b o h0) (mh b o hz)) (hx : meth.name = "deadlockCount") (hf : f_X9_deadlockCount D b o h0 = some (r, hz)) : gx_G p l e R s m args below meth c D (mh b o h0) (mh b o hz) 3 (gx_MQ below args s D (mh b o h0) (mh b o hz) (some (.int r))) 0 [(0, (va_rf (some o)))] [] (mh b o h0) := by
  unfold f_X9_deadlockCount at hf
  refine gx_aload_n C dX9_deadlockCount_0 0 rfl ?_
  refine gx_iconst (v := 0) C dX9_deadlockCount_1 rfl ?_
  replace hf := gx_bs hf
  obtain ⟨h1, g14, hf⟩ := hf
  refine gx_putv C (mh_pg (by decide) (fun _ _ => mh_p6) g14) gz_519 gz_1 rfl rfl q2640 dX9_deadlockCount_2 ?_
  refine gx_aload_n C dX9_deadlockCount_5 0 rfl ?_
  refine gx_aload_n C dX9_deadlockCount_6 0 rfl ?_
  replace hf := gx_bs hf
  obtain ⟨x3, g2, hf⟩ := hf
  refine gx_callV (st := [(va_rf (some o))]) C (w_X9_here hlt g2) mh_is gz_497 rfl (lw_V q2938 q2940 qs96 q151 q2941) gz_576 (by decide) rfl rfl (gx_catn (Nat.le_of_ble_eq_true rfl)) dX9_deadlockCount_7 ?_
  replace hf := gx_bs hf
  obtain ⟨h5, g4, hf⟩ := hf
  refine gx_callV (st := []) C (w_X9_searches hlt g4) mh_is gz_497 rfl (lw_V q3156 q3158 qs112 q151 q3159) gz_597 (by decide) rfl rfl (gx_catn (Nat.le_of_ble_eq_true rfl)) dX9_deadlockCount_10 ?_
  refine gx_iconst (v := 0) C dX9_deadlockCount_13 rfl ?_
  refine gx_istn C dX9_deadlockCount_14 1 rfl (by decide) [0]  rfl (gx_okr rfl gx_catv_r gx_ok0) ?_
  refine gx_iconst (v := 0) C dX9_deadlockCount_15 rfl ?_
  refine gx_istn C dX9_deadlockCount_16 2 rfl (by decide) [0, 1]  rfl (gx_okr rfl gx_catv_i (gx_okn rfl rfl gx_ok0)) ?_
  refine gx_sub [2, 1, 0] rfl ?_
  exact w_X9_deadlockCount_b17 hlt C hx gx_fuel hf
theorem w_X9_deadlockCount {l : Launch} (hlt : l.stackTraces = false) {D : gx_D} {b : HX} {o : Nat} {h : MS} {r : Int32} {hz : MS} (hf : f_X9_deadlockCount D b o h = some (r, hz)) : gx_Met l yX9_deadlockCount cX9_deadlockCount 3 (some .int) 8 181 D [(va_rf (some o))] (mh b o h) (some (.int r)) (mh b o hz) :=
  gx_ofG gz_495 (by simp only [gx_lsr, gx_lsi, gx_lsj, gx_ls0]; decide) mh_le (fun p e R s m args below meth c C hx => by
    simp only [gx_lar, gx_lai, gx_laj, gx_la0, Nat.reduceAdd]
    exact w_X9_deadlockCount_b hlt C hx hf)
def f_X9_stepsToDeadlock_b36 (D : gx_D) (b : HX) (o : Nat) (h : MS) (v1 : Int32) : Option ((Int32) × MS) :=
  (ms_ai h 5 v1).bind fun x12 =>
  (ms_ai h 4 x12).bind fun x13 =>
  some (x13, h)
theorem w_X9_stepsToDeadlock_b36 {l : Launch} (hlt : l.stackTraces = false) {p : Program} {e : Env} {R : Room} {s : State} {m : MethodId} {args : Array Value} {below : List Frame} {meth : Method} {c : Code} {D : gx_D} {b : HX} {o : Nat} {h0 : MS} {r : Int32} {hz : MS} (C : gx_Ctx p R s m args meth c "ContractMachineModel" cX9_stepsToDeadlock 2 (some .int) 8 181 D (mh b o h0) (mh b o hz)) (hx : meth.name = "stepsToDeadlock")  {h : MS} {v1 : Int32} (hf : f_X9_stepsToDeadlock_b36 D b o h v1 = some (r, hz)) : gx_G p l e R s m args below meth c D (mh b o h0) (mh b o hz) 2 (gx_MQ below args s D (mh b o h0) (mh b o hz) (some (.int r))) 36 [(0, (va_rf (some o))), (1, (.int v1))] [] (mh b o h) := by
  unfold f_X9_stepsToDeadlock_b36 at hf
  refine gx_aload_n C dX9_stepsToDeadlock_36 0 rfl ?_
  refine gx_gr C (mh_gr (k := 9) rfl) gz_501 q2643 dX9_stepsToDeadlock_37 ?_
  refine gx_aload_n C dX9_stepsToDeadlock_40 0 rfl ?_
  refine gx_gr C (mh_gr (k := 10) rfl) gz_502 q2644 dX9_stepsToDeadlock_41 ?_
  refine gx_iload_n C dX9_stepsToDeadlock_44 1 rfl ?_
  replace hf := gx_bs hf
  obtain ⟨x12, g15, hf⟩ := hf
  refine gx_iald C (mh_ai g15) dX9_stepsToDeadlock_45 ?_
  replace hf := gx_bs hf
  obtain ⟨x13, g14, hf⟩ := hf
  refine gx_iald C (mh_ai g14) dX9_stepsToDeadlock_46 ?_
  obtain ⟨rfl, rfl⟩ := Prod.mk.inj (Option.some.inj hf)
  exact gx_iret C dX9_stepsToDeadlock_47
def f_X9_stepsToDeadlock_b15 (D : gx_D) (b : HX) (o : Nat) : Nat → MS → Int32 → Option ((Int32) × MS)
  | 0, _, _ => none
  | n + 1, h, v1 =>
  if (h.1 11) ≤ v1 then
  some ((-1 : Int32), h)
  else
  (ms_ai h 5 v1).bind fun x7 =>
  gx_b2 (f_X9_isStuck D b o h x7) fun b9 h10 =>
  if b9 = true then
  f_X9_stepsToDeadlock_b36 D b o h10 v1
  else
  (f_X9_stepsToDeadlock_b15 D b o n) h10 ((v1 + (1 : Int32)))
theorem w_X9_stepsToDeadlock_b15 {l : Launch} (hlt : l.stackTraces = false) {p : Program} {e : Env} {R : Room} {s : State} {m : MethodId} {args : Array Value} {below : List Frame} {meth : Method} {c : Code} {D : gx_D} {b : HX} {o : Nat} {h0 : MS} {r : Int32} {hz : MS} (C : gx_Ctx p R s m args meth c "ContractMachineModel" cX9_stepsToDeadlock 2 (some .int) 8 181 D (mh b o h0) (mh b o hz)) (hx : meth.name = "stepsToDeadlock")  : ∀ (n : Nat) ⦃h : MS⦄ ⦃v1 : Int32⦄, f_X9_stepsToDeadlock_b15 D b o n h v1 = some (r, hz) → gx_G p l e R s m args below meth c D (mh b o h0) (mh b o hz) 2 (gx_MQ below args s D (mh b o h0) (mh b o hz) (some (.int r))) 15 [(0, (va_rf (some o))), (1, (.int v1))] [] (mh b o h) := by
  intro n
  induction n with
  | zero => intro h v1 hf; unfold f_X9_stepsToDeadlock_b15 at hf; cases hf
  | succ n wk15 =>
    intro h v1 hf
    unfold f_X9_stepsToDeadlock_b15 at hf
    refine gx_iload_n C dX9_stepsToDeadlock_15 1 rfl ?_
    refine gx_aload_n C dX9_stepsToDeadlock_16 0 rfl ?_
    refine gx_gi C (mh_gi (k := 11) rfl) gz_595 q2645 dX9_stepsToDeadlock_17 ?_
    replace hf := gx_ite hf
    rcases hf with ⟨c6, hf⟩ | ⟨c6, hf⟩
    · refine gx_icmp_ge_t (tgt := 54) C dX9_stepsToDeadlock_20 rfl c6 ?_
      refine gx_iconst (v := -1) C dX9_stepsToDeadlock_54 rfl ?_
      obtain ⟨rfl, rfl⟩ := Prod.mk.inj (Option.some.inj hf)
      exact gx_iret C dX9_stepsToDeadlock_55
    · refine gx_icmp_ge_f (tgt := 54) C dX9_stepsToDeadlock_20 rfl c6 ?_
      refine gx_aload_n C dX9_stepsToDeadlock_23 0 rfl ?_
      refine gx_aload_n C dX9_stepsToDeadlock_24 0 rfl ?_
      refine gx_gr C (mh_gr (k := 10) rfl) gz_502 q2644 dX9_stepsToDeadlock_25 ?_
      refine gx_iload_n C dX9_stepsToDeadlock_28 1 rfl ?_
      replace hf := gx_bs hf
      obtain ⟨x7, g16, hf⟩ := hf
      refine gx_iald C (mh_ai g16) dX9_stepsToDeadlock_29 ?_
      replace hf := gx_b2s hf
      obtain ⟨b9, h10, g8, hf⟩ := hf
      refine gx_callV (st := []) C (w_X9_isStuck hlt g8) mh_is gz_497 rfl (lw_V q3109 q3111 qs110 q151 q3112) gz_592 (by decide) rfl rfl (gx_catn (Nat.le_of_ble_eq_true rfl)) dX9_stepsToDeadlock_30 ?_
      replace hf := gx_ite hf
      rcases hf with ⟨c11, hf⟩ | ⟨c11, hf⟩
      · refine gx_ifz_eq_f (tgt := 48) C dX9_stepsToDeadlock_33 rfl c11 ?_
        refine gx_sub [0, 1] rfl ?_
        exact w_X9_stepsToDeadlock_b36 hlt C hx hf
      · refine gx_ifz_eq_t (tgt := 48) C dX9_stepsToDeadlock_33 rfl c11 ?_
        refine gx_inc (v := 1) C dX9_stepsToDeadlock_48 1 rfl rfl (by decide) [0] rfl (gx_okr rfl gx_catv_r gx_ok0) ?_
        refine gx_goto (tgt := 15) C dX9_stepsToDeadlock_51 rfl ?_
        refine gx_sub [1, 0] rfl ?_
        exact wk15 hf
def f_X9_stepsToDeadlock (D : gx_D) (b : HX) (o : Nat) (h : MS) : Option ((Int32) × MS) :=
  (ms_pf h 6 (0 : Int32)).bind fun h1 =>
  (f_X9_here D b o h1).bind fun x3 =>
  (f_X9_searches D b o h1 x3).bind fun h5 =>
  f_X9_stepsToDeadlock_b15 D b o gx_fuel h5 ((0 : Int32))
theorem w_X9_stepsToDeadlock_b {l : Launch} (hlt : l.stackTraces = false) {p : Program} {e : Env} {R : Room} {s : State} {m : MethodId} {args : Array Value} {below : List Frame} {meth : Method} {c : Code} {D : gx_D} {b : HX} {o : Nat} {h0 : MS} {r : Int32} {hz : MS} (C : gx_Ctx p R s m args meth c "ContractMachineModel" cX9_stepsToDeadlock 2 (some .int) 8 181 D (mh b o h0) (mh b o hz)) (hx : meth.name = "stepsToDeadlock") (hf : f_X9_stepsToDeadlock D b o h0 = some (r, hz)) : gx_G p l e R s m args below meth c D (mh b o h0) (mh b o hz) 2 (gx_MQ below args s D (mh b o h0) (mh b o hz) (some (.int r))) 0 [(0, (va_rf (some o)))] [] (mh b o h0) := by
  unfold f_X9_stepsToDeadlock at hf
  refine gx_aload_n C dX9_stepsToDeadlock_0 0 rfl ?_
  refine gx_iconst (v := 0) C dX9_stepsToDeadlock_1 rfl ?_
  replace hf := gx_bs hf
  obtain ⟨h1, g17, hf⟩ := hf
  refine gx_putv C (mh_pg (by decide) (fun _ _ => mh_p6) g17) gz_519 gz_1 rfl rfl q2640 dX9_stepsToDeadlock_2 ?_
  refine gx_aload_n C dX9_stepsToDeadlock_5 0 rfl ?_
  refine gx_aload_n C dX9_stepsToDeadlock_6 0 rfl ?_
  replace hf := gx_bs hf
  obtain ⟨x3, g2, hf⟩ := hf
  refine gx_callV (st := [(va_rf (some o))]) C (w_X9_here hlt g2) mh_is gz_497 rfl (lw_V q2938 q2940 qs96 q151 q2941) gz_576 (by decide) rfl rfl (gx_catn (Nat.le_of_ble_eq_true rfl)) dX9_stepsToDeadlock_7 ?_
  replace hf := gx_bs hf
  obtain ⟨h5, g4, hf⟩ := hf
  refine gx_callV (st := []) C (w_X9_searches hlt g4) mh_is gz_497 rfl (lw_V q3156 q3158 qs112 q151 q3159) gz_597 (by decide) rfl rfl (gx_catn (Nat.le_of_ble_eq_true rfl)) dX9_stepsToDeadlock_10 ?_
  refine gx_iconst (v := 0) C dX9_stepsToDeadlock_13 rfl ?_
  refine gx_istn C dX9_stepsToDeadlock_14 1 rfl (by decide) [0]  rfl (gx_okr rfl gx_catv_r gx_ok0) ?_
  refine gx_sub [1, 0] rfl ?_
  exact w_X9_stepsToDeadlock_b15 hlt C hx gx_fuel hf
theorem w_X9_stepsToDeadlock {l : Launch} (hlt : l.stackTraces = false) {D : gx_D} {b : HX} {o : Nat} {h : MS} {r : Int32} {hz : MS} (hf : f_X9_stepsToDeadlock D b o h = some (r, hz)) : gx_Met l yX9_stepsToDeadlock cX9_stepsToDeadlock 2 (some .int) 8 181 D [(va_rf (some o))] (mh b o h) (some (.int r)) (mh b o hz) :=
  gx_ofG gz_495 (by simp only [gx_lsr, gx_lsi, gx_lsj, gx_ls0]; decide) mh_le (fun p e R s m args below meth c C hx => by
    simp only [gx_lar, gx_lai, gx_laj, gx_la0, Nat.reduceAdd]
    exact w_X9_stepsToDeadlock_b hlt C hx hf)
def f_X9_deepCount_b131 (D : gx_D) (b : HX) (o : Nat) (k46 : MS → Int32 → Int32 → Option ((Int32) × MS)) (h : MS) (v1 : Int32) (v2 : Int32) : Option ((Int32) × MS) :=
  k46 h v1 v2
theorem w_X9_deepCount_b131 {l : Launch} (hlt : l.stackTraces = false) {p : Program} {e : Env} {R : Room} {s : State} {m : MethodId} {args : Array Value} {below : List Frame} {meth : Method} {c : Code} {D : gx_D} {b : HX} {o : Nat} {h0 : MS} {r : Int32} {hz : MS} (C : gx_Ctx p R s m args meth c "ContractMachineModel" cX9_deepCount 5 (some .int) 7 157 D (mh b o h0) (mh b o hz)) (hx : meth.name = "deepCount")  {k46 : MS → Int32 → Int32 → Option ((Int32) × MS)} (wk46 : ∀ ⦃h : MS⦄ ⦃v1 : Int32⦄ ⦃v2 : Int32⦄, k46 h v1 v2 = some (r, hz) → gx_G p l e R s m args below meth c D (mh b o h0) (mh b o hz) 5 (gx_MQ below args s D (mh b o h0) (mh b o hz) (some (.int r))) 46 [(0, (va_rf (some o))), (1, (.int v1)), (2, (.int v2))] [] (mh b o h)) {h : MS} {v1 : Int32} {v2 : Int32} (hf : f_X9_deepCount_b131 D b o k46 h v1 v2 = some (r, hz)) : gx_G p l e R s m args below meth c D (mh b o h0) (mh b o hz) 5 (gx_MQ below args s D (mh b o h0) (mh b o hz) (some (.int r))) 131 [(0, (va_rf (some o))), (1, (.int v1)), (2, (.int v2))] [] (mh b o h) := by
  unfold f_X9_deepCount_b131 at hf
  refine gx_goto (tgt := 46) C dX9_deepCount_131 rfl ?_
  refine gx_sub [0, 1, 2] rfl ?_
  exact wk46 hf
def f_X9_deepCount_b125 (D : gx_D) (b : HX) (o : Nat) (k46 : MS → Int32 → Int32 → Option ((Int32) × MS)) (k63 : MS → Int32 → Int32 → Int32 → Int32 → Option ((Int32) × MS)) (h : MS) (v1 : Int32) (v2 : Int32) (v3 : Int32) (v4 : Int32) : Option ((Int32) × MS) :=
  k63 h v1 v2 v3 ((v4 + (1 : Int32)))
theorem w_X9_deepCount_b125 {l : Launch} (hlt : l.stackTraces = false) {p : Program} {e : Env} {R : Room} {s : State} {m : MethodId} {args : Array Value} {below : List Frame} {meth : Method} {c : Code} {D : gx_D} {b : HX} {o : Nat} {h0 : MS} {r : Int32} {hz : MS} (C : gx_Ctx p R s m args meth c "ContractMachineModel" cX9_deepCount 5 (some .int) 7 157 D (mh b o h0) (mh b o hz)) (hx : meth.name = "deepCount")  {k46 : MS → Int32 → Int32 → Option ((Int32) × MS)} {k63 : MS → Int32 → Int32 → Int32 → Int32 → Option ((Int32) × MS)} (wk46 : ∀ ⦃h : MS⦄ ⦃v1 : Int32⦄ ⦃v2 : Int32⦄, k46 h v1 v2 = some (r, hz) → gx_G p l e R s m args below meth c D (mh b o h0) (mh b o hz) 5 (gx_MQ below args s D (mh b o h0) (mh b o hz) (some (.int r))) 46 [(0, (va_rf (some o))), (1, (.int v1)), (2, (.int v2))] [] (mh b o h)) (wk63 : ∀ ⦃h : MS⦄ ⦃v1 : Int32⦄ ⦃v2 : Int32⦄ ⦃v3 : Int32⦄ ⦃v4 : Int32⦄, k63 h v1 v2 v3 v4 = some (r, hz) → gx_G p l e R s m args below meth c D (mh b o h0) (mh b o hz) 5 (gx_MQ below args s D (mh b o h0) (mh b o hz) (some (.int r))) 63 [(0, (va_rf (some o))), (1, (.int v1)), (2, (.int v2)), (3, (.int v3)), (4, (.int v4))] [] (mh b o h)) {h : MS} {v1 : Int32} {v2 : Int32} {v3 : Int32} {v4 : Int32} (hf : f_X9_deepCount_b125 D b o k46 k63 h v1 v2 v3 v4 = some (r, hz)) : gx_G p l e R s m args below meth c D (mh b o h0) (mh b o hz) 5 (gx_MQ below args s D (mh b o h0) (mh b o hz) (some (.int r))) 125 [(0, (va_rf (some o))), (1, (.int v1)), (2, (.int v2)), (3, (.int v3)), (4, (.int v4))] [] (mh b o h) := by
  unfold f_X9_deepCount_b125 at hf
  refine gx_inc (v := 1) C dX9_deepCount_125 4 rfl rfl (by decide) [0, 1, 2, 3] rfl (gx_okn rfl rfl (gx_okn rfl rfl (gx_okn rfl rfl (gx_okr rfl gx_catv_i gx_ok0)))) ?_
  refine gx_goto (tgt := 63) C dX9_deepCount_128 rfl ?_
  refine gx_sub [1, 2, 3, 4, 0] rfl ?_
  exact wk63 hf
def f_X9_deepCount_b63 (D : gx_D) (b : HX) (o : Nat) (k46 : MS → Int32 → Int32 → Option ((Int32) × MS)) : Nat → MS → Int32 → Int32 → Int32 → Int32 → Option ((Int32) × MS)
  | 0, _, _, _, _, _ => none
  | n + 1, h, v1, v2, v3, v4 =>
  (ms_ai h 0 (1 : Int32)).bind fun x10 =>
  if x10 ≤ v4 then
  f_X9_deepCount_b131 D b o k46 h v1 v2
  else
  gx_b2 (f_X9_verdict D b o h v3 v4) fun x13 h14 =>
  if x13 = 0 then
  (ms_az h14 10 (h14.1 8)).bind fun x16 =>
  if x16 = 0 then
  (ms_sz h14 10 (h14.1 8) (1 : Int32)).bind fun h18 =>
  (ms_si h18 11 v1 (h18.1 8)).bind fun h19 =>
  f_X9_deepCount_b125 D b o k46 (f_X9_deepCount_b63 D b o k46 n) h19 ((v1 + (1 : Int32))) ((v2 + (1 : Int32))) v3 v4
  else
  f_X9_deepCount_b125 D b o k46 (f_X9_deepCount_b63 D b o k46 n) h14 v1 v2 v3 v4
  else
  f_X9_deepCount_b125 D b o k46 (f_X9_deepCount_b63 D b o k46 n) h14 v1 v2 v3 v4
theorem w_X9_deepCount_b63 {l : Launch} (hlt : l.stackTraces = false) {p : Program} {e : Env} {R : Room} {s : State} {m : MethodId} {args : Array Value} {below : List Frame} {meth : Method} {c : Code} {D : gx_D} {b : HX} {o : Nat} {h0 : MS} {r : Int32} {hz : MS} (C : gx_Ctx p R s m args meth c "ContractMachineModel" cX9_deepCount 5 (some .int) 7 157 D (mh b o h0) (mh b o hz)) (hx : meth.name = "deepCount")  {k46 : MS → Int32 → Int32 → Option ((Int32) × MS)} (wk46 : ∀ ⦃h : MS⦄ ⦃v1 : Int32⦄ ⦃v2 : Int32⦄, k46 h v1 v2 = some (r, hz) → gx_G p l e R s m args below meth c D (mh b o h0) (mh b o hz) 5 (gx_MQ below args s D (mh b o h0) (mh b o hz) (some (.int r))) 46 [(0, (va_rf (some o))), (1, (.int v1)), (2, (.int v2))] [] (mh b o h)) : ∀ (n : Nat) ⦃h : MS⦄ ⦃v1 : Int32⦄ ⦃v2 : Int32⦄ ⦃v3 : Int32⦄ ⦃v4 : Int32⦄, f_X9_deepCount_b63 D b o k46 n h v1 v2 v3 v4 = some (r, hz) → gx_G p l e R s m args below meth c D (mh b o h0) (mh b o hz) 5 (gx_MQ below args s D (mh b o h0) (mh b o hz) (some (.int r))) 63 [(0, (va_rf (some o))), (1, (.int v1)), (2, (.int v2)), (3, (.int v3)), (4, (.int v4))] [] (mh b o h) := by
  intro n
  induction n with
  | zero => intro h v1 v2 v3 v4 hf; unfold f_X9_deepCount_b63 at hf; cases hf
  | succ n wk63 =>
    intro h v1 v2 v3 v4 hf
    unfold f_X9_deepCount_b63 at hf
    refine gx_iload C dX9_deepCount_63 4 rfl ?_
    refine gx_aload_n C dX9_deepCount_65 0 rfl ?_
    refine gx_gr C (mh_gr (k := 0) rfl) gz_494 q2634 dX9_deepCount_66 ?_
    refine gx_iconst (v := 1) C dX9_deepCount_69 rfl ?_
    replace hf := gx_bs hf
    obtain ⟨x10, g23, hf⟩ := hf
    refine gx_iald C (mh_ai g23) dX9_deepCount_70 ?_
    replace hf := gx_ite hf
    rcases hf with ⟨c11, hf⟩ | ⟨c11, hf⟩
    · refine gx_icmp_ge_t (tgt := 131) C dX9_deepCount_71 rfl c11 ?_
      refine gx_sub [0, 1, 2] rfl ?_
      exact w_X9_deepCount_b131 hlt C hx wk46 hf
    · refine gx_icmp_ge_f (tgt := 131) C dX9_deepCount_71 rfl c11 ?_
      refine gx_aload_n C dX9_deepCount_74 0 rfl ?_
      refine gx_iload_n C dX9_deepCount_75 3 rfl ?_
      refine gx_iload C dX9_deepCount_76 4 rfl ?_
      replace hf := gx_b2s hf
      obtain ⟨x13, h14, g12, hf⟩ := hf
      refine gx_callV (st := []) C (w_X9_verdict hlt g12) mh_is gz_497 rfl (lw_V q2942 q2944 qs97 q151 q2945) gz_577 (by decide) rfl rfl (gx_catn (Nat.le_of_ble_eq_true rfl)) dX9_deepCount_78 ?_
      replace hf := gx_ite hf
      rcases hf with ⟨c15, hf⟩ | ⟨c15, hf⟩
      · refine gx_if_ne_f (tgt := 125) C dX9_deepCount_81 rfl c15 ?_
        refine gx_aload_n C dX9_deepCount_84 0 rfl ?_
        refine gx_gr C (mh_gr (k := 27) rfl) gz_508 q2661 dX9_deepCount_85 ?_
        refine gx_aload_n C dX9_deepCount_88 0 rfl ?_
        refine gx_gi C (mh_gi (k := 8) rfl) gz_572 q2642 dX9_deepCount_89 ?_
        replace hf := gx_bs hf
        obtain ⟨x16, g22, hf⟩ := hf
        refine gx_zald C (mh_az g22) dX9_deepCount_92 ?_
        replace hf := gx_ite hf
        rcases hf with ⟨c17, hf⟩ | ⟨c17, hf⟩
        · refine gx_if_eq_t (tgt := 99) C dX9_deepCount_93 rfl c17 ?_
          refine gx_aload_n C dX9_deepCount_99 0 rfl ?_
          refine gx_gr C (mh_gr (k := 27) rfl) gz_508 q2661 dX9_deepCount_100 ?_
          refine gx_aload_n C dX9_deepCount_103 0 rfl ?_
          refine gx_gi C (mh_gi (k := 8) rfl) gz_572 q2642 dX9_deepCount_104 ?_
          refine gx_iconst (v := 1) C dX9_deepCount_107 rfl ?_
          replace hf := gx_bs hf
          obtain ⟨h18, g21, hf⟩ := hf
          refine gx_zast C (mh_sz g21) dX9_deepCount_108 ?_
          refine gx_aload_n C dX9_deepCount_109 0 rfl ?_
          refine gx_gr C (mh_gr (k := 28) rfl) gz_510 q2662 dX9_deepCount_110 ?_
          refine gx_iload_n C dX9_deepCount_113 1 rfl ?_
          refine gx_aload_n C dX9_deepCount_114 0 rfl ?_
          refine gx_gi C (mh_gi (k := 8) rfl) gz_572 q2642 dX9_deepCount_115 ?_
          replace hf := gx_bs hf
          obtain ⟨h19, g20, hf⟩ := hf
          refine gx_iast C (mh_si g20) dX9_deepCount_118 ?_
          refine gx_inc (v := 1) C dX9_deepCount_119 1 rfl rfl (by decide) [0, 2, 3, 4] rfl (gx_okr rfl gx_catv_r (gx_okn rfl rfl (gx_okn rfl rfl (gx_okn rfl rfl gx_ok0)))) ?_
          refine gx_inc (v := 1) C dX9_deepCount_122 2 rfl rfl (by decide) [0, 1, 3, 4] rfl (gx_okr rfl gx_catv_i (gx_okn rfl rfl (gx_okn rfl rfl (gx_okn rfl rfl gx_ok0)))) ?_
          refine gx_sub [2, 1, 0, 3, 4] rfl ?_
          exact w_X9_deepCount_b125 hlt C hx wk46 wk63 hf
        · refine gx_if_eq_f (tgt := 99) C dX9_deepCount_93 rfl c17 ?_
          refine gx_goto (tgt := 125) C dX9_deepCount_96 rfl ?_
          refine gx_sub [0, 1, 2, 3, 4] rfl ?_
          exact w_X9_deepCount_b125 hlt C hx wk46 wk63 hf
      · refine gx_if_ne_t (tgt := 125) C dX9_deepCount_81 rfl c15 ?_
        refine gx_sub [0, 1, 2, 3, 4] rfl ?_
        exact w_X9_deepCount_b125 hlt C hx wk46 wk63 hf
def f_X9_deepCount_b46 (D : gx_D) (b : HX) (o : Nat) : Nat → MS → Int32 → Int32 → Option ((Int32) × MS)
  | 0, _, _, _ => none
  | n + 1, h, v1, v2 =>
  if v1 ≤ 0 then
  some (v2, h)
  else
  (ms_ai h 11 (v1 + (-1 : Int32))).bind fun x9 =>
  f_X9_deepCount_b63 D b o (f_X9_deepCount_b46 D b o n) gx_fuel h ((v1 + (-1 : Int32))) v2 x9 ((0 : Int32))
theorem w_X9_deepCount_b46 {l : Launch} (hlt : l.stackTraces = false) {p : Program} {e : Env} {R : Room} {s : State} {m : MethodId} {args : Array Value} {below : List Frame} {meth : Method} {c : Code} {D : gx_D} {b : HX} {o : Nat} {h0 : MS} {r : Int32} {hz : MS} (C : gx_Ctx p R s m args meth c "ContractMachineModel" cX9_deepCount 5 (some .int) 7 157 D (mh b o h0) (mh b o hz)) (hx : meth.name = "deepCount")  : ∀ (n : Nat) ⦃h : MS⦄ ⦃v1 : Int32⦄ ⦃v2 : Int32⦄, f_X9_deepCount_b46 D b o n h v1 v2 = some (r, hz) → gx_G p l e R s m args below meth c D (mh b o h0) (mh b o hz) 5 (gx_MQ below args s D (mh b o h0) (mh b o hz) (some (.int r))) 46 [(0, (va_rf (some o))), (1, (.int v1)), (2, (.int v2))] [] (mh b o h) := by
  intro n
  induction n with
  | zero => intro h v1 v2 hf; unfold f_X9_deepCount_b46 at hf; cases hf
  | succ n wk46 =>
    intro h v1 v2 hf
    unfold f_X9_deepCount_b46 at hf
    refine gx_iload_n C dX9_deepCount_46 1 rfl ?_
    replace hf := gx_ite hf
    rcases hf with ⟨c8, hf⟩ | ⟨c8, hf⟩
    · refine gx_if_le_t (tgt := 134) C dX9_deepCount_47 rfl c8 ?_
      refine gx_iload_n C dX9_deepCount_134 2 rfl ?_
      obtain ⟨rfl, rfl⟩ := Prod.mk.inj (Option.some.inj hf)
      exact gx_iret C dX9_deepCount_135
    · refine gx_if_le_f (tgt := 134) C dX9_deepCount_47 rfl c8 ?_
      refine gx_inc (v := -1) C dX9_deepCount_50 1 rfl rfl (by decide) [0, 2] rfl (gx_okr rfl gx_catv_r (gx_okn rfl rfl gx_ok0)) ?_
      refine gx_aload_n C dX9_deepCount_53 1 rfl ?_
      refine gx_gr C (mh_gr (k := 28) rfl) gz_510 q2662 dX9_deepCount_54 ?_
      refine gx_iload_n C dX9_deepCount_57 0 rfl ?_
      replace hf := gx_bs hf
      obtain ⟨x9, g24, hf⟩ := hf
      refine gx_iald C (mh_ai g24) dX9_deepCount_58 ?_
      refine gx_istn C dX9_deepCount_59 3 rfl (by decide) [0, 1, 2]  rfl (gx_okn rfl rfl (gx_okn rfl rfl (gx_okr rfl gx_catv_i gx_ok0))) ?_
      refine gx_iconst (v := 0) C dX9_deepCount_60 rfl ?_
      refine gx_ist C dX9_deepCount_61 (by decide) [0, 1, 2, 3]  rfl (gx_okr rfl gx_catv_i (gx_okn rfl rfl (gx_okn rfl rfl (gx_okn rfl rfl gx_ok0)))) ?_
      refine gx_sub [3, 2, 4, 1, 0] rfl ?_
      exact w_X9_deepCount_b63 hlt C hx wk46 gx_fuel hf
def f_X9_deepCount_b22 (D : gx_D) (b : HX) (o : Nat) (h : MS) : Option ((Int32) × MS) :=
  (f_X9_here D b o h).bind fun x3 =>
  (ms_si h 11 (0 : Int32) x3).bind fun h4 =>
  (f_X9_here D b o h4).bind fun x6 =>
  (ms_sz h4 10 x6 (1 : Int32)).bind fun h7 =>
  f_X9_deepCount_b46 D b o gx_fuel h7 ((1 : Int32)) ((1 : Int32))
theorem w_X9_deepCount_b22 {l : Launch} (hlt : l.stackTraces = false) {p : Program} {e : Env} {R : Room} {s : State} {m : MethodId} {args : Array Value} {below : List Frame} {meth : Method} {c : Code} {D : gx_D} {b : HX} {o : Nat} {h0 : MS} {r : Int32} {hz : MS} (C : gx_Ctx p R s m args meth c "ContractMachineModel" cX9_deepCount 5 (some .int) 7 157 D (mh b o h0) (mh b o hz)) (hx : meth.name = "deepCount")  {h : MS} (hf : f_X9_deepCount_b22 D b o h = some (r, hz)) : gx_G p l e R s m args below meth c D (mh b o h0) (mh b o hz) 5 (gx_MQ below args s D (mh b o h0) (mh b o hz) (some (.int r))) 22 [(0, (va_rf (some o)))] [] (mh b o h) := by
  unfold f_X9_deepCount_b22 at hf
  refine gx_iconst (v := 1) C dX9_deepCount_22 rfl ?_
  refine gx_istn C dX9_deepCount_23 1 rfl (by decide) [0]  rfl (gx_okr rfl gx_catv_r gx_ok0) ?_
  refine gx_iconst (v := 1) C dX9_deepCount_24 rfl ?_
  refine gx_istn C dX9_deepCount_25 2 rfl (by decide) [0, 1]  rfl (gx_okr rfl gx_catv_i (gx_okn rfl rfl gx_ok0)) ?_
  refine gx_aload_n C dX9_deepCount_26 2 rfl ?_
  refine gx_gr C (mh_gr (k := 28) rfl) gz_510 q2662 dX9_deepCount_27 ?_
  refine gx_iconst (v := 0) C dX9_deepCount_30 rfl ?_
  refine gx_aload_n C dX9_deepCount_31 2 rfl ?_
  replace hf := gx_bs hf
  obtain ⟨x3, g2, hf⟩ := hf
  refine gx_callV (st := [(.int (0 : Int32)), (va_rf (some (o + 1 + 11)))]) C (w_X9_here hlt g2) mh_is gz_497 rfl (lw_V q2938 q2940 qs96 q151 q2941) gz_576 (by decide) rfl rfl (gx_catn (Nat.le_of_ble_eq_true rfl)) dX9_deepCount_32 ?_
  replace hf := gx_bs hf
  obtain ⟨h4, g26, hf⟩ := hf
  refine gx_iast C (mh_si g26) dX9_deepCount_35 ?_
  refine gx_aload_n C dX9_deepCount_36 2 rfl ?_
  refine gx_gr C (mh_gr (k := 27) rfl) gz_508 q2661 dX9_deepCount_37 ?_
  refine gx_aload_n C dX9_deepCount_40 2 rfl ?_
  replace hf := gx_bs hf
  obtain ⟨x6, g5, hf⟩ := hf
  refine gx_callV (st := [(va_rf (some (o + 1 + 10)))]) C (w_X9_here hlt g5) mh_is gz_497 rfl (lw_V q2938 q2940 qs96 q151 q2941) gz_576 (by decide) rfl rfl (gx_catn (Nat.le_of_ble_eq_true rfl)) dX9_deepCount_41 ?_
  refine gx_iconst (v := 1) C dX9_deepCount_44 rfl ?_
  replace hf := gx_bs hf
  obtain ⟨h7, g25, hf⟩ := hf
  refine gx_zast C (mh_sz g25) dX9_deepCount_45 ?_
  refine gx_sub [2, 1, 0] rfl ?_
  exact w_X9_deepCount_b46 hlt C hx gx_fuel hf
def f_X9_deepCount_b2 (D : gx_D) (b : HX) (o : Nat) : Nat → MS → Int32 → Option ((Int32) × MS)
  | 0, _, _ => none
  | n + 1, h, v1 =>
  if (10000 : Int32) ≤ v1 then
  f_X9_deepCount_b22 D b o h
  else
  (ms_sz h 10 v1 (0 : Int32)).bind fun h27 =>
  (f_X9_deepCount_b2 D b o n) h27 ((v1 + (1 : Int32)))
theorem w_X9_deepCount_b2 {l : Launch} (hlt : l.stackTraces = false) {p : Program} {e : Env} {R : Room} {s : State} {m : MethodId} {args : Array Value} {below : List Frame} {meth : Method} {c : Code} {D : gx_D} {b : HX} {o : Nat} {h0 : MS} {r : Int32} {hz : MS} (C : gx_Ctx p R s m args meth c "ContractMachineModel" cX9_deepCount 5 (some .int) 7 157 D (mh b o h0) (mh b o hz)) (hx : meth.name = "deepCount")  : ∀ (n : Nat) ⦃h : MS⦄ ⦃v1 : Int32⦄, f_X9_deepCount_b2 D b o n h v1 = some (r, hz) → gx_G p l e R s m args below meth c D (mh b o h0) (mh b o hz) 5 (gx_MQ below args s D (mh b o h0) (mh b o hz) (some (.int r))) 2 [(0, (va_rf (some o))), (1, (.int v1))] [] (mh b o h) := by
  intro n
  induction n with
  | zero => intro h v1 hf; unfold f_X9_deepCount_b2 at hf; cases hf
  | succ n wk2 =>
    intro h v1 hf
    unfold f_X9_deepCount_b2 at hf
    refine gx_iload_n C dX9_deepCount_2 1 rfl ?_
    refine gx_sipush (v := 10000) C dX9_deepCount_3 rfl ?_
    replace hf := gx_ite hf
    rcases hf with ⟨c1, hf⟩ | ⟨c1, hf⟩
    · refine gx_icmp_ge_t (tgt := 22) C dX9_deepCount_6 rfl c1 ?_
      refine gx_sub [0] rfl ?_
      exact w_X9_deepCount_b22 hlt C hx hf
    · refine gx_icmp_ge_f (tgt := 22) C dX9_deepCount_6 rfl c1 ?_
      refine gx_aload_n C dX9_deepCount_9 0 rfl ?_
      refine gx_gr C (mh_gr (k := 27) rfl) gz_508 q2661 dX9_deepCount_10 ?_
      refine gx_iload_n C dX9_deepCount_13 1 rfl ?_
      refine gx_iconst (v := 0) C dX9_deepCount_14 rfl ?_
      replace hf := gx_bs hf
      obtain ⟨h27, g28, hf⟩ := hf
      refine gx_zast C (mh_sz g28) dX9_deepCount_15 ?_
      refine gx_inc (v := 1) C dX9_deepCount_16 1 rfl rfl (by decide) [0] rfl (gx_okr rfl gx_catv_r gx_ok0) ?_
      refine gx_goto (tgt := 2) C dX9_deepCount_19 rfl ?_
      refine gx_sub [1, 0] rfl ?_
      exact wk2 hf
def f_X9_deepCount (D : gx_D) (b : HX) (o : Nat) (h : MS) : Option ((Int32) × MS) :=
  f_X9_deepCount_b2 D b o gx_fuel h ((0 : Int32))
theorem w_X9_deepCount_b {l : Launch} (hlt : l.stackTraces = false) {p : Program} {e : Env} {R : Room} {s : State} {m : MethodId} {args : Array Value} {below : List Frame} {meth : Method} {c : Code} {D : gx_D} {b : HX} {o : Nat} {h0 : MS} {r : Int32} {hz : MS} (C : gx_Ctx p R s m args meth c "ContractMachineModel" cX9_deepCount 5 (some .int) 7 157 D (mh b o h0) (mh b o hz)) (hx : meth.name = "deepCount") (hf : f_X9_deepCount D b o h0 = some (r, hz)) : gx_G p l e R s m args below meth c D (mh b o h0) (mh b o hz) 5 (gx_MQ below args s D (mh b o h0) (mh b o hz) (some (.int r))) 0 [(0, (va_rf (some o)))] [] (mh b o h0) := by
  unfold f_X9_deepCount at hf
  refine gx_iconst (v := 0) C dX9_deepCount_0 rfl ?_
  refine gx_istn C dX9_deepCount_1 1 rfl (by decide) [0]  rfl (gx_okr rfl gx_catv_r gx_ok0) ?_
  refine gx_sub [1, 0] rfl ?_
  exact w_X9_deepCount_b2 hlt C hx gx_fuel hf
theorem w_X9_deepCount {l : Launch} (hlt : l.stackTraces = false) {D : gx_D} {b : HX} {o : Nat} {h : MS} {r : Int32} {hz : MS} (hf : f_X9_deepCount D b o h = some (r, hz)) : gx_Met l yX9_deepCount cX9_deepCount 5 (some .int) 7 157 D [(va_rf (some o))] (mh b o h) (some (.int r)) (mh b o hz) :=
  gx_ofG gz_495 (by simp only [gx_lsr, gx_lsi, gx_lsj, gx_ls0]; decide) mh_le (fun p e R s m args below meth c C hx => by
    simp only [gx_lar, gx_lai, gx_laj, gx_la0, Nat.reduceAdd]
    exact w_X9_deepCount_b hlt C hx hf)
def f_X9_sumOf_b5 (D : gx_D) (b : HX) (o : Nat) : Nat → MS → Int32 → Int32 → Int32 → Int32 → Option Int32
  | 0, _, _, _, _, _ => none
  | n + 1, h, v1, v2, v3, v4 =>
  (ms_ai h 0 v2).bind fun x1 =>
  if x1 ≤ v4 then
  some v3
  else
  (ms_ai h 0 (v1 + v4)).bind fun x3 =>
  (f_X9_sumOf_b5 D b o n) h v1 v2 ((v3 + x3)) ((v4 + (1 : Int32)))
theorem w_X9_sumOf_b5 {l : Launch} (hlt : l.stackTraces = false) {p : Program} {e : Env} {R : Room} {s : State} {m : MethodId} {args : Array Value} {below : List Frame} {meth : Method} {c : Code} {D : gx_D} {b : HX} {o : Nat} {h0 : MS} {r : Int32} (C : gx_Ctx p R s m args meth c "ContractMachineModel" cX9_sumOf 5 (some .int) 1 24 D (mh b o h0) (mh b o h0)) (hx : meth.name = "sumOf")  : ∀ (n : Nat) ⦃v1 : Int32⦄ ⦃v2 : Int32⦄ ⦃v3 : Int32⦄ ⦃v4 : Int32⦄, f_X9_sumOf_b5 D b o n h0 v1 v2 v3 v4 = some r → gx_G p l e R s m args below meth c D (mh b o h0) (mh b o h0) 5 (gx_MQ below args s D (mh b o h0) (mh b o h0) (some (.int r))) 5 [(0, (va_rf (some o))), (1, (.int v1)), (2, (.int v2)), (3, (.int v3)), (4, (.int v4))] [] (mh b o h0) := by
  intro n
  induction n with
  | zero => intro v1 v2 v3 v4 hf; unfold f_X9_sumOf_b5 at hf; cases hf
  | succ n wk5 =>
    intro v1 v2 v3 v4 hf
    unfold f_X9_sumOf_b5 at hf
    refine gx_iload C dX9_sumOf_5 4 rfl ?_
    refine gx_aload_n C dX9_sumOf_7 0 rfl ?_
    refine gx_gr C (mh_gr (k := 0) rfl) gz_494 q2634 dX9_sumOf_8 ?_
    refine gx_iload_n C dX9_sumOf_11 2 rfl ?_
    replace hf := gx_bs hf
    obtain ⟨x1, g5, hf⟩ := hf
    refine gx_iald C (mh_ai g5) dX9_sumOf_12 ?_
    replace hf := gx_ite hf
    rcases hf with ⟨c2, hf⟩ | ⟨c2, hf⟩
    · refine gx_icmp_ge_t (tgt := 34) C dX9_sumOf_13 rfl c2 ?_
      refine gx_iload_n C dX9_sumOf_34 3 rfl ?_
      obtain rfl := Option.some.inj hf
      exact gx_iret C dX9_sumOf_35
    · refine gx_icmp_ge_f (tgt := 34) C dX9_sumOf_13 rfl c2 ?_
      refine gx_iload_n C dX9_sumOf_16 3 rfl ?_
      refine gx_aload_n C dX9_sumOf_17 0 rfl ?_
      refine gx_gr C (mh_gr (k := 0) rfl) gz_494 q2634 dX9_sumOf_18 ?_
      refine gx_iload_n C dX9_sumOf_21 1 rfl ?_
      refine gx_iload C dX9_sumOf_22 4 rfl ?_
      refine gx_iadd C dX9_sumOf_24 ?_
      replace hf := gx_bs hf
      obtain ⟨x3, g4, hf⟩ := hf
      refine gx_iald C (mh_ai g4) dX9_sumOf_25 ?_
      refine gx_iadd C dX9_sumOf_26 ?_
      refine gx_istn C dX9_sumOf_27 3 rfl (by decide) [0, 1, 2, 4]  rfl (gx_okn rfl rfl (gx_okn rfl rfl (gx_okr rfl gx_catv_i (gx_okn rfl rfl gx_ok0)))) ?_
      refine gx_inc (v := 1) C dX9_sumOf_28 4 rfl rfl (by decide) [0, 1, 2, 3] rfl (gx_okr rfl gx_catv_i (gx_okn rfl rfl (gx_okn rfl rfl (gx_okn rfl rfl gx_ok0)))) ?_
      refine gx_goto (tgt := 5) C dX9_sumOf_31 rfl ?_
      refine gx_sub [2, 3, 4, 1, 0] rfl ?_
      exact wk5 hf
def f_X9_sumOf (D : gx_D) (b : HX) (o : Nat) (h : MS) (p1 : Int32) (p2 : Int32) : Option Int32 :=
  f_X9_sumOf_b5 D b o gx_fuel h p1 p2 ((0 : Int32)) ((0 : Int32))
theorem w_X9_sumOf_b {l : Launch} (hlt : l.stackTraces = false) {p : Program} {e : Env} {R : Room} {s : State} {m : MethodId} {args : Array Value} {below : List Frame} {meth : Method} {c : Code} {D : gx_D} {b : HX} {o : Nat} {h0 : MS} {r : Int32} (C : gx_Ctx p R s m args meth c "ContractMachineModel" cX9_sumOf 5 (some .int) 1 24 D (mh b o h0) (mh b o h0)) (hx : meth.name = "sumOf") {p1 : Int32} {p2 : Int32} (hf : f_X9_sumOf D b o h0 p1 p2 = some r) : gx_G p l e R s m args below meth c D (mh b o h0) (mh b o h0) 5 (gx_MQ below args s D (mh b o h0) (mh b o h0) (some (.int r))) 0 [(0, (va_rf (some o))), (1, (.int p1)), (2, (.int p2))] [] (mh b o h0) := by
  unfold f_X9_sumOf at hf
  refine gx_iconst (v := 0) C dX9_sumOf_0 rfl ?_
  refine gx_istn C dX9_sumOf_1 3 rfl (by decide) [0, 1, 2]  rfl (gx_okn rfl rfl (gx_okn rfl rfl (gx_okr rfl gx_catv_i gx_ok0))) ?_
  refine gx_iconst (v := 0) C dX9_sumOf_2 rfl ?_
  refine gx_ist C dX9_sumOf_3 (by decide) [0, 1, 2, 3]  rfl (gx_okr rfl gx_catv_i (gx_okn rfl rfl (gx_okn rfl rfl (gx_okn rfl rfl gx_ok0)))) ?_
  refine gx_sub [2, 3, 4, 1, 0] rfl ?_
  exact w_X9_sumOf_b5 hlt C hx gx_fuel hf
theorem w_X9_sumOf {l : Launch} (hlt : l.stackTraces = false) {D : gx_D} {b : HX} {o : Nat} {h : MS} {p1 : Int32} {p2 : Int32} {r : Int32} (hf : f_X9_sumOf D b o h p1 p2 = some r) : gx_Met l yX9_sumOf cX9_sumOf 5 (some .int) 1 24 D [(va_rf (some o)), (.int p1), (.int p2)] (mh b o h) (some (.int r)) (mh b o h) :=
  gx_ofG gz_495 (by simp only [gx_lsr, gx_lsi, gx_lsj, gx_ls0]; decide) gx_le.rf (fun p e R s m args below meth c C hx => by
    simp only [gx_lar, gx_lai, gx_laj, gx_la0, Nat.reduceAdd]
    exact w_X9_sumOf_b hlt C hx hf)
def f_X9_isConsistent_b82 (D : gx_D) (b : HX) (o : Nat) (h : MS) (v1 : Int32) : Option ((Bool) × MS) :=
  (f_X9_here D b o h).bind fun x17 =>
  (f_X9_searches D b o h x17).bind fun h19 =>
  (ms_ai h19 0 (17 : Int32)).bind fun x20 =>
  if v1 = x20 then
  gx_b2 (f_X9_deepCount D b o h19) fun x23 h24 =>
  if (h19.1 11) = x23 then
  some (true, h24)
  else
  some (false, h24)
  else
  some (false, h19)
theorem w_X9_isConsistent_b82 {l : Launch} (hlt : l.stackTraces = false) {p : Program} {e : Env} {R : Room} {s : State} {m : MethodId} {args : Array Value} {below : List Frame} {meth : Method} {c : Code} {D : gx_D} {b : HX} {o : Nat} {h0 : MS} {r : Bool} {hz : MS} (C : gx_Ctx p R s m args meth c "ContractMachineModel" cX9_isConsistent 3 (some .boolean) 8 181 D (mh b o h0) (mh b o hz)) (hx : meth.name = "isConsistent")  {h : MS} {v1 : Int32} (hf : f_X9_isConsistent_b82 D b o h v1 = some (r, hz)) : gx_G p l e R s m args below meth c D (mh b o h0) (mh b o hz) 3 (gx_MQ below args s D (mh b o h0) (mh b o hz) (some (.int (b2i r)))) 82 [(0, (va_rf (some o))), (1, (.int v1))] [] (mh b o h) := by
  unfold f_X9_isConsistent_b82 at hf
  refine gx_aload_n C dX9_isConsistent_82 0 rfl ?_
  refine gx_aload_n C dX9_isConsistent_83 0 rfl ?_
  replace hf := gx_bs hf
  obtain ⟨x17, g16, hf⟩ := hf
  refine gx_callV (st := [(va_rf (some o))]) C (w_X9_here hlt g16) mh_is gz_497 rfl (lw_V q2938 q2940 qs96 q151 q2941) gz_576 (by decide) rfl rfl (gx_catn (Nat.le_of_ble_eq_true rfl)) dX9_isConsistent_84 ?_
  replace hf := gx_bs hf
  obtain ⟨h19, g18, hf⟩ := hf
  refine gx_callV (st := []) C (w_X9_searches hlt g18) mh_is gz_497 rfl (lw_V q3156 q3158 qs112 q151 q3159) gz_597 (by decide) rfl rfl (gx_catn (Nat.le_of_ble_eq_true rfl)) dX9_isConsistent_87 ?_
  refine gx_iload_n C dX9_isConsistent_90 1 rfl ?_
  refine gx_aload_n C dX9_isConsistent_91 0 rfl ?_
  refine gx_gr C (mh_gr (k := 0) rfl) gz_494 q2634 dX9_isConsistent_92 ?_
  refine gx_bipush (v := 17) C dX9_isConsistent_95 rfl ?_
  replace hf := gx_bs hf
  obtain ⟨x20, g26, hf⟩ := hf
  refine gx_iald C (mh_ai g26) dX9_isConsistent_97 ?_
  replace hf := gx_ite hf
  rcases hf with ⟨c21, hf⟩ | ⟨c21, hf⟩
  · refine gx_icmp_ne_f (tgt := 116) C dX9_isConsistent_98 rfl c21 ?_
    refine gx_aload_n C dX9_isConsistent_101 0 rfl ?_
    refine gx_gi C (mh_gi (k := 11) rfl) gz_595 q2645 dX9_isConsistent_102 ?_
    refine gx_aload_n C dX9_isConsistent_105 0 rfl ?_
    replace hf := gx_b2s hf
    obtain ⟨x23, h24, g22, hf⟩ := hf
    refine gx_callV (st := [(.int (h19.1 11))]) C (w_X9_deepCount hlt g22) mh_is gz_497 rfl (lw_V q3200 q3202 qs116 q151 q3203) gz_600 (by decide) rfl rfl (gx_catn (Nat.le_of_ble_eq_true rfl)) dX9_isConsistent_106 ?_
    replace hf := gx_ite hf
    rcases hf with ⟨c25, hf⟩ | ⟨c25, hf⟩
    · refine gx_icmp_ne_f (tgt := 116) C dX9_isConsistent_109 rfl c25 ?_
      refine gx_iconst (v := 1) C dX9_isConsistent_112 rfl ?_
      refine gx_goto (tgt := 117) C dX9_isConsistent_113 rfl ?_
      obtain ⟨rfl, rfl⟩ := Prod.mk.inj (Option.some.inj hf)
      exact gx_zret (b := true) C dX9_isConsistent_117
    · refine gx_icmp_ne_t (tgt := 116) C dX9_isConsistent_109 rfl c25 ?_
      refine gx_iconst (v := 0) C dX9_isConsistent_116 rfl ?_
      obtain ⟨rfl, rfl⟩ := Prod.mk.inj (Option.some.inj hf)
      exact gx_zret (b := false) C dX9_isConsistent_117
  · refine gx_icmp_ne_t (tgt := 116) C dX9_isConsistent_98 rfl c21 ?_
    refine gx_iconst (v := 0) C dX9_isConsistent_116 rfl ?_
    obtain ⟨rfl, rfl⟩ := Prod.mk.inj (Option.some.inj hf)
    exact gx_zret (b := false) C dX9_isConsistent_117
def f_X9_isConsistent_b59 (D : gx_D) (b : HX) (o : Nat) : Nat → MS → Int32 → Int32 → Option ((Bool) × MS)
  | 0, _, _, _ => none
  | n + 1, h, v1, v2 =>
  if (4 : Int32) < v2 then
  f_X9_isConsistent_b82 D b o h v1
  else
  (ms_ai h 0 ((12 : Int32) + v2)).bind fun x27 =>
  (f_X9_isConsistent_b59 D b o n) h ((v1 + x27)) ((v2 + (1 : Int32)))
theorem w_X9_isConsistent_b59 {l : Launch} (hlt : l.stackTraces = false) {p : Program} {e : Env} {R : Room} {s : State} {m : MethodId} {args : Array Value} {below : List Frame} {meth : Method} {c : Code} {D : gx_D} {b : HX} {o : Nat} {h0 : MS} {r : Bool} {hz : MS} (C : gx_Ctx p R s m args meth c "ContractMachineModel" cX9_isConsistent 3 (some .boolean) 8 181 D (mh b o h0) (mh b o hz)) (hx : meth.name = "isConsistent")  : ∀ (n : Nat) ⦃h : MS⦄ ⦃v1 : Int32⦄ ⦃v2 : Int32⦄, f_X9_isConsistent_b59 D b o n h v1 v2 = some (r, hz) → gx_G p l e R s m args below meth c D (mh b o h0) (mh b o hz) 3 (gx_MQ below args s D (mh b o h0) (mh b o hz) (some (.int (b2i r)))) 59 [(0, (va_rf (some o))), (1, (.int v1)), (2, (.int v2))] [] (mh b o h) := by
  intro n
  induction n with
  | zero => intro h v1 v2 hf; unfold f_X9_isConsistent_b59 at hf; cases hf
  | succ n wk59 =>
    intro h v1 v2 hf
    unfold f_X9_isConsistent_b59 at hf
    refine gx_iload_n C dX9_isConsistent_59 2 rfl ?_
    refine gx_iconst (v := 4) C dX9_isConsistent_60 rfl ?_
    replace hf := gx_ite hf
    rcases hf with ⟨c15, hf⟩ | ⟨c15, hf⟩
    · refine gx_icmp_gt_t (tgt := 82) C dX9_isConsistent_61 rfl c15 ?_
      refine gx_sub [0, 1] rfl ?_
      exact w_X9_isConsistent_b82 hlt C hx hf
    · refine gx_icmp_gt_f (tgt := 82) C dX9_isConsistent_61 rfl c15 ?_
      refine gx_iload_n C dX9_isConsistent_64 1 rfl ?_
      refine gx_aload_n C dX9_isConsistent_65 0 rfl ?_
      refine gx_gr C (mh_gr (k := 0) rfl) gz_494 q2634 dX9_isConsistent_66 ?_
      refine gx_bipush (v := 12) C dX9_isConsistent_69 rfl ?_
      refine gx_iload_n C dX9_isConsistent_71 2 rfl ?_
      refine gx_iadd C dX9_isConsistent_72 ?_
      replace hf := gx_bs hf
      obtain ⟨x27, g28, hf⟩ := hf
      refine gx_iald C (mh_ai g28) dX9_isConsistent_73 ?_
      refine gx_iadd C dX9_isConsistent_74 ?_
      refine gx_istn C dX9_isConsistent_75 1 rfl (by decide) [0, 2]  rfl (gx_okr rfl gx_catv_r (gx_okn rfl rfl gx_ok0)) ?_
      refine gx_inc (v := 1) C dX9_isConsistent_76 2 rfl rfl (by decide) [0, 1] rfl (gx_okr rfl gx_catv_i (gx_okn rfl rfl gx_ok0)) ?_
      refine gx_goto (tgt := 59) C dX9_isConsistent_79 rfl ?_
      refine gx_sub [2, 1, 0] rfl ?_
      exact wk59 hf
def f_X9_isConsistent (D : gx_D) (b : HX) (o : Nat) (h : MS) : Option ((Bool) × MS) :=
  (ms_pf h 6 (0 : Int32)).bind fun h1 =>
  (f_X9_here D b o h1).bind fun x3 =>
  (f_X9_firstBroken D b o h1 x3).bind fun x5 =>
  if x5 = (-1 : Int32) then
  (f_X9_sumOf D b o h1 (69 : Int32) (3 : Int32)).bind fun x8 =>
  (ms_ai h1 0 (12 : Int32)).bind fun x9 =>
  if x8 = x9 then
  (f_X9_sumOf D b o h1 (59 : Int32) (0 : Int32)).bind fun x12 =>
  (ms_ai h1 0 (12 : Int32)).bind fun x13 =>
  if x12 = (x13 + (1 : Int32)) then
  f_X9_isConsistent_b59 D b o gx_fuel h1 ((0 : Int32)) ((1 : Int32))
  else
  some (false, h1)
  else
  some (false, h1)
  else
  some (false, h1)
theorem w_X9_isConsistent_b {l : Launch} (hlt : l.stackTraces = false) {p : Program} {e : Env} {R : Room} {s : State} {m : MethodId} {args : Array Value} {below : List Frame} {meth : Method} {c : Code} {D : gx_D} {b : HX} {o : Nat} {h0 : MS} {r : Bool} {hz : MS} (C : gx_Ctx p R s m args meth c "ContractMachineModel" cX9_isConsistent 3 (some .boolean) 8 181 D (mh b o h0) (mh b o hz)) (hx : meth.name = "isConsistent") (hf : f_X9_isConsistent D b o h0 = some (r, hz)) : gx_G p l e R s m args below meth c D (mh b o h0) (mh b o hz) 3 (gx_MQ below args s D (mh b o h0) (mh b o hz) (some (.int (b2i r)))) 0 [(0, (va_rf (some o)))] [] (mh b o h0) := by
  unfold f_X9_isConsistent at hf
  refine gx_aload_n C dX9_isConsistent_0 0 rfl ?_
  refine gx_iconst (v := 0) C dX9_isConsistent_1 rfl ?_
  replace hf := gx_bs hf
  obtain ⟨h1, g31, hf⟩ := hf
  refine gx_putv C (mh_pg (by decide) (fun _ _ => mh_p6) g31) gz_519 gz_1 rfl rfl q2640 dX9_isConsistent_2 ?_
  refine gx_aload_n C dX9_isConsistent_5 0 rfl ?_
  refine gx_aload_n C dX9_isConsistent_6 0 rfl ?_
  replace hf := gx_bs hf
  obtain ⟨x3, g2, hf⟩ := hf
  refine gx_callV (st := [(va_rf (some o))]) C (w_X9_here hlt g2) mh_is gz_497 rfl (lw_V q2938 q2940 qs96 q151 q2941) gz_576 (by decide) rfl rfl (gx_catn (Nat.le_of_ble_eq_true rfl)) dX9_isConsistent_7 ?_
  replace hf := gx_bs hf
  obtain ⟨x5, g4, hf⟩ := hf
  refine gx_callV (st := []) C (w_X9_firstBroken hlt g4) mh_is gz_497 rfl (lw_V q2875 q2877 qs85 q151 q2878) gz_560 (by decide) rfl rfl (gx_catn (Nat.le_of_ble_eq_true rfl)) dX9_isConsistent_10 ?_
  refine gx_iconst (v := -1) C dX9_isConsistent_13 rfl ?_
  replace hf := gx_ite hf
  rcases hf with ⟨c6, hf⟩ | ⟨c6, hf⟩
  · refine gx_icmp_ne_f (tgt := 53) C dX9_isConsistent_14 rfl c6 ?_
    refine gx_aload_n C dX9_isConsistent_17 0 rfl ?_
    refine gx_bipush (v := 69) C dX9_isConsistent_18 rfl ?_
    refine gx_iconst (v := 3) C dX9_isConsistent_20 rfl ?_
    replace hf := gx_bs hf
    obtain ⟨x8, g7, hf⟩ := hf
    refine gx_callV (st := []) C (w_X9_sumOf hlt g7) mh_is gz_497 rfl (lw_V q3196 q3198 qs115 q151 q3199) gz_599 (by decide) rfl rfl (gx_catn (Nat.le_of_ble_eq_true rfl)) dX9_isConsistent_21 ?_
    refine gx_aload_n C dX9_isConsistent_24 0 rfl ?_
    refine gx_gr C (mh_gr (k := 0) rfl) gz_494 q2634 dX9_isConsistent_25 ?_
    refine gx_bipush (v := 12) C dX9_isConsistent_28 rfl ?_
    replace hf := gx_bs hf
    obtain ⟨x9, g30, hf⟩ := hf
    refine gx_iald C (mh_ai g30) dX9_isConsistent_30 ?_
    replace hf := gx_ite hf
    rcases hf with ⟨c10, hf⟩ | ⟨c10, hf⟩
    · refine gx_icmp_ne_f (tgt := 53) C dX9_isConsistent_31 rfl c10 ?_
      refine gx_aload_n C dX9_isConsistent_34 0 rfl ?_
      refine gx_bipush (v := 59) C dX9_isConsistent_35 rfl ?_
      refine gx_iconst (v := 0) C dX9_isConsistent_37 rfl ?_
      replace hf := gx_bs hf
      obtain ⟨x12, g11, hf⟩ := hf
      refine gx_callV (st := []) C (w_X9_sumOf hlt g11) mh_is gz_497 rfl (lw_V q3196 q3198 qs115 q151 q3199) gz_599 (by decide) rfl rfl (gx_catn (Nat.le_of_ble_eq_true rfl)) dX9_isConsistent_38 ?_
      refine gx_aload_n C dX9_isConsistent_41 0 rfl ?_
      refine gx_gr C (mh_gr (k := 0) rfl) gz_494 q2634 dX9_isConsistent_42 ?_
      refine gx_bipush (v := 12) C dX9_isConsistent_45 rfl ?_
      replace hf := gx_bs hf
      obtain ⟨x13, g29, hf⟩ := hf
      refine gx_iald C (mh_ai g29) dX9_isConsistent_47 ?_
      refine gx_iconst (v := 1) C dX9_isConsistent_48 rfl ?_
      refine gx_iadd C dX9_isConsistent_49 ?_
      replace hf := gx_ite hf
      rcases hf with ⟨c14, hf⟩ | ⟨c14, hf⟩
      · refine gx_icmp_eq_t (tgt := 55) C dX9_isConsistent_50 rfl c14 ?_
        refine gx_iconst (v := 0) C dX9_isConsistent_55 rfl ?_
        refine gx_istn C dX9_isConsistent_56 1 rfl (by decide) [0]  rfl (gx_okr rfl gx_catv_r gx_ok0) ?_
        refine gx_iconst (v := 1) C dX9_isConsistent_57 rfl ?_
        refine gx_istn C dX9_isConsistent_58 2 rfl (by decide) [0, 1]  rfl (gx_okr rfl gx_catv_i (gx_okn rfl rfl gx_ok0)) ?_
        refine gx_sub [2, 1, 0] rfl ?_
        exact w_X9_isConsistent_b59 hlt C hx gx_fuel hf
      · refine gx_icmp_eq_f (tgt := 55) C dX9_isConsistent_50 rfl c14 ?_
        refine gx_iconst (v := 0) C dX9_isConsistent_53 rfl ?_
        obtain ⟨rfl, rfl⟩ := Prod.mk.inj (Option.some.inj hf)
        exact gx_zret (b := false) C dX9_isConsistent_54
    · refine gx_icmp_ne_t (tgt := 53) C dX9_isConsistent_31 rfl c10 ?_
      refine gx_iconst (v := 0) C dX9_isConsistent_53 rfl ?_
      obtain ⟨rfl, rfl⟩ := Prod.mk.inj (Option.some.inj hf)
      exact gx_zret (b := false) C dX9_isConsistent_54
  · refine gx_icmp_ne_t (tgt := 53) C dX9_isConsistent_14 rfl c6 ?_
    refine gx_iconst (v := 0) C dX9_isConsistent_53 rfl ?_
    obtain ⟨rfl, rfl⟩ := Prod.mk.inj (Option.some.inj hf)
    exact gx_zret (b := false) C dX9_isConsistent_54
theorem w_X9_isConsistent {l : Launch} (hlt : l.stackTraces = false) {D : gx_D} {b : HX} {o : Nat} {h : MS} {r : Bool} {hz : MS} (hf : f_X9_isConsistent D b o h = some (r, hz)) : gx_Met l yX9_isConsistent cX9_isConsistent 3 (some .boolean) 8 181 D [(va_rf (some o))] (mh b o h) (some (.int (b2i r))) (mh b o hz) :=
  gx_ofG gz_495 (by simp only [gx_lsr, gx_lsi, gx_lsj, gx_ls0]; decide) mh_le (fun p e R s m args below meth c C hx => by
    simp only [gx_lar, gx_lai, gx_laj, gx_la0, Nat.reduceAdd]
    exact w_X9_isConsistent_b hlt C hx hf)
def f_X9_meanValue (D : gx_D) (b : HX) (o : Nat) (h : MS) : Option ((UInt64) × MS) :=
  (ms_pf h 6 (0 : Int32)).bind fun h1 =>
  (f_X9_sumOf D b o h1 (6 : Int32) (2 : Int32)).bind fun x3 =>
  (ms_ai h1 0 (2 : Int32)).bind fun x4 =>
  if (FP.ddiv (FP.i2d x3) (FP.i2d x4)) &&& 0x7fffffffffffffff ≤ 0x7ff0000000000000 then
  some ((FP.ddiv (FP.i2d x3) (FP.i2d x4)), h1)
  else none
theorem w_X9_meanValue_b {l : Launch} (hlt : l.stackTraces = false) {p : Program} {e : Env} {R : Room} {s : State} {m : MethodId} {args : Array Value} {below : List Frame} {meth : Method} {c : Code} {D : gx_D} {b : HX} {o : Nat} {h0 : MS} {r : UInt64} {hz : MS} (C : gx_Ctx p R s m args meth c "ContractMachineModel" cX9_meanValue 1 (some .double) 2 48 D (mh b o h0) (mh b o hz)) (hx : meth.name = "meanValue") (hf : f_X9_meanValue D b o h0 = some (r, hz)) : gx_G p l e R s m args below meth c D (mh b o h0) (mh b o hz) 1 (gx_MQ below args s D (mh b o h0) (mh b o hz) (some (.double r))) 0 [(0, (va_rf (some o)))] [] (mh b o h0) := by
  unfold f_X9_meanValue at hf
  refine gx_aload_n C dX9_meanValue_0 0 rfl ?_
  refine gx_iconst (v := 0) C dX9_meanValue_1 rfl ?_
  replace hf := gx_bs hf
  obtain ⟨h1, g7, hf⟩ := hf
  refine gx_putv C (mh_pg (by decide) (fun _ _ => mh_p6) g7) gz_519 gz_1 rfl rfl q2640 dX9_meanValue_2 ?_
  refine gx_aload_n C dX9_meanValue_5 0 rfl ?_
  refine gx_bipush (v := 6) C dX9_meanValue_6 rfl ?_
  refine gx_iconst (v := 2) C dX9_meanValue_8 rfl ?_
  replace hf := gx_bs hf
  obtain ⟨x3, g2, hf⟩ := hf
  refine gx_callV (st := []) C (w_X9_sumOf hlt g2) mh_is gz_497 rfl (lw_V q3196 q3198 qs115 q151 q3199) gz_599 (by decide) rfl rfl (gx_catn (Nat.le_of_ble_eq_true rfl)) dX9_meanValue_9 ?_
  refine gx_i2d C dX9_meanValue_12 ?_
  refine gx_aload_n C dX9_meanValue_13 0 rfl ?_
  refine gx_gr C (mh_gr (k := 0) rfl) gz_494 q2634 dX9_meanValue_14 ?_
  refine gx_iconst (v := 2) C dX9_meanValue_17 rfl ?_
  replace hf := gx_bs hf
  obtain ⟨x4, g6, hf⟩ := hf
  refine gx_iald C (mh_ai g6) dX9_meanValue_18 ?_
  refine gx_i2d C dX9_meanValue_19 ?_
  replace hf := gx_ite hf
  rcases hf with ⟨c5, hf⟩ | ⟨c5, hf⟩
  rotate_left
  · cases hf
  refine gx_ddiv C dX9_meanValue_20 c5 ?_
  obtain ⟨rfl, rfl⟩ := Prod.mk.inj (Option.some.inj hf)
  exact gx_dret C dX9_meanValue_21
theorem w_X9_meanValue {l : Launch} (hlt : l.stackTraces = false) {D : gx_D} {b : HX} {o : Nat} {h : MS} {r : UInt64} {hz : MS} (hf : f_X9_meanValue D b o h = some (r, hz)) : gx_Met l yX9_meanValue cX9_meanValue 1 (some .double) 2 48 D [(va_rf (some o))] (mh b o h) (some (.double r)) (mh b o hz) :=
  gx_ofG gz_495 (by simp only [gx_lsr, gx_lsi, gx_lsj, gx_ls0]; decide) mh_le (fun p e R s m args below meth c C hx => by
    simp only [gx_lar, gx_lai, gx_laj, gx_la0, Nat.reduceAdd]
    exact w_X9_meanValue_b hlt C hx hf)
def f_X9_fire (D : gx_D) (b : HX) (o : Nat) (h : MS) (p1 : Int32) : Option ((Int32) × MS) :=
  (ms_pf h 6 (0 : Int32)).bind fun h1 =>
  gx_b2 (f_X9_no D b o h1 p1 (1 : Int32)) fun b3 h4 =>
  if b3 = true then
  some ((0 : Int32), h4)
  else
  (f_X9_remembers D b o h4).bind fun h7 =>
  gx_b2 (f_X9_fires D b o h7 p1) fun x9 h10 =>
  some (x9, h10)
theorem w_X9_fire_b {l : Launch} (hlt : l.stackTraces = false) {p : Program} {e : Env} {R : Room} {s : State} {m : MethodId} {args : Array Value} {below : List Frame} {meth : Method} {c : Code} {D : gx_D} {b : HX} {o : Nat} {h0 : MS} {r : Int32} {hz : MS} (C : gx_Ctx p R s m args meth c "ContractMachineModel" cX9_fire 2 (some .int) 8 180 D (mh b o h0) (mh b o hz)) (hx : meth.name = "fire") {p1 : Int32} (hf : f_X9_fire D b o h0 p1 = some (r, hz)) : gx_G p l e R s m args below meth c D (mh b o h0) (mh b o hz) 2 (gx_MQ below args s D (mh b o h0) (mh b o hz) (some (.int r))) 0 [(0, (va_rf (some o))), (1, (.int p1))] [] (mh b o h0) := by
  unfold f_X9_fire at hf
  refine gx_aload_n C dX9_fire_0 0 rfl ?_
  refine gx_iconst (v := 0) C dX9_fire_1 rfl ?_
  replace hf := gx_bs hf
  obtain ⟨h1, g11, hf⟩ := hf
  refine gx_putv C (mh_pg (by decide) (fun _ _ => mh_p6) g11) gz_519 gz_1 rfl rfl q2640 dX9_fire_2 ?_
  refine gx_aload_n C dX9_fire_5 0 rfl ?_
  refine gx_iload_n C dX9_fire_6 1 rfl ?_
  refine gx_iconst (v := 1) C dX9_fire_7 rfl ?_
  replace hf := gx_b2s hf
  obtain ⟨b3, h4, g2, hf⟩ := hf
  refine gx_callV (st := []) C (w_X9_no hlt g2) mh_is gz_497 rfl (lw_V q3033 q3035 qs107 q151 q3036) gz_590 (by decide) rfl rfl (gx_catn (Nat.le_of_ble_eq_true rfl)) dX9_fire_8 ?_
  replace hf := gx_ite hf
  rcases hf with ⟨c5, hf⟩ | ⟨c5, hf⟩
  · refine gx_ifz_eq_f (tgt := 16) C dX9_fire_11 rfl c5 ?_
    refine gx_iconst (v := 0) C dX9_fire_14 rfl ?_
    obtain ⟨rfl, rfl⟩ := Prod.mk.inj (Option.some.inj hf)
    exact gx_iret C dX9_fire_15
  · refine gx_ifz_eq_t (tgt := 16) C dX9_fire_11 rfl c5 ?_
    refine gx_aload_n C dX9_fire_16 0 rfl ?_
    replace hf := gx_bs hf
    obtain ⟨h7, g6, hf⟩ := hf
    refine gx_callV (st := []) C (w_X9_remembers hlt g6) mh_is gz_497 rfl (lw_V q2926 q2928 qs93 q151 q2929) gz_586 (by decide) rfl rfl (gx_catn (Nat.le_of_ble_eq_true rfl)) dX9_fire_17 ?_
    refine gx_aload_n C dX9_fire_20 0 rfl ?_
    refine gx_iload_n C dX9_fire_21 1 rfl ?_
    replace hf := gx_b2s hf
    obtain ⟨x9, h10, g8, hf⟩ := hf
    refine gx_callV (st := []) C (w_X9_fires hlt g8) mh_is gz_497 rfl (lw_V q2934 q2936 qs95 q151 q2937) gz_579 (by decide) rfl rfl (gx_catn (Nat.le_of_ble_eq_true rfl)) dX9_fire_22 ?_
    obtain ⟨rfl, rfl⟩ := Prod.mk.inj (Option.some.inj hf)
    exact gx_iret C dX9_fire_25
theorem w_X9_fire {l : Launch} (hlt : l.stackTraces = false) {D : gx_D} {b : HX} {o : Nat} {h : MS} {p1 : Int32} {r : Int32} {hz : MS} (hf : f_X9_fire D b o h p1 = some (r, hz)) : gx_Met l yX9_fire cX9_fire 2 (some .int) 8 180 D [(va_rf (some o)), (.int p1)] (mh b o h) (some (.int r)) (mh b o hz) :=
  gx_ofG gz_495 (by simp only [gx_lsr, gx_lsi, gx_lsj, gx_ls0]; decide) mh_le (fun p e R s m args below meth c C hx => by
    simp only [gx_lar, gx_lai, gx_laj, gx_la0, Nat.reduceAdd]
    exact w_X9_fire_b hlt C hx hf)
def f_X9_setValue_b52 (D : gx_D) (b : HX) (o : Nat) (h : MS) (v1 : Int32) (v2 : Int32) (s0 : Bool) : Option ((Int32) × MS) :=
  gx_b2 (f_X9_fails D b o h s0 (3 : Int32)) fun b17 h18 =>
  if b17 = true then
  some ((0 : Int32), h18)
  else
  (f_X9_remembers D b o h18).bind fun h21 =>
  gx_b2 (f_X9_setsValue D b o h21 v1 v2) fun x23 h24 =>
  some (x23, h24)
theorem w_X9_setValue_b52 {l : Launch} (hlt : l.stackTraces = false) {p : Program} {e : Env} {R : Room} {s : State} {m : MethodId} {args : Array Value} {below : List Frame} {meth : Method} {c : Code} {D : gx_D} {b : HX} {o : Nat} {h0 : MS} {r : Int32} {hz : MS} (C : gx_Ctx p R s m args meth c "ContractMachineModel" cX9_setValue 3 (some .int) 7 154 D (mh b o h0) (mh b o hz)) (hx : meth.name = "setValue")  {h : MS} {v1 : Int32} {v2 : Int32} {s0 : Bool} (hf : f_X9_setValue_b52 D b o h v1 v2 s0 = some (r, hz)) : gx_G p l e R s m args below meth c D (mh b o h0) (mh b o hz) 3 (gx_MQ below args s D (mh b o h0) (mh b o hz) (some (.int r))) 52 [(0, (va_rf (some o))), (1, (.int v1)), (2, (.int v2))] [(.int (b2i s0)), (va_rf (some o))] (mh b o h) := by
  unfold f_X9_setValue_b52 at hf
  refine gx_iconst (v := 3) C dX9_setValue_52 rfl ?_
  replace hf := gx_b2s hf
  obtain ⟨b17, h18, g16, hf⟩ := hf
  refine gx_callV (st := []) C (w_X9_fails hlt g16) mh_is gz_497 rfl (lw_V q3037 q3039 qs108 q151 q3040) gz_589 (by decide) rfl rfl (gx_catn (Nat.le_of_ble_eq_true rfl)) dX9_setValue_53 ?_
  replace hf := gx_ite hf
  rcases hf with ⟨c19, hf⟩ | ⟨c19, hf⟩
  · refine gx_ifz_eq_f (tgt := 61) C dX9_setValue_56 rfl c19 ?_
    refine gx_iconst (v := 0) C dX9_setValue_59 rfl ?_
    obtain ⟨rfl, rfl⟩ := Prod.mk.inj (Option.some.inj hf)
    exact gx_iret C dX9_setValue_60
  · refine gx_ifz_eq_t (tgt := 61) C dX9_setValue_56 rfl c19 ?_
    refine gx_aload_n C dX9_setValue_61 0 rfl ?_
    replace hf := gx_bs hf
    obtain ⟨h21, g20, hf⟩ := hf
    refine gx_callV (st := []) C (w_X9_remembers hlt g20) mh_is gz_497 rfl (lw_V q2926 q2928 qs93 q151 q2929) gz_586 (by decide) rfl rfl (gx_catn (Nat.le_of_ble_eq_true rfl)) dX9_setValue_62 ?_
    refine gx_aload_n C dX9_setValue_65 0 rfl ?_
    refine gx_iload_n C dX9_setValue_66 1 rfl ?_
    refine gx_iload_n C dX9_setValue_67 2 rfl ?_
    replace hf := gx_b2s hf
    obtain ⟨x23, h24, g22, hf⟩ := hf
    refine gx_callV (st := []) C (w_X9_setsValue hlt g22) mh_is gz_497 rfl (lw_V q2973 q2975 qs104 q151 q2976) gz_581 (by decide) rfl rfl (gx_catn (Nat.le_of_ble_eq_true rfl)) dX9_setValue_68 ?_
    obtain ⟨rfl, rfl⟩ := Prod.mk.inj (Option.some.inj hf)
    exact gx_iret C dX9_setValue_71
def f_X9_setValue_b30 (D : gx_D) (b : HX) (o : Nat) (h : MS) (v1 : Int32) (v2 : Int32) (s0 : Bool) : Option ((Int32) × MS) :=
  gx_b2 (f_X9_fails D b o h s0 (2 : Int32)) fun b10 h11 =>
  if b10 = true then
  some ((0 : Int32), h11)
  else
  (f_X9_maySet D b o h11 v1 v2).bind fun b14 =>
  if b14 = true then
  f_X9_setValue_b52 D b o h11 v1 v2 false
  else
  f_X9_setValue_b52 D b o h11 v1 v2 true
theorem w_X9_setValue_b30 {l : Launch} (hlt : l.stackTraces = false) {p : Program} {e : Env} {R : Room} {s : State} {m : MethodId} {args : Array Value} {below : List Frame} {meth : Method} {c : Code} {D : gx_D} {b : HX} {o : Nat} {h0 : MS} {r : Int32} {hz : MS} (C : gx_Ctx p R s m args meth c "ContractMachineModel" cX9_setValue 3 (some .int) 7 154 D (mh b o h0) (mh b o hz)) (hx : meth.name = "setValue")  {h : MS} {v1 : Int32} {v2 : Int32} {s0 : Bool} (hf : f_X9_setValue_b30 D b o h v1 v2 s0 = some (r, hz)) : gx_G p l e R s m args below meth c D (mh b o h0) (mh b o hz) 3 (gx_MQ below args s D (mh b o h0) (mh b o hz) (some (.int r))) 30 [(0, (va_rf (some o))), (1, (.int v1)), (2, (.int v2))] [(.int (b2i s0)), (va_rf (some o))] (mh b o h) := by
  unfold f_X9_setValue_b30 at hf
  refine gx_iconst (v := 2) C dX9_setValue_30 rfl ?_
  replace hf := gx_b2s hf
  obtain ⟨b10, h11, g9, hf⟩ := hf
  refine gx_callV (st := []) C (w_X9_fails hlt g9) mh_is gz_497 rfl (lw_V q3037 q3039 qs108 q151 q3040) gz_589 (by decide) rfl rfl (gx_catn (Nat.le_of_ble_eq_true rfl)) dX9_setValue_31 ?_
  replace hf := gx_ite hf
  rcases hf with ⟨c12, hf⟩ | ⟨c12, hf⟩
  · refine gx_ifz_ne_t (tgt := 59) C dX9_setValue_34 rfl c12 ?_
    refine gx_iconst (v := 0) C dX9_setValue_59 rfl ?_
    obtain ⟨rfl, rfl⟩ := Prod.mk.inj (Option.some.inj hf)
    exact gx_iret C dX9_setValue_60
  · refine gx_ifz_ne_f (tgt := 59) C dX9_setValue_34 rfl c12 ?_
    refine gx_aload_n C dX9_setValue_37 0 rfl ?_
    refine gx_aload_n C dX9_setValue_38 0 rfl ?_
    refine gx_iload_n C dX9_setValue_39 1 rfl ?_
    refine gx_iload_n C dX9_setValue_40 2 rfl ?_
    replace hf := gx_bs hf
    obtain ⟨b14, g13, hf⟩ := hf
    refine gx_callV (st := [(va_rf (some o))]) C (w_X9_maySet hlt g13) mh_is gz_497 rfl (lw_V q2969 q2971 qs103 q151 q2972) gz_580 (by decide) rfl rfl (gx_catn (Nat.le_of_ble_eq_true rfl)) dX9_setValue_41 ?_
    replace hf := gx_ite hf
    rcases hf with ⟨c15, hf⟩ | ⟨c15, hf⟩
    · refine gx_ifz_ne_t (tgt := 51) C dX9_setValue_44 rfl c15 ?_
      refine gx_iconst (v := 0) C dX9_setValue_51 rfl ?_
      refine gx_sub [0, 1, 2] rfl ?_
      exact w_X9_setValue_b52 hlt C hx hf
    · refine gx_ifz_ne_f (tgt := 51) C dX9_setValue_44 rfl c15 ?_
      refine gx_iconst (v := 1) C dX9_setValue_47 rfl ?_
      refine gx_goto (tgt := 52) C dX9_setValue_48 rfl ?_
      refine gx_sub [0, 1, 2] rfl ?_
      exact w_X9_setValue_b52 hlt C hx hf
def f_X9_setValue (D : gx_D) (b : HX) (o : Nat) (h : MS) (p1 : Int32) (p2 : Int32) : Option ((Int32) × MS) :=
  (ms_pf h 6 (0 : Int32)).bind fun h1 =>
  gx_b2 (f_X9_no D b o h1 p1 (2 : Int32)) fun b3 h4 =>
  if b3 = true then
  some ((0 : Int32), h4)
  else
  (f_X9_inRange D b o h4 p2 (0 : Int32) (9 : Int32)).bind fun b7 =>
  if b7 = true then
  f_X9_setValue_b30 D b o h4 p1 p2 false
  else
  f_X9_setValue_b30 D b o h4 p1 p2 true
theorem w_X9_setValue_b {l : Launch} (hlt : l.stackTraces = false) {p : Program} {e : Env} {R : Room} {s : State} {m : MethodId} {args : Array Value} {below : List Frame} {meth : Method} {c : Code} {D : gx_D} {b : HX} {o : Nat} {h0 : MS} {r : Int32} {hz : MS} (C : gx_Ctx p R s m args meth c "ContractMachineModel" cX9_setValue 3 (some .int) 7 154 D (mh b o h0) (mh b o hz)) (hx : meth.name = "setValue") {p1 : Int32} {p2 : Int32} (hf : f_X9_setValue D b o h0 p1 p2 = some (r, hz)) : gx_G p l e R s m args below meth c D (mh b o h0) (mh b o hz) 3 (gx_MQ below args s D (mh b o h0) (mh b o hz) (some (.int r))) 0 [(0, (va_rf (some o))), (1, (.int p1)), (2, (.int p2))] [] (mh b o h0) := by
  unfold f_X9_setValue at hf
  refine gx_aload_n C dX9_setValue_0 0 rfl ?_
  refine gx_iconst (v := 0) C dX9_setValue_1 rfl ?_
  replace hf := gx_bs hf
  obtain ⟨h1, g25, hf⟩ := hf
  refine gx_putv C (mh_pg (by decide) (fun _ _ => mh_p6) g25) gz_519 gz_1 rfl rfl q2640 dX9_setValue_2 ?_
  refine gx_aload_n C dX9_setValue_5 0 rfl ?_
  refine gx_iload_n C dX9_setValue_6 1 rfl ?_
  refine gx_iconst (v := 2) C dX9_setValue_7 rfl ?_
  replace hf := gx_b2s hf
  obtain ⟨b3, h4, g2, hf⟩ := hf
  refine gx_callV (st := []) C (w_X9_no hlt g2) mh_is gz_497 rfl (lw_V q3033 q3035 qs107 q151 q3036) gz_590 (by decide) rfl rfl (gx_catn (Nat.le_of_ble_eq_true rfl)) dX9_setValue_8 ?_
  replace hf := gx_ite hf
  rcases hf with ⟨c5, hf⟩ | ⟨c5, hf⟩
  · refine gx_ifz_ne_t (tgt := 59) C dX9_setValue_11 rfl c5 ?_
    refine gx_iconst (v := 0) C dX9_setValue_59 rfl ?_
    obtain ⟨rfl, rfl⟩ := Prod.mk.inj (Option.some.inj hf)
    exact gx_iret C dX9_setValue_60
  · refine gx_ifz_ne_f (tgt := 59) C dX9_setValue_11 rfl c5 ?_
    refine gx_aload_n C dX9_setValue_14 0 rfl ?_
    refine gx_iload_n C dX9_setValue_15 2 rfl ?_
    refine gx_iconst (v := 0) C dX9_setValue_16 rfl ?_
    refine gx_bipush (v := 9) C dX9_setValue_17 rfl ?_
    replace hf := gx_bs hf
    obtain ⟨b7, g6, hf⟩ := hf
    refine gx_callS (st := [(va_rf (some o))]) C (w_X9_inRange hlt g6) (lw_S q2745 q2746 q151 q2747) gz_522 (by decide) rfl rfl (gx_catn (Nat.le_of_ble_eq_true rfl)) dX9_setValue_19 ?_
    replace hf := gx_ite hf
    rcases hf with ⟨c8, hf⟩ | ⟨c8, hf⟩
    · refine gx_ifz_ne_t (tgt := 29) C dX9_setValue_22 rfl c8 ?_
      refine gx_iconst (v := 0) C dX9_setValue_29 rfl ?_
      refine gx_sub [0, 1, 2] rfl ?_
      exact w_X9_setValue_b30 hlt C hx hf
    · refine gx_ifz_ne_f (tgt := 29) C dX9_setValue_22 rfl c8 ?_
      refine gx_iconst (v := 1) C dX9_setValue_25 rfl ?_
      refine gx_goto (tgt := 30) C dX9_setValue_26 rfl ?_
      refine gx_sub [0, 1, 2] rfl ?_
      exact w_X9_setValue_b30 hlt C hx hf
theorem w_X9_setValue {l : Launch} (hlt : l.stackTraces = false) {D : gx_D} {b : HX} {o : Nat} {h : MS} {p1 : Int32} {p2 : Int32} {r : Int32} {hz : MS} (hf : f_X9_setValue D b o h p1 p2 = some (r, hz)) : gx_Met l yX9_setValue cX9_setValue 3 (some .int) 7 154 D [(va_rf (some o)), (.int p1), (.int p2)] (mh b o h) (some (.int r)) (mh b o hz) :=
  gx_ofG gz_495 (by simp only [gx_lsr, gx_lsi, gx_lsj, gx_ls0]; decide) mh_le (fun p e R s m args below meth c C hx => by
    simp only [gx_lar, gx_lai, gx_laj, gx_la0, Nat.reduceAdd]
    exact w_X9_setValue_b hlt C hx hf)
def f_X9_reset (D : gx_D) (b : HX) (o : Nat) (h : MS) : Option ((Int32) × MS) :=
  (ms_pf h 6 (0 : Int32)).bind fun h1 =>
  (f_X9_remembers D b o h1).bind fun h3 =>
  gx_b2 (f_X9_resets D b o h3) fun x5 h6 =>
  some (x5, h6)
theorem w_X9_reset_b {l : Launch} (hlt : l.stackTraces = false) {p : Program} {e : Env} {R : Room} {s : State} {m : MethodId} {args : Array Value} {below : List Frame} {meth : Method} {c : Code} {D : gx_D} {b : HX} {o : Nat} {h0 : MS} {r : Int32} {hz : MS} (C : gx_Ctx p R s m args meth c "ContractMachineModel" cX9_reset 1 (some .int) 3 69 D (mh b o h0) (mh b o hz)) (hx : meth.name = "reset") (hf : f_X9_reset D b o h0 = some (r, hz)) : gx_G p l e R s m args below meth c D (mh b o h0) (mh b o hz) 1 (gx_MQ below args s D (mh b o h0) (mh b o hz) (some (.int r))) 0 [(0, (va_rf (some o)))] [] (mh b o h0) := by
  unfold f_X9_reset at hf
  refine gx_aload_n C dX9_reset_0 0 rfl ?_
  refine gx_iconst (v := 0) C dX9_reset_1 rfl ?_
  replace hf := gx_bs hf
  obtain ⟨h1, g7, hf⟩ := hf
  refine gx_putv C (mh_pg (by decide) (fun _ _ => mh_p6) g7) gz_519 gz_1 rfl rfl q2640 dX9_reset_2 ?_
  refine gx_aload_n C dX9_reset_5 0 rfl ?_
  replace hf := gx_bs hf
  obtain ⟨h3, g2, hf⟩ := hf
  refine gx_callV (st := []) C (w_X9_remembers hlt g2) mh_is gz_497 rfl (lw_V q2926 q2928 qs93 q151 q2929) gz_586 (by decide) rfl rfl (gx_catn (Nat.le_of_ble_eq_true rfl)) dX9_reset_6 ?_
  refine gx_aload_n C dX9_reset_9 0 rfl ?_
  replace hf := gx_b2s hf
  obtain ⟨x5, h6, g4, hf⟩ := hf
  refine gx_callV (st := []) C (w_X9_resets hlt g4) mh_is gz_497 rfl (lw_V q2977 q2979 qs105 q151 q2980) gz_582 (by decide) rfl rfl (gx_catn (Nat.le_of_ble_eq_true rfl)) dX9_reset_10 ?_
  obtain ⟨rfl, rfl⟩ := Prod.mk.inj (Option.some.inj hf)
  exact gx_iret C dX9_reset_13
theorem w_X9_reset {l : Launch} (hlt : l.stackTraces = false) {D : gx_D} {b : HX} {o : Nat} {h : MS} {r : Int32} {hz : MS} (hf : f_X9_reset D b o h = some (r, hz)) : gx_Met l yX9_reset cX9_reset 1 (some .int) 3 69 D [(va_rf (some o))] (mh b o h) (some (.int r)) (mh b o hz) :=
  gx_ofG gz_495 (by simp only [gx_lsr, gx_lsi, gx_lsj, gx_ls0]; decide) mh_le (fun p e R s m args below meth c C hx => by
    simp only [gx_lar, gx_lai, gx_laj, gx_la0, Nat.reduceAdd]
    exact w_X9_reset_b hlt C hx hf)
def f_X9_clearCoverage (D : gx_D) (b : HX) (o : Nat) (h : MS) : Option ((Int32) × MS) :=
  (ms_pf h 6 (0 : Int32)).bind fun h1 =>
  (f_X9_remembers D b o h1).bind fun h3 =>
  gx_b2 (f_X9_clears D b o h3) fun x5 h6 =>
  some (x5, h6)
theorem w_X9_clearCoverage_b {l : Launch} (hlt : l.stackTraces = false) {p : Program} {e : Env} {R : Room} {s : State} {m : MethodId} {args : Array Value} {below : List Frame} {meth : Method} {c : Code} {D : gx_D} {b : HX} {o : Nat} {h0 : MS} {r : Int32} {hz : MS} (C : gx_Ctx p R s m args meth c "ContractMachineModel" cX9_clearCoverage 1 (some .int) 3 69 D (mh b o h0) (mh b o hz)) (hx : meth.name = "clearCoverage") (hf : f_X9_clearCoverage D b o h0 = some (r, hz)) : gx_G p l e R s m args below meth c D (mh b o h0) (mh b o hz) 1 (gx_MQ below args s D (mh b o h0) (mh b o hz) (some (.int r))) 0 [(0, (va_rf (some o)))] [] (mh b o h0) := by
  unfold f_X9_clearCoverage at hf
  refine gx_aload_n C dX9_clearCoverage_0 0 rfl ?_
  refine gx_iconst (v := 0) C dX9_clearCoverage_1 rfl ?_
  replace hf := gx_bs hf
  obtain ⟨h1, g7, hf⟩ := hf
  refine gx_putv C (mh_pg (by decide) (fun _ _ => mh_p6) g7) gz_519 gz_1 rfl rfl q2640 dX9_clearCoverage_2 ?_
  refine gx_aload_n C dX9_clearCoverage_5 0 rfl ?_
  replace hf := gx_bs hf
  obtain ⟨h3, g2, hf⟩ := hf
  refine gx_callV (st := []) C (w_X9_remembers hlt g2) mh_is gz_497 rfl (lw_V q2926 q2928 qs93 q151 q2929) gz_586 (by decide) rfl rfl (gx_catn (Nat.le_of_ble_eq_true rfl)) dX9_clearCoverage_6 ?_
  refine gx_aload_n C dX9_clearCoverage_9 0 rfl ?_
  replace hf := gx_b2s hf
  obtain ⟨x5, h6, g4, hf⟩ := hf
  refine gx_callV (st := []) C (w_X9_clears hlt g4) mh_is gz_497 rfl (lw_V q2981 q2983 qs106 q151 q2984) gz_583 (by decide) rfl rfl (gx_catn (Nat.le_of_ble_eq_true rfl)) dX9_clearCoverage_10 ?_
  obtain ⟨rfl, rfl⟩ := Prod.mk.inj (Option.some.inj hf)
  exact gx_iret C dX9_clearCoverage_13
theorem w_X9_clearCoverage {l : Launch} (hlt : l.stackTraces = false) {D : gx_D} {b : HX} {o : Nat} {h : MS} {r : Int32} {hz : MS} (hf : f_X9_clearCoverage D b o h = some (r, hz)) : gx_Met l yX9_clearCoverage cX9_clearCoverage 1 (some .int) 3 69 D [(va_rf (some o))] (mh b o h) (some (.int r)) (mh b o hz) :=
  gx_ofG gz_495 (by simp only [gx_lsr, gx_lsi, gx_lsj, gx_ls0]; decide) mh_le (fun p e R s m args below meth c C hx => by
    simp only [gx_lar, gx_lai, gx_laj, gx_la0, Nat.reduceAdd]
    exact w_X9_clearCoverage_b hlt C hx hf)
def f_X9_mayKeep (D : gx_D) (b : HX) (o : Nat) (h : MS) (p1 : Int32) (p2 : Int32) (p3 : Int32) : Option Bool :=
  (ms_ai h 0 (4 : Int32)).bind fun x1 =>
  if x1 = (12 : Int32) then
  some false
  else
  (ms_ai h 0 ((6 : Int32) + p1)).bind fun x3 =>
  (f_X9_holds D b o h x3 p2 p3).bind fun b5 =>
  if b5 = true then
  (ms_ai h 0 ((9 : Int32) + p1)).bind fun x7 =>
  (f_X9_holds D b o h x7 p2 p3).bind fun b9 =>
  if b9 = true then
  some true
  else
  some false
  else
  some false
theorem w_X9_mayKeep_b {l : Launch} (hlt : l.stackTraces = false) {p : Program} {e : Env} {R : Room} {s : State} {m : MethodId} {args : Array Value} {below : List Frame} {meth : Method} {c : Code} {D : gx_D} {b : HX} {o : Nat} {h0 : MS} {r : Bool} (C : gx_Ctx p R s m args meth c "ContractMachineModel" cX9_mayKeep 4 (some .boolean) 2 46 D (mh b o h0) (mh b o h0)) (hx : meth.name = "mayKeep") {p1 : Int32} {p2 : Int32} {p3 : Int32} (hf : f_X9_mayKeep D b o h0 p1 p2 p3 = some r) : gx_G p l e R s m args below meth c D (mh b o h0) (mh b o h0) 4 (gx_MQ below args s D (mh b o h0) (mh b o h0) (some (.int (b2i r)))) 0 [(0, (va_rf (some o))), (1, (.int p1)), (2, (.int p2)), (3, (.int p3))] [] (mh b o h0) := by
  unfold f_X9_mayKeep at hf
  refine gx_aload_n C dX9_mayKeep_0 0 rfl ?_
  refine gx_gr C (mh_gr (k := 0) rfl) gz_494 q2634 dX9_mayKeep_1 ?_
  refine gx_iconst (v := 4) C dX9_mayKeep_4 rfl ?_
  replace hf := gx_bs hf
  obtain ⟨x1, g13, hf⟩ := hf
  refine gx_iald C (mh_ai g13) dX9_mayKeep_5 ?_
  refine gx_bipush (v := 12) C dX9_mayKeep_6 rfl ?_
  replace hf := gx_ite hf
  rcases hf with ⟨c2, hf⟩ | ⟨c2, hf⟩
  · refine gx_icmp_ne_f (tgt := 13) C dX9_mayKeep_8 rfl c2 ?_
    refine gx_iconst (v := 0) C dX9_mayKeep_11 rfl ?_
    obtain rfl := Option.some.inj hf
    exact gx_zret (b := false) C dX9_mayKeep_12
  · refine gx_icmp_ne_t (tgt := 13) C dX9_mayKeep_8 rfl c2 ?_
    refine gx_aload_n C dX9_mayKeep_13 0 rfl ?_
    refine gx_gr C (mh_gr (k := 0) rfl) gz_494 q2634 dX9_mayKeep_14 ?_
    refine gx_bipush (v := 6) C dX9_mayKeep_17 rfl ?_
    refine gx_iload_n C dX9_mayKeep_19 1 rfl ?_
    refine gx_iadd C dX9_mayKeep_20 ?_
    replace hf := gx_bs hf
    obtain ⟨x3, g12, hf⟩ := hf
    refine gx_iald C (mh_ai g12) dX9_mayKeep_21 ?_
    refine gx_iload_n C dX9_mayKeep_22 2 rfl ?_
    refine gx_iload_n C dX9_mayKeep_23 3 rfl ?_
    replace hf := gx_bs hf
    obtain ⟨b5, g4, hf⟩ := hf
    refine gx_callS (st := []) C (w_X9_holds hlt g4) (lw_S q2900 q2901 q151 q2902) gz_529 (by decide) rfl rfl (gx_catn (Nat.le_of_ble_eq_true rfl)) dX9_mayKeep_24 ?_
    replace hf := gx_ite hf
    rcases hf with ⟨c6, hf⟩ | ⟨c6, hf⟩
    · refine gx_ifz_eq_f (tgt := 51) C dX9_mayKeep_27 rfl c6 ?_
      refine gx_aload_n C dX9_mayKeep_30 0 rfl ?_
      refine gx_gr C (mh_gr (k := 0) rfl) gz_494 q2634 dX9_mayKeep_31 ?_
      refine gx_bipush (v := 9) C dX9_mayKeep_34 rfl ?_
      refine gx_iload_n C dX9_mayKeep_36 1 rfl ?_
      refine gx_iadd C dX9_mayKeep_37 ?_
      replace hf := gx_bs hf
      obtain ⟨x7, g11, hf⟩ := hf
      refine gx_iald C (mh_ai g11) dX9_mayKeep_38 ?_
      refine gx_iload_n C dX9_mayKeep_39 2 rfl ?_
      refine gx_iload_n C dX9_mayKeep_40 3 rfl ?_
      replace hf := gx_bs hf
      obtain ⟨b9, g8, hf⟩ := hf
      refine gx_callS (st := []) C (w_X9_holds hlt g8) (lw_S q2900 q2901 q151 q2902) gz_529 (by decide) rfl rfl (gx_catn (Nat.le_of_ble_eq_true rfl)) dX9_mayKeep_41 ?_
      replace hf := gx_ite hf
      rcases hf with ⟨c10, hf⟩ | ⟨c10, hf⟩
      · refine gx_ifz_eq_f (tgt := 51) C dX9_mayKeep_44 rfl c10 ?_
        refine gx_iconst (v := 1) C dX9_mayKeep_47 rfl ?_
        refine gx_goto (tgt := 52) C dX9_mayKeep_48 rfl ?_
        obtain rfl := Option.some.inj hf
        exact gx_zret (b := true) C dX9_mayKeep_52
      · refine gx_ifz_eq_t (tgt := 51) C dX9_mayKeep_44 rfl c10 ?_
        refine gx_iconst (v := 0) C dX9_mayKeep_51 rfl ?_
        obtain rfl := Option.some.inj hf
        exact gx_zret (b := false) C dX9_mayKeep_52
    · refine gx_ifz_eq_t (tgt := 51) C dX9_mayKeep_27 rfl c6 ?_
      refine gx_iconst (v := 0) C dX9_mayKeep_51 rfl ?_
      obtain rfl := Option.some.inj hf
      exact gx_zret (b := false) C dX9_mayKeep_52
theorem w_X9_mayKeep {l : Launch} (hlt : l.stackTraces = false) {D : gx_D} {b : HX} {o : Nat} {h : MS} {p1 : Int32} {p2 : Int32} {p3 : Int32} {r : Bool} (hf : f_X9_mayKeep D b o h p1 p2 p3 = some r) : gx_Met l yX9_mayKeep cX9_mayKeep 4 (some .boolean) 2 46 D [(va_rf (some o)), (.int p1), (.int p2), (.int p3)] (mh b o h) (some (.int (b2i r))) (mh b o h) :=
  gx_ofG gz_495 (by simp only [gx_lsr, gx_lsi, gx_lsj, gx_ls0]; decide) gx_le.rf (fun p e R s m args below meth c C hx => by
    simp only [gx_lar, gx_lai, gx_laj, gx_la0, Nat.reduceAdd]
    exact w_X9_mayKeep_b hlt C hx hf)
def f_X9_addAlways_b64 (D : gx_D) (b : HX) (o : Nat) (h : MS) (v1 : Int32) (v2 : Int32) (v3 : Int32) (s0 : Bool) : Option ((Int32) × MS) :=
  gx_b2 (f_X9_fails D b o h s0 (3 : Int32)) fun b20 h21 =>
  if b20 = true then
  some ((0 : Int32), h21)
  else
  (f_X9_remembers D b o h21).bind fun h24 =>
  gx_b2 (f_X9_keeps D b o h24 (-1 : Int32) v1 v2 v3) fun x26 h27 =>
  some (x26, h27)
theorem w_X9_addAlways_b64 {l : Launch} (hlt : l.stackTraces = false) {p : Program} {e : Env} {R : Room} {s : State} {m : MethodId} {args : Array Value} {below : List Frame} {meth : Method} {c : Code} {D : gx_D} {b : HX} {o : Nat} {h0 : MS} {r : Int32} {hz : MS} (C : gx_Ctx p R s m args meth c "ContractMachineModel" cX9_addAlways 4 (some .int) 3 69 D (mh b o h0) (mh b o hz)) (hx : meth.name = "addAlways")  {h : MS} {v1 : Int32} {v2 : Int32} {v3 : Int32} {s0 : Bool} (hf : f_X9_addAlways_b64 D b o h v1 v2 v3 s0 = some (r, hz)) : gx_G p l e R s m args below meth c D (mh b o h0) (mh b o hz) 4 (gx_MQ below args s D (mh b o h0) (mh b o hz) (some (.int r))) 64 [(0, (va_rf (some o))), (1, (.int v1)), (2, (.int v2)), (3, (.int v3))] [(.int (b2i s0)), (va_rf (some o))] (mh b o h) := by
  unfold f_X9_addAlways_b64 at hf
  refine gx_iconst (v := 3) C dX9_addAlways_64 rfl ?_
  replace hf := gx_b2s hf
  obtain ⟨b20, h21, g19, hf⟩ := hf
  refine gx_callV (st := []) C (w_X9_fails hlt g19) mh_is gz_497 rfl (lw_V q3037 q3039 qs108 q151 q3040) gz_589 (by decide) rfl rfl (gx_catn (Nat.le_of_ble_eq_true rfl)) dX9_addAlways_65 ?_
  replace hf := gx_ite hf
  rcases hf with ⟨c22, hf⟩ | ⟨c22, hf⟩
  · refine gx_ifz_eq_f (tgt := 73) C dX9_addAlways_68 rfl c22 ?_
    refine gx_iconst (v := 0) C dX9_addAlways_71 rfl ?_
    obtain ⟨rfl, rfl⟩ := Prod.mk.inj (Option.some.inj hf)
    exact gx_iret C dX9_addAlways_72
  · refine gx_ifz_eq_t (tgt := 73) C dX9_addAlways_68 rfl c22 ?_
    refine gx_aload_n C dX9_addAlways_73 0 rfl ?_
    replace hf := gx_bs hf
    obtain ⟨h24, g23, hf⟩ := hf
    refine gx_callV (st := []) C (w_X9_remembers hlt g23) mh_is gz_497 rfl (lw_V q2926 q2928 qs93 q151 q2929) gz_586 (by decide) rfl rfl (gx_catn (Nat.le_of_ble_eq_true rfl)) dX9_addAlways_74 ?_
    refine gx_aload_n C dX9_addAlways_77 0 rfl ?_
    refine gx_iconst (v := -1) C dX9_addAlways_78 rfl ?_
    refine gx_iload_n C dX9_addAlways_79 1 rfl ?_
    refine gx_iload_n C dX9_addAlways_80 2 rfl ?_
    refine gx_iload_n C dX9_addAlways_81 3 rfl ?_
    replace hf := gx_b2s hf
    obtain ⟨x26, h27, g25, hf⟩ := hf
    refine gx_callV (st := []) C (w_X9_keeps hlt g25) mh_is gz_497 rfl (lw_V q2622 q2624 qs56 q151 q2625) gz_517 (by decide) rfl rfl (gx_catn (Nat.le_of_ble_eq_true rfl)) dX9_addAlways_82 ?_
    obtain ⟨rfl, rfl⟩ := Prod.mk.inj (Option.some.inj hf)
    exact gx_iret C dX9_addAlways_85
def f_X9_addAlways_b39 (D : gx_D) (b : HX) (o : Nat) (h : MS) (v1 : Int32) (v2 : Int32) (v3 : Int32) (s0 : Bool) : Option ((Int32) × MS) :=
  gx_b2 (f_X9_fails D b o h s0 (2 : Int32)) fun b13 h14 =>
  if b13 = true then
  some ((0 : Int32), h14)
  else
  (f_X9_mayKeep D b o h14 v1 v2 v3).bind fun b17 =>
  if b17 = true then
  f_X9_addAlways_b64 D b o h14 v1 v2 v3 false
  else
  f_X9_addAlways_b64 D b o h14 v1 v2 v3 true
theorem w_X9_addAlways_b39 {l : Launch} (hlt : l.stackTraces = false) {p : Program} {e : Env} {R : Room} {s : State} {m : MethodId} {args : Array Value} {below : List Frame} {meth : Method} {c : Code} {D : gx_D} {b : HX} {o : Nat} {h0 : MS} {r : Int32} {hz : MS} (C : gx_Ctx p R s m args meth c "ContractMachineModel" cX9_addAlways 4 (some .int) 3 69 D (mh b o h0) (mh b o hz)) (hx : meth.name = "addAlways")  {h : MS} {v1 : Int32} {v2 : Int32} {v3 : Int32} {s0 : Bool} (hf : f_X9_addAlways_b39 D b o h v1 v2 v3 s0 = some (r, hz)) : gx_G p l e R s m args below meth c D (mh b o h0) (mh b o hz) 4 (gx_MQ below args s D (mh b o h0) (mh b o hz) (some (.int r))) 39 [(0, (va_rf (some o))), (1, (.int v1)), (2, (.int v2)), (3, (.int v3))] [(.int (b2i s0)), (va_rf (some o))] (mh b o h) := by
  unfold f_X9_addAlways_b39 at hf
  refine gx_iconst (v := 2) C dX9_addAlways_39 rfl ?_
  replace hf := gx_b2s hf
  obtain ⟨b13, h14, g12, hf⟩ := hf
  refine gx_callV (st := []) C (w_X9_fails hlt g12) mh_is gz_497 rfl (lw_V q3037 q3039 qs108 q151 q3040) gz_589 (by decide) rfl rfl (gx_catn (Nat.le_of_ble_eq_true rfl)) dX9_addAlways_40 ?_
  replace hf := gx_ite hf
  rcases hf with ⟨c15, hf⟩ | ⟨c15, hf⟩
  · refine gx_ifz_eq_f (tgt := 48) C dX9_addAlways_43 rfl c15 ?_
    refine gx_iconst (v := 0) C dX9_addAlways_46 rfl ?_
    obtain ⟨rfl, rfl⟩ := Prod.mk.inj (Option.some.inj hf)
    exact gx_iret C dX9_addAlways_47
  · refine gx_ifz_eq_t (tgt := 48) C dX9_addAlways_43 rfl c15 ?_
    refine gx_aload_n C dX9_addAlways_48 0 rfl ?_
    refine gx_aload_n C dX9_addAlways_49 0 rfl ?_
    refine gx_iload_n C dX9_addAlways_50 1 rfl ?_
    refine gx_iload_n C dX9_addAlways_51 2 rfl ?_
    refine gx_iload_n C dX9_addAlways_52 3 rfl ?_
    replace hf := gx_bs hf
    obtain ⟨b17, g16, hf⟩ := hf
    refine gx_callV (st := [(va_rf (some o))]) C (w_X9_mayKeep hlt g16) mh_is gz_497 rfl (lw_V q3228 q3230 qs117 q151 q3231) gz_601 (by decide) rfl rfl (gx_catn (Nat.le_of_ble_eq_true rfl)) dX9_addAlways_53 ?_
    replace hf := gx_ite hf
    rcases hf with ⟨c18, hf⟩ | ⟨c18, hf⟩
    · refine gx_ifz_ne_t (tgt := 63) C dX9_addAlways_56 rfl c18 ?_
      refine gx_iconst (v := 0) C dX9_addAlways_63 rfl ?_
      refine gx_sub [0, 1, 2, 3] rfl ?_
      exact w_X9_addAlways_b64 hlt C hx hf
    · refine gx_ifz_ne_f (tgt := 63) C dX9_addAlways_56 rfl c18 ?_
      refine gx_iconst (v := 1) C dX9_addAlways_59 rfl ?_
      refine gx_goto (tgt := 64) C dX9_addAlways_60 rfl ?_
      refine gx_sub [0, 1, 2, 3] rfl ?_
      exact w_X9_addAlways_b64 hlt C hx hf
def f_X9_addAlways_b34 (D : gx_D) (b : HX) (o : Nat) (h : MS) (v1 : Int32) (v2 : Int32) (v3 : Int32) : Option ((Int32) × MS) :=
  f_X9_addAlways_b39 D b o h v1 v2 v3 true
theorem w_X9_addAlways_b34 {l : Launch} (hlt : l.stackTraces = false) {p : Program} {e : Env} {R : Room} {s : State} {m : MethodId} {args : Array Value} {below : List Frame} {meth : Method} {c : Code} {D : gx_D} {b : HX} {o : Nat} {h0 : MS} {r : Int32} {hz : MS} (C : gx_Ctx p R s m args meth c "ContractMachineModel" cX9_addAlways 4 (some .int) 3 69 D (mh b o h0) (mh b o hz)) (hx : meth.name = "addAlways")  {h : MS} {v1 : Int32} {v2 : Int32} {v3 : Int32} (hf : f_X9_addAlways_b34 D b o h v1 v2 v3 = some (r, hz)) : gx_G p l e R s m args below meth c D (mh b o h0) (mh b o hz) 4 (gx_MQ below args s D (mh b o h0) (mh b o hz) (some (.int r))) 34 [(0, (va_rf (some o))), (1, (.int v1)), (2, (.int v2)), (3, (.int v3))] [(va_rf (some o))] (mh b o h) := by
  unfold f_X9_addAlways_b34 at hf
  refine gx_iconst (v := 1) C dX9_addAlways_34 rfl ?_
  refine gx_goto (tgt := 39) C dX9_addAlways_35 rfl ?_
  refine gx_sub [0, 1, 2, 3] rfl ?_
  exact w_X9_addAlways_b39 hlt C hx hf
def f_X9_addAlways (D : gx_D) (b : HX) (o : Nat) (h : MS) (p1 : Int32) (p2 : Int32) (p3 : Int32) : Option ((Int32) × MS) :=
  (ms_pf h 6 (0 : Int32)).bind fun h1 =>
  gx_b2 (f_X9_no D b o h1 p1 (2 : Int32)) fun b3 h4 =>
  if b3 = true then
  some ((0 : Int32), h4)
  else
  (f_X9_inRange D b o h4 p2 (0 : Int32) (5 : Int32)).bind fun b7 =>
  if b7 = true then
  (f_X9_inRange D b o h4 p3 (0 : Int32) (9 : Int32)).bind fun b10 =>
  if b10 = true then
  f_X9_addAlways_b39 D b o h4 p1 p2 p3 false
  else
  f_X9_addAlways_b34 D b o h4 p1 p2 p3
  else
  f_X9_addAlways_b34 D b o h4 p1 p2 p3
theorem w_X9_addAlways_b {l : Launch} (hlt : l.stackTraces = false) {p : Program} {e : Env} {R : Room} {s : State} {m : MethodId} {args : Array Value} {below : List Frame} {meth : Method} {c : Code} {D : gx_D} {b : HX} {o : Nat} {h0 : MS} {r : Int32} {hz : MS} (C : gx_Ctx p R s m args meth c "ContractMachineModel" cX9_addAlways 4 (some .int) 3 69 D (mh b o h0) (mh b o hz)) (hx : meth.name = "addAlways") {p1 : Int32} {p2 : Int32} {p3 : Int32} (hf : f_X9_addAlways D b o h0 p1 p2 p3 = some (r, hz)) : gx_G p l e R s m args below meth c D (mh b o h0) (mh b o hz) 4 (gx_MQ below args s D (mh b o h0) (mh b o hz) (some (.int r))) 0 [(0, (va_rf (some o))), (1, (.int p1)), (2, (.int p2)), (3, (.int p3))] [] (mh b o h0) := by
  unfold f_X9_addAlways at hf
  refine gx_aload_n C dX9_addAlways_0 0 rfl ?_
  refine gx_iconst (v := 0) C dX9_addAlways_1 rfl ?_
  replace hf := gx_bs hf
  obtain ⟨h1, g28, hf⟩ := hf
  refine gx_putv C (mh_pg (by decide) (fun _ _ => mh_p6) g28) gz_519 gz_1 rfl rfl q2640 dX9_addAlways_2 ?_
  refine gx_aload_n C dX9_addAlways_5 0 rfl ?_
  refine gx_iload_n C dX9_addAlways_6 1 rfl ?_
  refine gx_iconst (v := 2) C dX9_addAlways_7 rfl ?_
  replace hf := gx_b2s hf
  obtain ⟨b3, h4, g2, hf⟩ := hf
  refine gx_callV (st := []) C (w_X9_no hlt g2) mh_is gz_497 rfl (lw_V q3033 q3035 qs107 q151 q3036) gz_590 (by decide) rfl rfl (gx_catn (Nat.le_of_ble_eq_true rfl)) dX9_addAlways_8 ?_
  replace hf := gx_ite hf
  rcases hf with ⟨c5, hf⟩ | ⟨c5, hf⟩
  · refine gx_ifz_ne_t (tgt := 46) C dX9_addAlways_11 rfl c5 ?_
    refine gx_iconst (v := 0) C dX9_addAlways_46 rfl ?_
    obtain ⟨rfl, rfl⟩ := Prod.mk.inj (Option.some.inj hf)
    exact gx_iret C dX9_addAlways_47
  · refine gx_ifz_ne_f (tgt := 46) C dX9_addAlways_11 rfl c5 ?_
    refine gx_aload_n C dX9_addAlways_14 0 rfl ?_
    refine gx_iload_n C dX9_addAlways_15 2 rfl ?_
    refine gx_iconst (v := 0) C dX9_addAlways_16 rfl ?_
    refine gx_iconst (v := 5) C dX9_addAlways_17 rfl ?_
    replace hf := gx_bs hf
    obtain ⟨b7, g6, hf⟩ := hf
    refine gx_callS (st := [(va_rf (some o))]) C (w_X9_inRange hlt g6) (lw_S q2745 q2746 q151 q2747) gz_522 (by decide) rfl rfl (gx_catn (Nat.le_of_ble_eq_true rfl)) dX9_addAlways_18 ?_
    replace hf := gx_ite hf
    rcases hf with ⟨c8, hf⟩ | ⟨c8, hf⟩
    · refine gx_ifz_eq_f (tgt := 34) C dX9_addAlways_21 rfl c8 ?_
      refine gx_iload_n C dX9_addAlways_24 3 rfl ?_
      refine gx_iconst (v := 0) C dX9_addAlways_25 rfl ?_
      refine gx_bipush (v := 9) C dX9_addAlways_26 rfl ?_
      replace hf := gx_bs hf
      obtain ⟨b10, g9, hf⟩ := hf
      refine gx_callS (st := [(va_rf (some o))]) C (w_X9_inRange hlt g9) (lw_S q2745 q2746 q151 q2747) gz_522 (by decide) rfl rfl (gx_catn (Nat.le_of_ble_eq_true rfl)) dX9_addAlways_28 ?_
      replace hf := gx_ite hf
      rcases hf with ⟨c11, hf⟩ | ⟨c11, hf⟩
      · refine gx_ifz_ne_t (tgt := 38) C dX9_addAlways_31 rfl c11 ?_
        refine gx_iconst (v := 0) C dX9_addAlways_38 rfl ?_
        refine gx_sub [0, 1, 2, 3] rfl ?_
        exact w_X9_addAlways_b39 hlt C hx hf
      · refine gx_ifz_ne_f (tgt := 38) C dX9_addAlways_31 rfl c11 ?_
        refine gx_sub [0, 1, 2, 3] rfl ?_
        exact w_X9_addAlways_b34 hlt C hx hf
    · refine gx_ifz_eq_t (tgt := 34) C dX9_addAlways_21 rfl c8 ?_
      refine gx_sub [0, 1, 2, 3] rfl ?_
      exact w_X9_addAlways_b34 hlt C hx hf
theorem w_X9_addAlways {l : Launch} (hlt : l.stackTraces = false) {D : gx_D} {b : HX} {o : Nat} {h : MS} {p1 : Int32} {p2 : Int32} {p3 : Int32} {r : Int32} {hz : MS} (hf : f_X9_addAlways D b o h p1 p2 p3 = some (r, hz)) : gx_Met l yX9_addAlways cX9_addAlways 4 (some .int) 3 69 D [(va_rf (some o)), (.int p1), (.int p2), (.int p3)] (mh b o h) (some (.int r)) (mh b o hz) :=
  gx_ofG gz_495 (by simp only [gx_lsr, gx_lsi, gx_lsj, gx_ls0]; decide) mh_le (fun p e R s m args below meth c C hx => by
    simp only [gx_lar, gx_lai, gx_laj, gx_la0, Nat.reduceAdd]
    exact w_X9_addAlways_b hlt C hx hf)
def f_X9_undo_b18 (D : gx_D) (b : HX) (o : Nat) (h : MS) (s0 : Bool) : Option ((Int32) × MS) :=
  gx_b2 (f_X9_fails D b o h s0 (1 : Int32)) fun b4 h5 =>
  if b4 = true then
  some ((0 : Int32), h5)
  else
  (ms_pf h5 4 ((h5.1 4) - (1 : Int32))).bind fun h7 =>
  (f_X9_copies D b o h7 3 ((504 : Int32) * (h7.1 4)) 0 (0 : Int32)).bind fun h9 =>
  some ((h9.1 4), h9)
theorem w_X9_undo_b18 {l : Launch} (hlt : l.stackTraces = false) {p : Program} {e : Env} {R : Room} {s : State} {m : MethodId} {args : Array Value} {below : List Frame} {meth : Method} {c : Code} {D : gx_D} {b : HX} {o : Nat} {h0 : MS} {r : Int32} {hz : MS} (C : gx_Ctx p R s m args meth c "ContractMachineModel" cX9_undo 1 (some .int) 2 48 D (mh b o h0) (mh b o hz)) (hx : meth.name = "undo")  {h : MS} {s0 : Bool} (hf : f_X9_undo_b18 D b o h s0 = some (r, hz)) : gx_G p l e R s m args below meth c D (mh b o h0) (mh b o hz) 1 (gx_MQ below args s D (mh b o h0) (mh b o hz) (some (.int r))) 18 [(0, (va_rf (some o)))] [(.int (b2i s0)), (va_rf (some o))] (mh b o h) := by
  unfold f_X9_undo_b18 at hf
  refine gx_iconst (v := 1) C dX9_undo_18 rfl ?_
  replace hf := gx_b2s hf
  obtain ⟨b4, h5, g3, hf⟩ := hf
  refine gx_callV (st := []) C (w_X9_fails hlt g3) mh_is gz_497 rfl (lw_V q3037 q3039 qs108 q151 q3040) gz_589 (by decide) rfl rfl (gx_catn (Nat.le_of_ble_eq_true rfl)) dX9_undo_19 ?_
  replace hf := gx_ite hf
  rcases hf with ⟨c6, hf⟩ | ⟨c6, hf⟩
  · refine gx_ifz_eq_f (tgt := 27) C dX9_undo_22 rfl c6 ?_
    refine gx_iconst (v := 0) C dX9_undo_25 rfl ?_
    obtain ⟨rfl, rfl⟩ := Prod.mk.inj (Option.some.inj hf)
    exact gx_iret C dX9_undo_26
  · refine gx_ifz_eq_t (tgt := 27) C dX9_undo_22 rfl c6 ?_
    refine gx_aload_n C dX9_undo_27 0 rfl ?_
    refine gx_dup C dX9_undo_28 rfl ?_
    refine gx_gi C (mh_gi (k := 4) rfl) gz_566 q2638 dX9_undo_29 ?_
    refine gx_iconst (v := 1) C dX9_undo_32 rfl ?_
    refine gx_isub C dX9_undo_33 ?_
    replace hf := gx_bs hf
    obtain ⟨h7, g10, hf⟩ := hf
    refine gx_putv C (mh_pg (by decide) (fun _ _ => mh_p4) g10) gz_566 gz_1 rfl rfl q2638 dX9_undo_34 ?_
    refine gx_aload_n C dX9_undo_37 0 rfl ?_
    refine gx_gr C (mh_gr (k := 3) rfl) gz_500 q2637 dX9_undo_38 ?_
    refine gx_sipush (v := 504) C dX9_undo_41 rfl ?_
    refine gx_aload_n C dX9_undo_44 0 rfl ?_
    refine gx_gi C (mh_gi (k := 4) rfl) gz_566 q2638 dX9_undo_45 ?_
    refine gx_imul C dX9_undo_48 ?_
    refine gx_aload_n C dX9_undo_49 0 rfl ?_
    refine gx_gr C (mh_gr (k := 0) rfl) gz_494 q2634 dX9_undo_50 ?_
    refine gx_iconst (v := 0) C dX9_undo_53 rfl ?_
    replace hf := gx_bs hf
    obtain ⟨h9, g8, hf⟩ := hf
    refine gx_callS (st := []) C (w_X9_copies hlt g8) (lw_S q2752 q2753 q151 q2754) gz_568 (by decide) rfl rfl (gx_catn (Nat.le_of_ble_eq_true rfl)) dX9_undo_54 ?_
    refine gx_aload_n C dX9_undo_57 0 rfl ?_
    refine gx_gi C (mh_gi (k := 4) rfl) gz_566 q2638 dX9_undo_58 ?_
    obtain ⟨rfl, rfl⟩ := Prod.mk.inj (Option.some.inj hf)
    exact gx_iret C dX9_undo_61
def f_X9_undo (D : gx_D) (b : HX) (o : Nat) (h : MS) : Option ((Int32) × MS) :=
  (ms_pf h 6 (0 : Int32)).bind fun h1 =>
  if (h1.1 4) = 0 then
  f_X9_undo_b18 D b o h1 true
  else
  f_X9_undo_b18 D b o h1 false
theorem w_X9_undo_b {l : Launch} (hlt : l.stackTraces = false) {p : Program} {e : Env} {R : Room} {s : State} {m : MethodId} {args : Array Value} {below : List Frame} {meth : Method} {c : Code} {D : gx_D} {b : HX} {o : Nat} {h0 : MS} {r : Int32} {hz : MS} (C : gx_Ctx p R s m args meth c "ContractMachineModel" cX9_undo 1 (some .int) 2 48 D (mh b o h0) (mh b o hz)) (hx : meth.name = "undo") (hf : f_X9_undo D b o h0 = some (r, hz)) : gx_G p l e R s m args below meth c D (mh b o h0) (mh b o hz) 1 (gx_MQ below args s D (mh b o h0) (mh b o hz) (some (.int r))) 0 [(0, (va_rf (some o)))] [] (mh b o h0) := by
  unfold f_X9_undo at hf
  refine gx_aload_n C dX9_undo_0 0 rfl ?_
  refine gx_iconst (v := 0) C dX9_undo_1 rfl ?_
  replace hf := gx_bs hf
  obtain ⟨h1, g11, hf⟩ := hf
  refine gx_putv C (mh_pg (by decide) (fun _ _ => mh_p6) g11) gz_519 gz_1 rfl rfl q2640 dX9_undo_2 ?_
  refine gx_aload_n C dX9_undo_5 0 rfl ?_
  refine gx_aload_n C dX9_undo_6 0 rfl ?_
  refine gx_gi C (mh_gi (k := 4) rfl) gz_566 q2638 dX9_undo_7 ?_
  replace hf := gx_ite hf
  rcases hf with ⟨c2, hf⟩ | ⟨c2, hf⟩
  · refine gx_if_ne_f (tgt := 17) C dX9_undo_10 rfl c2 ?_
    refine gx_iconst (v := 1) C dX9_undo_13 rfl ?_
    refine gx_goto (tgt := 18) C dX9_undo_14 rfl ?_
    refine gx_sub [0] rfl ?_
    exact w_X9_undo_b18 hlt C hx hf
  · refine gx_if_ne_t (tgt := 17) C dX9_undo_10 rfl c2 ?_
    refine gx_iconst (v := 0) C dX9_undo_17 rfl ?_
    refine gx_sub [0] rfl ?_
    exact w_X9_undo_b18 hlt C hx hf
theorem w_X9_undo {l : Launch} (hlt : l.stackTraces = false) {D : gx_D} {b : HX} {o : Nat} {h : MS} {r : Int32} {hz : MS} (hf : f_X9_undo D b o h = some (r, hz)) : gx_Met l yX9_undo cX9_undo 1 (some .int) 2 48 D [(va_rf (some o))] (mh b o h) (some (.int r)) (mh b o hz) :=
  gx_ofG gz_495 (by simp only [gx_lsr, gx_lsi, gx_lsj, gx_ls0]; decide) mh_le (fun p e R s m args below meth c C hx => by
    simp only [gx_lar, gx_lai, gx_laj, gx_la0, Nat.reduceAdd]
    exact w_X9_undo_b hlt C hx hf)
def f_X9_write (D : gx_D) (b : HX) (o : Nat) (h : MS) (p1 : Int32) : Option MS :=
  (ms_si h 12 (h.1 30) p1).bind fun h1 =>
  (ms_pf h1 30 ((h1.1 30) + (1 : Int32))).bind fun h2 =>
  some h2
theorem w_X9_write_b {l : Launch} (hlt : l.stackTraces = false) {p : Program} {e : Env} {R : Room} {s : State} {m : MethodId} {args : Array Value} {below : List Frame} {meth : Method} {c : Code} {D : gx_D} {b : HX} {o : Nat} {h0 : MS} {hz : MS} (C : gx_Ctx p R s m args meth c "ContractMachineModel" cX9_write 2 none 1 24 D (mh b o h0) (mh b o hz)) (hx : meth.name = "write") {p1 : Int32} (hf : f_X9_write D b o h0 p1 = some hz) : gx_G p l e R s m args below meth c D (mh b o h0) (mh b o hz) 2 (gx_MQ below args s D (mh b o h0) (mh b o hz) none) 0 [(0, (va_rf (some o))), (1, (.int p1))] [] (mh b o h0) := by
  unfold f_X9_write at hf
  refine gx_aload_n C dX9_write_0 0 rfl ?_
  refine gx_gr C (mh_gr (k := 29) rfl) gz_511 q2663 dX9_write_1 ?_
  refine gx_aload_n C dX9_write_4 0 rfl ?_
  refine gx_gi C (mh_gi (k := 30) rfl) gz_602 q2664 dX9_write_5 ?_
  refine gx_iload_n C dX9_write_8 1 rfl ?_
  replace hf := gx_bs hf
  obtain ⟨h1, g4, hf⟩ := hf
  refine gx_iast C (mh_si g4) dX9_write_9 ?_
  refine gx_aload_n C dX9_write_10 0 rfl ?_
  refine gx_dup C dX9_write_11 rfl ?_
  refine gx_gi C (mh_gi (k := 30) rfl) gz_602 q2664 dX9_write_12 ?_
  refine gx_iconst (v := 1) C dX9_write_15 rfl ?_
  refine gx_iadd C dX9_write_16 ?_
  replace hf := gx_bs hf
  obtain ⟨h2, g3, hf⟩ := hf
  refine gx_putv C (mh_pg (by decide) (fun _ _ => mh_p30) g3) gz_602 gz_1 rfl rfl q2664 dX9_write_17 ?_
  obtain rfl := Option.some.inj hf
  exact gx_vret C dX9_write_20
theorem w_X9_write {l : Launch} (hlt : l.stackTraces = false) {D : gx_D} {b : HX} {o : Nat} {h : MS} {p1 : Int32} {hz : MS} (hf : f_X9_write D b o h p1 = some hz) : gx_Met l yX9_write cX9_write 2 none 1 24 D [(va_rf (some o)), (.int p1)] (mh b o h) none (mh b o hz) :=
  gx_ofG gz_495 (by simp only [gx_lsr, gx_lsi, gx_lsj, gx_ls0]; decide) mh_le (fun p e R s m args below meth c C hx => by
    simp only [gx_lar, gx_lai, gx_laj, gx_la0, Nat.reduceAdd]
    exact w_X9_write_b hlt C hx hf)
def f_X9_writeName_b2 (D : gx_D) (b : HX) (o : Nat) : Nat → MS → Int32 → Int32 → Option MS
  | 0, _, _, _ => none
  | n + 1, h, v1, v2 =>
  (ms_ai h 0 v1).bind fun x1 =>
  if x1 ≤ v2 then
  some h
  else
  (ms_ai h 0 ((v1 + (1 : Int32)) + v2)).bind fun x3 =>
  (f_X9_write D b o h x3).bind fun h5 =>
  (f_X9_writeName_b2 D b o n) h5 v1 ((v2 + (1 : Int32)))
theorem w_X9_writeName_b2 {l : Launch} (hlt : l.stackTraces = false) {p : Program} {e : Env} {R : Room} {s : State} {m : MethodId} {args : Array Value} {below : List Frame} {meth : Method} {c : Code} {D : gx_D} {b : HX} {o : Nat} {h0 : MS} {hz : MS} (C : gx_Ctx p R s m args meth c "ContractMachineModel" cX9_writeName 3 none 2 45 D (mh b o h0) (mh b o hz)) (hx : meth.name = "writeName")  : ∀ (n : Nat) ⦃h : MS⦄ ⦃v1 : Int32⦄ ⦃v2 : Int32⦄, f_X9_writeName_b2 D b o n h v1 v2 = some hz → gx_G p l e R s m args below meth c D (mh b o h0) (mh b o hz) 3 (gx_MQ below args s D (mh b o h0) (mh b o hz) none) 2 [(0, (va_rf (some o))), (1, (.int v1)), (2, (.int v2))] [] (mh b o h) := by
  intro n
  induction n with
  | zero => intro h v1 v2 hf; unfold f_X9_writeName_b2 at hf; cases hf
  | succ n wk2 =>
    intro h v1 v2 hf
    unfold f_X9_writeName_b2 at hf
    refine gx_iload_n C dX9_writeName_2 2 rfl ?_
    refine gx_aload_n C dX9_writeName_3 0 rfl ?_
    refine gx_gr C (mh_gr (k := 0) rfl) gz_494 q2634 dX9_writeName_4 ?_
    refine gx_iload_n C dX9_writeName_7 1 rfl ?_
    replace hf := gx_bs hf
    obtain ⟨x1, g7, hf⟩ := hf
    refine gx_iald C (mh_ai g7) dX9_writeName_8 ?_
    replace hf := gx_ite hf
    rcases hf with ⟨c2, hf⟩ | ⟨c2, hf⟩
    · refine gx_icmp_ge_t (tgt := 32) C dX9_writeName_9 rfl c2 ?_
      obtain rfl := Option.some.inj hf
      exact gx_vret C dX9_writeName_32
    · refine gx_icmp_ge_f (tgt := 32) C dX9_writeName_9 rfl c2 ?_
      refine gx_aload_n C dX9_writeName_12 0 rfl ?_
      refine gx_aload_n C dX9_writeName_13 0 rfl ?_
      refine gx_gr C (mh_gr (k := 0) rfl) gz_494 q2634 dX9_writeName_14 ?_
      refine gx_iload_n C dX9_writeName_17 1 rfl ?_
      refine gx_iconst (v := 1) C dX9_writeName_18 rfl ?_
      refine gx_iadd C dX9_writeName_19 ?_
      refine gx_iload_n C dX9_writeName_20 2 rfl ?_
      refine gx_iadd C dX9_writeName_21 ?_
      replace hf := gx_bs hf
      obtain ⟨x3, g6, hf⟩ := hf
      refine gx_iald C (mh_ai g6) dX9_writeName_22 ?_
      replace hf := gx_bs hf
      obtain ⟨h5, g4, hf⟩ := hf
      refine gx_callV (st := []) C (w_X9_write hlt g4) mh_is gz_497 rfl (lw_V q3244 q3246 qs119 q151 q3247) gz_603 (by decide) rfl rfl (gx_catn (Nat.le_of_ble_eq_true rfl)) dX9_writeName_23 ?_
      refine gx_inc (v := 1) C dX9_writeName_26 2 rfl rfl (by decide) [0, 1] rfl (gx_okn rfl rfl (gx_okr rfl gx_catv_i gx_ok0)) ?_
      refine gx_goto (tgt := 2) C dX9_writeName_29 rfl ?_
      refine gx_sub [1, 2, 0] rfl ?_
      exact wk2 hf
def f_X9_writeName (D : gx_D) (b : HX) (o : Nat) (h : MS) (p1 : Int32) : Option MS :=
  f_X9_writeName_b2 D b o gx_fuel h p1 ((0 : Int32))
theorem w_X9_writeName_b {l : Launch} (hlt : l.stackTraces = false) {p : Program} {e : Env} {R : Room} {s : State} {m : MethodId} {args : Array Value} {below : List Frame} {meth : Method} {c : Code} {D : gx_D} {b : HX} {o : Nat} {h0 : MS} {hz : MS} (C : gx_Ctx p R s m args meth c "ContractMachineModel" cX9_writeName 3 none 2 45 D (mh b o h0) (mh b o hz)) (hx : meth.name = "writeName") {p1 : Int32} (hf : f_X9_writeName D b o h0 p1 = some hz) : gx_G p l e R s m args below meth c D (mh b o h0) (mh b o hz) 3 (gx_MQ below args s D (mh b o h0) (mh b o hz) none) 0 [(0, (va_rf (some o))), (1, (.int p1))] [] (mh b o h0) := by
  unfold f_X9_writeName at hf
  refine gx_iconst (v := 0) C dX9_writeName_0 rfl ?_
  refine gx_istn C dX9_writeName_1 2 rfl (by decide) [0, 1]  rfl (gx_okn rfl rfl (gx_okr rfl gx_catv_i gx_ok0)) ?_
  refine gx_sub [1, 2, 0] rfl ?_
  exact w_X9_writeName_b2 hlt C hx gx_fuel hf
theorem w_X9_writeName {l : Launch} (hlt : l.stackTraces = false) {D : gx_D} {b : HX} {o : Nat} {h : MS} {p1 : Int32} {hz : MS} (hf : f_X9_writeName D b o h p1 = some hz) : gx_Met l yX9_writeName cX9_writeName 3 none 2 45 D [(va_rf (some o)), (.int p1)] (mh b o h) none (mh b o hz) :=
  gx_ofG gz_495 (by simp only [gx_lsr, gx_lsi, gx_lsj, gx_ls0]; decide) mh_le (fun p e R s m args below meth c C hx => by
    simp only [gx_lar, gx_lai, gx_laj, gx_la0, Nat.reduceAdd]
    exact w_X9_writeName_b hlt C hx hf)
def f_X9_writeConfiguration_b85 (D : gx_D) (b : HX) (o : Nat) (h : MS) : Option ((Int32) × MS) :=
  some ((h.1 30), h)
theorem w_X9_writeConfiguration_b85 {l : Launch} (hlt : l.stackTraces = false) {p : Program} {e : Env} {R : Room} {s : State} {m : MethodId} {args : Array Value} {below : List Frame} {meth : Method} {c : Code} {D : gx_D} {b : HX} {o : Nat} {h0 : MS} {r : Int32} {hz : MS} (C : gx_Ctx p R s m args meth c "ContractMachineModel" cX9_writeConfiguration 2 (some .int) 3 67 D (mh b o h0) (mh b o hz)) (hx : meth.name = "writeConfiguration")  {h : MS} (hf : f_X9_writeConfiguration_b85 D b o h = some (r, hz)) : gx_G p l e R s m args below meth c D (mh b o h0) (mh b o hz) 2 (gx_MQ below args s D (mh b o h0) (mh b o hz) (some (.int r))) 85 [(0, (va_rf (some o)))] [] (mh b o h) := by
  unfold f_X9_writeConfiguration_b85 at hf
  refine gx_aload_n C dX9_writeConfiguration_85 0 rfl ?_
  refine gx_gi C (mh_gi (k := 30) rfl) gz_602 q2664 dX9_writeConfiguration_86 ?_
  obtain ⟨rfl, rfl⟩ := Prod.mk.inj (Option.some.inj hf)
  exact gx_iret C dX9_writeConfiguration_89
def f_X9_writeConfiguration_b29 (D : gx_D) (b : HX) (o : Nat) : Nat → MS → Int32 → Option ((Int32) × MS)
  | 0, _, _ => none
  | n + 1, h, v1 =>
  (ms_ai h 0 (2 : Int32)).bind fun x6 =>
  if x6 ≤ v1 then
  f_X9_writeConfiguration_b85 D b o h
  else
  (f_X9_write D b o h (32 : Int32)).bind fun h9 =>
  (f_X9_writeName D b o h9 ((483 : Int32) + ((7 : Int32) * v1))).bind fun h11 =>
  (f_X9_write D b o h11 (61 : Int32)).bind fun h13 =>
  (ms_ai h13 0 ((6 : Int32) + v1)).bind fun x14 =>
  (f_X9_write D b o h13 ((48 : Int32) + x14)).bind fun h16 =>
  (f_X9_writeConfiguration_b29 D b o n) h16 ((v1 + (1 : Int32)))
theorem w_X9_writeConfiguration_b29 {l : Launch} (hlt : l.stackTraces = false) {p : Program} {e : Env} {R : Room} {s : State} {m : MethodId} {args : Array Value} {below : List Frame} {meth : Method} {c : Code} {D : gx_D} {b : HX} {o : Nat} {h0 : MS} {r : Int32} {hz : MS} (C : gx_Ctx p R s m args meth c "ContractMachineModel" cX9_writeConfiguration 2 (some .int) 3 67 D (mh b o h0) (mh b o hz)) (hx : meth.name = "writeConfiguration")  : ∀ (n : Nat) ⦃h : MS⦄ ⦃v1 : Int32⦄, f_X9_writeConfiguration_b29 D b o n h v1 = some (r, hz) → gx_G p l e R s m args below meth c D (mh b o h0) (mh b o hz) 2 (gx_MQ below args s D (mh b o h0) (mh b o hz) (some (.int r))) 29 [(0, (va_rf (some o))), (1, (.int v1))] [] (mh b o h) := by
  intro n
  induction n with
  | zero => intro h v1 hf; unfold f_X9_writeConfiguration_b29 at hf; cases hf
  | succ n wk29 =>
    intro h v1 hf
    unfold f_X9_writeConfiguration_b29 at hf
    refine gx_iload_n C dX9_writeConfiguration_29 1 rfl ?_
    refine gx_aload_n C dX9_writeConfiguration_30 0 rfl ?_
    refine gx_gr C (mh_gr (k := 0) rfl) gz_494 q2634 dX9_writeConfiguration_31 ?_
    refine gx_iconst (v := 2) C dX9_writeConfiguration_34 rfl ?_
    replace hf := gx_bs hf
    obtain ⟨x6, g18, hf⟩ := hf
    refine gx_iald C (mh_ai g18) dX9_writeConfiguration_35 ?_
    replace hf := gx_ite hf
    rcases hf with ⟨c7, hf⟩ | ⟨c7, hf⟩
    · refine gx_icmp_ge_t (tgt := 85) C dX9_writeConfiguration_36 rfl c7 ?_
      refine gx_sub [0] rfl ?_
      exact w_X9_writeConfiguration_b85 hlt C hx hf
    · refine gx_icmp_ge_f (tgt := 85) C dX9_writeConfiguration_36 rfl c7 ?_
      refine gx_aload_n C dX9_writeConfiguration_39 0 rfl ?_
      refine gx_bipush (v := 32) C dX9_writeConfiguration_40 rfl ?_
      replace hf := gx_bs hf
      obtain ⟨h9, g8, hf⟩ := hf
      refine gx_callV (st := []) C (w_X9_write hlt g8) mh_is gz_497 rfl (lw_V q3244 q3246 qs119 q151 q3247) gz_603 (by decide) rfl rfl (gx_catn (Nat.le_of_ble_eq_true rfl)) dX9_writeConfiguration_42 ?_
      refine gx_aload_n C dX9_writeConfiguration_45 0 rfl ?_
      refine gx_sipush (v := 483) C dX9_writeConfiguration_46 rfl ?_
      refine gx_bipush (v := 7) C dX9_writeConfiguration_49 rfl ?_
      refine gx_iload_n C dX9_writeConfiguration_51 1 rfl ?_
      refine gx_imul C dX9_writeConfiguration_52 ?_
      refine gx_iadd C dX9_writeConfiguration_53 ?_
      replace hf := gx_bs hf
      obtain ⟨h11, g10, hf⟩ := hf
      refine gx_callV (st := []) C (w_X9_writeName hlt g10) mh_is gz_497 rfl (lw_V q3240 q3242 qs118 q151 q3243) gz_604 (by decide) rfl rfl (gx_catn (Nat.le_of_ble_eq_true rfl)) dX9_writeConfiguration_54 ?_
      refine gx_aload_n C dX9_writeConfiguration_57 0 rfl ?_
      refine gx_bipush (v := 61) C dX9_writeConfiguration_58 rfl ?_
      replace hf := gx_bs hf
      obtain ⟨h13, g12, hf⟩ := hf
      refine gx_callV (st := []) C (w_X9_write hlt g12) mh_is gz_497 rfl (lw_V q3244 q3246 qs119 q151 q3247) gz_603 (by decide) rfl rfl (gx_catn (Nat.le_of_ble_eq_true rfl)) dX9_writeConfiguration_60 ?_
      refine gx_aload_n C dX9_writeConfiguration_63 0 rfl ?_
      refine gx_bipush (v := 48) C dX9_writeConfiguration_64 rfl ?_
      refine gx_aload_n C dX9_writeConfiguration_66 0 rfl ?_
      refine gx_gr C (mh_gr (k := 0) rfl) gz_494 q2634 dX9_writeConfiguration_67 ?_
      refine gx_bipush (v := 6) C dX9_writeConfiguration_70 rfl ?_
      refine gx_iload_n C dX9_writeConfiguration_72 1 rfl ?_
      refine gx_iadd C dX9_writeConfiguration_73 ?_
      replace hf := gx_bs hf
      obtain ⟨x14, g17, hf⟩ := hf
      refine gx_iald C (mh_ai g17) dX9_writeConfiguration_74 ?_
      refine gx_iadd C dX9_writeConfiguration_75 ?_
      replace hf := gx_bs hf
      obtain ⟨h16, g15, hf⟩ := hf
      refine gx_callV (st := []) C (w_X9_write hlt g15) mh_is gz_497 rfl (lw_V q3244 q3246 qs119 q151 q3247) gz_603 (by decide) rfl rfl (gx_catn (Nat.le_of_ble_eq_true rfl)) dX9_writeConfiguration_76 ?_
      refine gx_inc (v := 1) C dX9_writeConfiguration_79 1 rfl rfl (by decide) [0] rfl (gx_okr rfl gx_catv_r gx_ok0) ?_
      refine gx_goto (tgt := 29) C dX9_writeConfiguration_82 rfl ?_
      refine gx_sub [1, 0] rfl ?_
      exact wk29 hf
def f_X9_writeConfiguration (D : gx_D) (b : HX) (o : Nat) (h : MS) : Option ((Int32) × MS) :=
  (ms_pf h 6 (0 : Int32)).bind fun h1 =>
  (ms_pf h1 30 (0 : Int32)).bind fun h2 =>
  (ms_ai h2 0 (5 : Int32)).bind fun x3 =>
  (f_X9_writeName D b o h2 ((357 : Int32) + ((7 : Int32) * x3))).bind fun h5 =>
  f_X9_writeConfiguration_b29 D b o gx_fuel h5 ((0 : Int32))
theorem w_X9_writeConfiguration_b {l : Launch} (hlt : l.stackTraces = false) {p : Program} {e : Env} {R : Room} {s : State} {m : MethodId} {args : Array Value} {below : List Frame} {meth : Method} {c : Code} {D : gx_D} {b : HX} {o : Nat} {h0 : MS} {r : Int32} {hz : MS} (C : gx_Ctx p R s m args meth c "ContractMachineModel" cX9_writeConfiguration 2 (some .int) 3 67 D (mh b o h0) (mh b o hz)) (hx : meth.name = "writeConfiguration") (hf : f_X9_writeConfiguration D b o h0 = some (r, hz)) : gx_G p l e R s m args below meth c D (mh b o h0) (mh b o hz) 2 (gx_MQ below args s D (mh b o h0) (mh b o hz) (some (.int r))) 0 [(0, (va_rf (some o)))] [] (mh b o h0) := by
  unfold f_X9_writeConfiguration at hf
  refine gx_aload_n C dX9_writeConfiguration_0 0 rfl ?_
  refine gx_iconst (v := 0) C dX9_writeConfiguration_1 rfl ?_
  replace hf := gx_bs hf
  obtain ⟨h1, g21, hf⟩ := hf
  refine gx_putv C (mh_pg (by decide) (fun _ _ => mh_p6) g21) gz_519 gz_1 rfl rfl q2640 dX9_writeConfiguration_2 ?_
  refine gx_aload_n C dX9_writeConfiguration_5 0 rfl ?_
  refine gx_iconst (v := 0) C dX9_writeConfiguration_6 rfl ?_
  replace hf := gx_bs hf
  obtain ⟨h2, g20, hf⟩ := hf
  refine gx_putv C (mh_pg (by decide) (fun _ _ => mh_p30) g20) gz_602 gz_1 rfl rfl q2664 dX9_writeConfiguration_7 ?_
  refine gx_aload_n C dX9_writeConfiguration_10 0 rfl ?_
  refine gx_sipush (v := 357) C dX9_writeConfiguration_11 rfl ?_
  refine gx_bipush (v := 7) C dX9_writeConfiguration_14 rfl ?_
  refine gx_aload_n C dX9_writeConfiguration_16 0 rfl ?_
  refine gx_gr C (mh_gr (k := 0) rfl) gz_494 q2634 dX9_writeConfiguration_17 ?_
  refine gx_iconst (v := 5) C dX9_writeConfiguration_20 rfl ?_
  replace hf := gx_bs hf
  obtain ⟨x3, g19, hf⟩ := hf
  refine gx_iald C (mh_ai g19) dX9_writeConfiguration_21 ?_
  refine gx_imul C dX9_writeConfiguration_22 ?_
  refine gx_iadd C dX9_writeConfiguration_23 ?_
  replace hf := gx_bs hf
  obtain ⟨h5, g4, hf⟩ := hf
  refine gx_callV (st := []) C (w_X9_writeName hlt g4) mh_is gz_497 rfl (lw_V q3240 q3242 qs118 q151 q3243) gz_604 (by decide) rfl rfl (gx_catn (Nat.le_of_ble_eq_true rfl)) dX9_writeConfiguration_24 ?_
  refine gx_iconst (v := 0) C dX9_writeConfiguration_27 rfl ?_
  refine gx_istn C dX9_writeConfiguration_28 1 rfl (by decide) [0]  rfl (gx_okr rfl gx_catv_r gx_ok0) ?_
  refine gx_sub [1, 0] rfl ?_
  exact w_X9_writeConfiguration_b29 hlt C hx gx_fuel hf
theorem w_X9_writeConfiguration {l : Launch} (hlt : l.stackTraces = false) {D : gx_D} {b : HX} {o : Nat} {h : MS} {r : Int32} {hz : MS} (hf : f_X9_writeConfiguration D b o h = some (r, hz)) : gx_Met l yX9_writeConfiguration cX9_writeConfiguration 2 (some .int) 3 67 D [(va_rf (some o))] (mh b o h) (some (.int r)) (mh b o hz) :=
  gx_ofG gz_495 (by simp only [gx_lsr, gx_lsi, gx_lsj, gx_ls0]; decide) mh_le (fun p e R s m args below meth c C hx => by
    simp only [gx_lar, gx_lai, gx_laj, gx_la0, Nat.reduceAdd]
    exact w_X9_writeConfiguration_b hlt C hx hf)
def f_X9_outputByte (D : gx_D) (b : HX) (o : Nat) (h : MS) (p1 : Int32) : Option ((Int32) × MS) :=
  (ms_pf h 6 (0 : Int32)).bind fun h1 =>
  (f_X9_inRange D b o h1 p1 (0 : Int32) ((h1.1 30) - (1 : Int32))).bind fun b3 =>
  if b3 = true then
  (ms_ai h1 12 p1).bind fun x5 =>
  some (x5, h1)
  else
  some ((-1 : Int32), h1)
theorem w_X9_outputByte_b {l : Launch} (hlt : l.stackTraces = false) {p : Program} {e : Env} {R : Room} {s : State} {m : MethodId} {args : Array Value} {below : List Frame} {meth : Method} {c : Code} {D : gx_D} {b : HX} {o : Nat} {h0 : MS} {r : Int32} {hz : MS} (C : gx_Ctx p R s m args meth c "ContractMachineModel" cX9_outputByte 2 (some .int) 2 46 D (mh b o h0) (mh b o hz)) (hx : meth.name = "outputByte") {p1 : Int32} (hf : f_X9_outputByte D b o h0 p1 = some (r, hz)) : gx_G p l e R s m args below meth c D (mh b o h0) (mh b o hz) 2 (gx_MQ below args s D (mh b o h0) (mh b o hz) (some (.int r))) 0 [(0, (va_rf (some o))), (1, (.int p1))] [] (mh b o h0) := by
  unfold f_X9_outputByte at hf
  refine gx_aload_n C dX9_outputByte_0 0 rfl ?_
  refine gx_iconst (v := 0) C dX9_outputByte_1 rfl ?_
  replace hf := gx_bs hf
  obtain ⟨h1, g7, hf⟩ := hf
  refine gx_putv C (mh_pg (by decide) (fun _ _ => mh_p6) g7) gz_519 gz_1 rfl rfl q2640 dX9_outputByte_2 ?_
  refine gx_iload_n C dX9_outputByte_5 1 rfl ?_
  refine gx_iconst (v := 0) C dX9_outputByte_6 rfl ?_
  refine gx_aload_n C dX9_outputByte_7 0 rfl ?_
  refine gx_gi C (mh_gi (k := 30) rfl) gz_602 q2664 dX9_outputByte_8 ?_
  refine gx_iconst (v := 1) C dX9_outputByte_11 rfl ?_
  refine gx_isub C dX9_outputByte_12 ?_
  replace hf := gx_bs hf
  obtain ⟨b3, g2, hf⟩ := hf
  refine gx_callS (st := []) C (w_X9_inRange hlt g2) (lw_S q2745 q2746 q151 q2747) gz_522 (by decide) rfl rfl (gx_catn (Nat.le_of_ble_eq_true rfl)) dX9_outputByte_13 ?_
  replace hf := gx_ite hf
  rcases hf with ⟨c4, hf⟩ | ⟨c4, hf⟩
  · refine gx_ifz_eq_f (tgt := 28) C dX9_outputByte_16 rfl c4 ?_
    refine gx_aload_n C dX9_outputByte_19 0 rfl ?_
    refine gx_gr C (mh_gr (k := 29) rfl) gz_511 q2663 dX9_outputByte_20 ?_
    refine gx_iload_n C dX9_outputByte_23 1 rfl ?_
    replace hf := gx_bs hf
    obtain ⟨x5, g6, hf⟩ := hf
    refine gx_iald C (mh_ai g6) dX9_outputByte_24 ?_
    refine gx_goto (tgt := 29) C dX9_outputByte_25 rfl ?_
    obtain ⟨rfl, rfl⟩ := Prod.mk.inj (Option.some.inj hf)
    exact gx_iret C dX9_outputByte_29
  · refine gx_ifz_eq_t (tgt := 28) C dX9_outputByte_16 rfl c4 ?_
    refine gx_iconst (v := -1) C dX9_outputByte_28 rfl ?_
    obtain ⟨rfl, rfl⟩ := Prod.mk.inj (Option.some.inj hf)
    exact gx_iret C dX9_outputByte_29
theorem w_X9_outputByte {l : Launch} (hlt : l.stackTraces = false) {D : gx_D} {b : HX} {o : Nat} {h : MS} {p1 : Int32} {r : Int32} {hz : MS} (hf : f_X9_outputByte D b o h p1 = some (r, hz)) : gx_Met l yX9_outputByte cX9_outputByte 2 (some .int) 2 46 D [(va_rf (some o)), (.int p1)] (mh b o h) (some (.int r)) (mh b o hz) :=
  gx_ofG gz_495 (by simp only [gx_lsr, gx_lsi, gx_lsj, gx_ls0]; decide) mh_le (fun p e R s m args below meth c C hx => by
    simp only [gx_lar, gx_lai, gx_laj, gx_la0, Nat.reduceAdd]
    exact w_X9_outputByte_b hlt C hx hf)
def f_X9_saveState (D : gx_D) (b : HX) (o : Nat) (h : MS) : Option ((Int32) × MS) :=
  (ms_pf h 6 (0 : Int32)).bind fun h1 =>
  (f_X9_copies D b o h1 0 (0 : Int32) 2 (0 : Int32)).bind fun h3 =>
  (ms_pf h3 5 (1 : Int32)).bind fun h4 =>
  (ms_ai h4 0 (5 : Int32)).bind fun x5 =>
  some (x5, h4)
theorem w_X9_saveState_b {l : Launch} (hlt : l.stackTraces = false) {p : Program} {e : Env} {R : Room} {s : State} {m : MethodId} {args : Array Value} {below : List Frame} {meth : Method} {c : Code} {D : gx_D} {b : HX} {o : Nat} {h0 : MS} {r : Int32} {hz : MS} (C : gx_Ctx p R s m args meth c "ContractMachineModel" cX9_saveState 1 (some .int) 2 48 D (mh b o h0) (mh b o hz)) (hx : meth.name = "saveState") (hf : f_X9_saveState D b o h0 = some (r, hz)) : gx_G p l e R s m args below meth c D (mh b o h0) (mh b o hz) 1 (gx_MQ below args s D (mh b o h0) (mh b o hz) (some (.int r))) 0 [(0, (va_rf (some o)))] [] (mh b o h0) := by
  unfold f_X9_saveState at hf
  refine gx_aload_n C dX9_saveState_0 0 rfl ?_
  refine gx_iconst (v := 0) C dX9_saveState_1 rfl ?_
  replace hf := gx_bs hf
  obtain ⟨h1, g8, hf⟩ := hf
  refine gx_putv C (mh_pg (by decide) (fun _ _ => mh_p6) g8) gz_519 gz_1 rfl rfl q2640 dX9_saveState_2 ?_
  refine gx_aload_n C dX9_saveState_5 0 rfl ?_
  refine gx_gr C (mh_gr (k := 0) rfl) gz_494 q2634 dX9_saveState_6 ?_
  refine gx_iconst (v := 0) C dX9_saveState_9 rfl ?_
  refine gx_aload_n C dX9_saveState_10 0 rfl ?_
  refine gx_gr C (mh_gr (k := 2) rfl) gz_499 q2636 dX9_saveState_11 ?_
  refine gx_iconst (v := 0) C dX9_saveState_14 rfl ?_
  replace hf := gx_bs hf
  obtain ⟨h3, g2, hf⟩ := hf
  refine gx_callS (st := []) C (w_X9_copies hlt g2) (lw_S q2752 q2753 q151 q2754) gz_568 (by decide) rfl rfl (gx_catn (Nat.le_of_ble_eq_true rfl)) dX9_saveState_15 ?_
  refine gx_aload_n C dX9_saveState_18 0 rfl ?_
  refine gx_iconst (v := 1) C dX9_saveState_19 rfl ?_
  replace hf := gx_bs hf
  obtain ⟨h4, g7, hf⟩ := hf
  refine gx_putv C (mh_pg (by decide) (fun _ _ => mh_p5) g7) gz_567 gz_248 rfl rfl q2639 dX9_saveState_20 ?_
  refine gx_aload_n C dX9_saveState_23 0 rfl ?_
  refine gx_gr C (mh_gr (k := 0) rfl) gz_494 q2634 dX9_saveState_24 ?_
  refine gx_iconst (v := 5) C dX9_saveState_27 rfl ?_
  replace hf := gx_bs hf
  obtain ⟨x5, g6, hf⟩ := hf
  refine gx_iald C (mh_ai g6) dX9_saveState_28 ?_
  obtain ⟨rfl, rfl⟩ := Prod.mk.inj (Option.some.inj hf)
  exact gx_iret C dX9_saveState_29
theorem w_X9_saveState {l : Launch} (hlt : l.stackTraces = false) {D : gx_D} {b : HX} {o : Nat} {h : MS} {r : Int32} {hz : MS} (hf : f_X9_saveState D b o h = some (r, hz)) : gx_Met l yX9_saveState cX9_saveState 1 (some .int) 2 48 D [(va_rf (some o))] (mh b o h) (some (.int r)) (mh b o hz) :=
  gx_ofG gz_495 (by simp only [gx_lsr, gx_lsi, gx_lsj, gx_ls0]; decide) mh_le (fun p e R s m args below meth c C hx => by
    simp only [gx_lar, gx_lai, gx_laj, gx_la0, Nat.reduceAdd]
    exact w_X9_saveState_b hlt C hx hf)
def f_X9_restoreState_b18 (D : gx_D) (b : HX) (o : Nat) (h : MS) (s0 : Bool) : Option ((Int32) × MS) :=
  gx_b2 (f_X9_fails D b o h s0 (1 : Int32)) fun b4 h5 =>
  if b4 = true then
  some ((0 : Int32), h5)
  else
  (f_X9_copies D b o h5 2 (0 : Int32) 0 (0 : Int32)).bind fun h8 =>
  (ms_pf h8 4 (0 : Int32)).bind fun h9 =>
  (ms_ai h9 0 (5 : Int32)).bind fun x10 =>
  some (x10, h9)
theorem w_X9_restoreState_b18 {l : Launch} (hlt : l.stackTraces = false) {p : Program} {e : Env} {R : Room} {s : State} {m : MethodId} {args : Array Value} {below : List Frame} {meth : Method} {c : Code} {D : gx_D} {b : HX} {o : Nat} {h0 : MS} {r : Int32} {hz : MS} (C : gx_Ctx p R s m args meth c "ContractMachineModel" cX9_restoreState 1 (some .int) 2 48 D (mh b o h0) (mh b o hz)) (hx : meth.name = "restoreState")  {h : MS} {s0 : Bool} (hf : f_X9_restoreState_b18 D b o h s0 = some (r, hz)) : gx_G p l e R s m args below meth c D (mh b o h0) (mh b o hz) 1 (gx_MQ below args s D (mh b o h0) (mh b o hz) (some (.int r))) 18 [(0, (va_rf (some o)))] [(.int (b2i s0)), (va_rf (some o))] (mh b o h) := by
  unfold f_X9_restoreState_b18 at hf
  refine gx_iconst (v := 1) C dX9_restoreState_18 rfl ?_
  replace hf := gx_b2s hf
  obtain ⟨b4, h5, g3, hf⟩ := hf
  refine gx_callV (st := []) C (w_X9_fails hlt g3) mh_is gz_497 rfl (lw_V q3037 q3039 qs108 q151 q3040) gz_589 (by decide) rfl rfl (gx_catn (Nat.le_of_ble_eq_true rfl)) dX9_restoreState_19 ?_
  replace hf := gx_ite hf
  rcases hf with ⟨c6, hf⟩ | ⟨c6, hf⟩
  · refine gx_ifz_eq_f (tgt := 27) C dX9_restoreState_22 rfl c6 ?_
    refine gx_iconst (v := 0) C dX9_restoreState_25 rfl ?_
    obtain ⟨rfl, rfl⟩ := Prod.mk.inj (Option.some.inj hf)
    exact gx_iret C dX9_restoreState_26
  · refine gx_ifz_eq_t (tgt := 27) C dX9_restoreState_22 rfl c6 ?_
    refine gx_aload_n C dX9_restoreState_27 0 rfl ?_
    refine gx_gr C (mh_gr (k := 2) rfl) gz_499 q2636 dX9_restoreState_28 ?_
    refine gx_iconst (v := 0) C dX9_restoreState_31 rfl ?_
    refine gx_aload_n C dX9_restoreState_32 0 rfl ?_
    refine gx_gr C (mh_gr (k := 0) rfl) gz_494 q2634 dX9_restoreState_33 ?_
    refine gx_iconst (v := 0) C dX9_restoreState_36 rfl ?_
    replace hf := gx_bs hf
    obtain ⟨h8, g7, hf⟩ := hf
    refine gx_callS (st := []) C (w_X9_copies hlt g7) (lw_S q2752 q2753 q151 q2754) gz_568 (by decide) rfl rfl (gx_catn (Nat.le_of_ble_eq_true rfl)) dX9_restoreState_37 ?_
    refine gx_aload_n C dX9_restoreState_40 0 rfl ?_
    refine gx_iconst (v := 0) C dX9_restoreState_41 rfl ?_
    replace hf := gx_bs hf
    obtain ⟨h9, g12, hf⟩ := hf
    refine gx_putv C (mh_pg (by decide) (fun _ _ => mh_p4) g12) gz_566 gz_1 rfl rfl q2638 dX9_restoreState_42 ?_
    refine gx_aload_n C dX9_restoreState_45 0 rfl ?_
    refine gx_gr C (mh_gr (k := 0) rfl) gz_494 q2634 dX9_restoreState_46 ?_
    refine gx_iconst (v := 5) C dX9_restoreState_49 rfl ?_
    replace hf := gx_bs hf
    obtain ⟨x10, g11, hf⟩ := hf
    refine gx_iald C (mh_ai g11) dX9_restoreState_50 ?_
    obtain ⟨rfl, rfl⟩ := Prod.mk.inj (Option.some.inj hf)
    exact gx_iret C dX9_restoreState_51
def f_X9_restoreState (D : gx_D) (b : HX) (o : Nat) (h : MS) : Option ((Int32) × MS) :=
  (ms_pf h 6 (0 : Int32)).bind fun h1 =>
  if (h1.1 5) = 0 then
  f_X9_restoreState_b18 D b o h1 true
  else
  f_X9_restoreState_b18 D b o h1 false
theorem w_X9_restoreState_b {l : Launch} (hlt : l.stackTraces = false) {p : Program} {e : Env} {R : Room} {s : State} {m : MethodId} {args : Array Value} {below : List Frame} {meth : Method} {c : Code} {D : gx_D} {b : HX} {o : Nat} {h0 : MS} {r : Int32} {hz : MS} (C : gx_Ctx p R s m args meth c "ContractMachineModel" cX9_restoreState 1 (some .int) 2 48 D (mh b o h0) (mh b o hz)) (hx : meth.name = "restoreState") (hf : f_X9_restoreState D b o h0 = some (r, hz)) : gx_G p l e R s m args below meth c D (mh b o h0) (mh b o hz) 1 (gx_MQ below args s D (mh b o h0) (mh b o hz) (some (.int r))) 0 [(0, (va_rf (some o)))] [] (mh b o h0) := by
  unfold f_X9_restoreState at hf
  refine gx_aload_n C dX9_restoreState_0 0 rfl ?_
  refine gx_iconst (v := 0) C dX9_restoreState_1 rfl ?_
  replace hf := gx_bs hf
  obtain ⟨h1, g13, hf⟩ := hf
  refine gx_putv C (mh_pg (by decide) (fun _ _ => mh_p6) g13) gz_519 gz_1 rfl rfl q2640 dX9_restoreState_2 ?_
  refine gx_aload_n C dX9_restoreState_5 0 rfl ?_
  refine gx_aload_n C dX9_restoreState_6 0 rfl ?_
  refine gx_gi C (mh_gi (k := 5) rfl) gz_567 q2639 dX9_restoreState_7 ?_
  replace hf := gx_ite hf
  rcases hf with ⟨c2, hf⟩ | ⟨c2, hf⟩
  · refine gx_if_ne_f (tgt := 17) C dX9_restoreState_10 rfl c2 ?_
    refine gx_iconst (v := 1) C dX9_restoreState_13 rfl ?_
    refine gx_goto (tgt := 18) C dX9_restoreState_14 rfl ?_
    refine gx_sub [0] rfl ?_
    exact w_X9_restoreState_b18 hlt C hx hf
  · refine gx_if_ne_t (tgt := 17) C dX9_restoreState_10 rfl c2 ?_
    refine gx_iconst (v := 0) C dX9_restoreState_17 rfl ?_
    refine gx_sub [0] rfl ?_
    exact w_X9_restoreState_b18 hlt C hx hf
theorem w_X9_restoreState {l : Launch} (hlt : l.stackTraces = false) {D : gx_D} {b : HX} {o : Nat} {h : MS} {r : Int32} {hz : MS} (hf : f_X9_restoreState D b o h = some (r, hz)) : gx_Met l yX9_restoreState cX9_restoreState 1 (some .int) 2 48 D [(va_rf (some o))] (mh b o h) (some (.int r)) (mh b o hz) :=
  gx_ofG gz_495 (by simp only [gx_lsr, gx_lsi, gx_lsj, gx_ls0]; decide) mh_le (fun p e R s m args below meth c C hx => by
    simp only [gx_lar, gx_lai, gx_laj, gx_la0, Nat.reduceAdd]
    exact w_X9_restoreState_b hlt C hx hf)
