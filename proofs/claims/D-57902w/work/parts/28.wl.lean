/-! walks of the law's own methods (printed by gen/run.py) -/
set_option maxRecDepth 100000
def f_X0_stateNameByte (D : gx_D) (h : HX) (p0 : Option Nat) (p1 : Int32) (p2 : Int32) (p3 : Option Nat) : Option ((Int32) × HX) :=
  p0.bind fun a1 =>
  gx_bx (f_X1_stateNameByte D h a1 p1 p2) (fun x3 h4 =>
  p3.bind fun a7 =>
  (hx_sl h4 a7 (0 : Int32) (Int32.toInt64 x3)).bind fun h8 =>
  some ((0 : Int32), h8)) fun E5 q6 h4 =>
  if E5 = "java/lang/IndexOutOfBoundsException" then
  some ((1 : Int32), h4)
  else
  none
theorem w_X0_stateNameByte_b {l : Launch} (hlt : l.stackTraces = false) {p : Program} {e : Env} {R : Room} {s : State} {m : MethodId} {args : Array Value} {below : List Frame} {meth : Method} {c : Code} {D : gx_D} {h0 : HX} {r : Int32} {hz : HX} (C : gx_Ctx p R s m args meth c "ContractMachineLaw" cX0_stateNameByte 5 (some .int) 10 175 D h0 hz) (hx : c.exceptionTable.toList = tableOf [(0, 10, 13, 13)]) {p0 : Option Nat} {p1 : Int32} {p2 : Int32} {p3 : Option Nat} (hf : f_X0_stateNameByte D h0 p0 p1 p2 p3 = some (r, hz)) : gx_G p l e R s m args below meth c D h0 hz 5 (gx_MQX below args s D h0 hz (.inl (some (.int r)))) 0 [(0, (va_rf p0)), (1, (.int p1)), (2, (.int p2)), (3, (va_rf p3))] [] h0 := by
  unfold f_X0_stateNameByte at hf
  refine gx_aload_n C dX0_stateNameByte_0 3 rfl ?_
  refine gx_iconst (v := 0) C dX0_stateNameByte_1 rfl ?_
  refine gx_aload_n C dX0_stateNameByte_2 0 rfl ?_
  refine gx_iload_n C dX0_stateNameByte_3 1 rfl ?_
  refine gx_iload_n C dX0_stateNameByte_4 2 rfl ?_
  replace hf := gx_bs hf
  obtain ⟨a1, rfl, hf⟩ := hf
  replace hf := gx_bxs hf
  rcases hf with ⟨x3, h4, g2, hf⟩ | ⟨E5, q6, h4, g2, hf⟩
  · refine gx_xcallV (st := [(.int (0 : Int32)), (va_rf p3)]) C (w_X1_stateNameByte hlt g2) (is_X1_stateNameByte g2) gz_108 rfl (lw_V q2261 q2262 q2263 q121 q2264) gz_605 (by decide) rfl rfl (gx_catn (Nat.le_of_ble_eq_true rfl)) dX0_stateNameByte_5 (gx_k2l ?_)
    refine gx_i2l C dX0_stateNameByte_8 ?_
    replace hf := gx_bs hf
    obtain ⟨a7, rfl, hf⟩ := hf
    replace hf := gx_bs hf
    obtain ⟨h8, g9, hf⟩ := hf
    refine gx_last C g9 dX0_stateNameByte_9 ?_
    refine gx_goto (tgt := 17) C dX0_stateNameByte_10 rfl ?_
    refine gx_iconst (v := 0) C dX0_stateNameByte_17 rfl ?_
    obtain ⟨rfl, rfl⟩ := Prod.mk.inj (Option.some.inj hf)
    exact gx_ret (gx_iret C dX0_stateNameByte_18)
  · refine gx_xcallV (st := [(.int (0 : Int32)), (va_rf p3)]) C (w_X1_stateNameByte hlt g2) (is_X1_stateNameByte g2) gz_108 rfl (lw_V q2261 q2262 q2263 q121 q2264) gz_605 (by decide) rfl rfl (gx_catn (Nat.le_of_ble_eq_true rfl)) dX0_stateNameByte_5 (gx_k2r ?_)
    replace hf := gx_ite hf
    rcases hf with ⟨c10, hf⟩ | ⟨c10, hf⟩
    · subst c10
      refine gx_catch C [] ⟨0, 10, 13, 13⟩ [] hx (fun _ h => nomatch h) rfl (by decide) q2258 q2276 rfl ?_
      refine gx_ast C dX0_stateNameByte_13 (by decide) []  rfl gx_ok0 ?_
      refine gx_iconst (v := 1) C dX0_stateNameByte_15 rfl ?_
      obtain ⟨rfl, rfl⟩ := Prod.mk.inj (Option.some.inj hf)
      exact gx_ret (gx_iret C dX0_stateNameByte_16)
    cases hf
theorem le_X0_stateNameByte {D : gx_D} {r : Int32} {hz : HX} {h : HX} {p0 : Option Nat} {p1 : Int32} {p2 : Int32} {p3 : Option Nat} (hf : f_X0_stateNameByte D h p0 p1 p2 p3 = some (r, hz)) : gx_le h hz := by
  unfold f_X0_stateNameByte at hf
  replace hf := gx_bs hf
  obtain ⟨a1, rfl, hf⟩ := hf
  replace hf := gx_bxs hf
  rcases hf with ⟨x3, h4, g2, hf⟩ | ⟨E5, q6, h4, g2, hf⟩
  · refine (le_X1_stateNameByte g2).tr ?_
    replace hf := gx_bs hf
    obtain ⟨a7, rfl, hf⟩ := hf
    replace hf := gx_bs hf
    obtain ⟨h8, g9, hf⟩ := hf
    refine (hx_le_sl g9).tr ?_
    obtain ⟨rfl, rfl⟩ := Prod.mk.inj (Option.some.inj hf)
    exact gx_le.rf
  · refine (le_X1_stateNameByte g2).tr ?_
    replace hf := gx_ite hf
    rcases hf with ⟨c10, hf⟩ | ⟨c10, hf⟩
    · subst c10
      obtain ⟨rfl, rfl⟩ := Prod.mk.inj (Option.some.inj hf)
      exact gx_le.rf
    cases hf
theorem w_X0_stateNameByte {l : Launch} (hlt : l.stackTraces = false) {D : gx_D} {h : HX} {p0 : Option Nat} {p1 : Int32} {p2 : Int32} {p3 : Option Nat} {r : Int32} {hz : HX} (hf : f_X0_stateNameByte D h p0 p1 p2 p3 = some (r, hz)) : gx_MetX l yX0_stateNameByte (wsW_ yX0_stateNameByte cX0_stateNameByte 5 (some .int) [(0, 10, 13, 13)]) 10 175 D [(va_rf p0), (.int p1), (.int p2), (va_rf p3)] h (.inl (some (.int r))) hz :=
  gx_ofGW gz_606 (by simp only [gx_lsr, gx_lsi, gx_lsj, gx_ls0]; decide) (le_X0_stateNameByte hf) (fun p e R s m args below meth c C hn hx => by
    simp only [gx_lar, gx_lai, gx_laj, gx_la0, Nat.reduceAdd]
    exact w_X0_stateNameByte_b hlt C hx hf)
def f_X0_eventNameByte (D : gx_D) (h : HX) (p0 : Option Nat) (p1 : Int32) (p2 : Int32) (p3 : Option Nat) : Option ((Int32) × HX) :=
  p0.bind fun a1 =>
  gx_bx (f_X1_eventNameByte D h a1 p1 p2) (fun x3 h4 =>
  p3.bind fun a7 =>
  (hx_sl h4 a7 (0 : Int32) (Int32.toInt64 x3)).bind fun h8 =>
  some ((0 : Int32), h8)) fun E5 q6 h4 =>
  if E5 = "java/lang/IndexOutOfBoundsException" then
  some ((1 : Int32), h4)
  else
  none
theorem w_X0_eventNameByte_b {l : Launch} (hlt : l.stackTraces = false) {p : Program} {e : Env} {R : Room} {s : State} {m : MethodId} {args : Array Value} {below : List Frame} {meth : Method} {c : Code} {D : gx_D} {h0 : HX} {r : Int32} {hz : HX} (C : gx_Ctx p R s m args meth c "ContractMachineLaw" cX0_eventNameByte 5 (some .int) 10 175 D h0 hz) (hx : c.exceptionTable.toList = tableOf [(0, 10, 13, 13)]) {p0 : Option Nat} {p1 : Int32} {p2 : Int32} {p3 : Option Nat} (hf : f_X0_eventNameByte D h0 p0 p1 p2 p3 = some (r, hz)) : gx_G p l e R s m args below meth c D h0 hz 5 (gx_MQX below args s D h0 hz (.inl (some (.int r)))) 0 [(0, (va_rf p0)), (1, (.int p1)), (2, (.int p2)), (3, (va_rf p3))] [] h0 := by
  unfold f_X0_eventNameByte at hf
  refine gx_aload_n C dX0_eventNameByte_0 3 rfl ?_
  refine gx_iconst (v := 0) C dX0_eventNameByte_1 rfl ?_
  refine gx_aload_n C dX0_eventNameByte_2 0 rfl ?_
  refine gx_iload_n C dX0_eventNameByte_3 1 rfl ?_
  refine gx_iload_n C dX0_eventNameByte_4 2 rfl ?_
  replace hf := gx_bs hf
  obtain ⟨a1, rfl, hf⟩ := hf
  replace hf := gx_bxs hf
  rcases hf with ⟨x3, h4, g2, hf⟩ | ⟨E5, q6, h4, g2, hf⟩
  · refine gx_xcallV (st := [(.int (0 : Int32)), (va_rf p3)]) C (w_X1_eventNameByte hlt g2) (is_X1_eventNameByte g2) gz_108 rfl (lw_V q2294 q2295 q2296 q121 q2297) gz_607 (by decide) rfl rfl (gx_catn (Nat.le_of_ble_eq_true rfl)) dX0_eventNameByte_5 (gx_k2l ?_)
    refine gx_i2l C dX0_eventNameByte_8 ?_
    replace hf := gx_bs hf
    obtain ⟨a7, rfl, hf⟩ := hf
    replace hf := gx_bs hf
    obtain ⟨h8, g9, hf⟩ := hf
    refine gx_last C g9 dX0_eventNameByte_9 ?_
    refine gx_goto (tgt := 17) C dX0_eventNameByte_10 rfl ?_
    refine gx_iconst (v := 0) C dX0_eventNameByte_17 rfl ?_
    obtain ⟨rfl, rfl⟩ := Prod.mk.inj (Option.some.inj hf)
    exact gx_ret (gx_iret C dX0_eventNameByte_18)
  · refine gx_xcallV (st := [(.int (0 : Int32)), (va_rf p3)]) C (w_X1_eventNameByte hlt g2) (is_X1_eventNameByte g2) gz_108 rfl (lw_V q2294 q2295 q2296 q121 q2297) gz_607 (by decide) rfl rfl (gx_catn (Nat.le_of_ble_eq_true rfl)) dX0_eventNameByte_5 (gx_k2r ?_)
    replace hf := gx_ite hf
    rcases hf with ⟨c10, hf⟩ | ⟨c10, hf⟩
    · subst c10
      refine gx_catch C [] ⟨0, 10, 13, 13⟩ [] hx (fun _ h => nomatch h) rfl (by decide) q2258 q2276 rfl ?_
      refine gx_ast C dX0_eventNameByte_13 (by decide) []  rfl gx_ok0 ?_
      refine gx_iconst (v := 1) C dX0_eventNameByte_15 rfl ?_
      obtain ⟨rfl, rfl⟩ := Prod.mk.inj (Option.some.inj hf)
      exact gx_ret (gx_iret C dX0_eventNameByte_16)
    cases hf
theorem le_X0_eventNameByte {D : gx_D} {r : Int32} {hz : HX} {h : HX} {p0 : Option Nat} {p1 : Int32} {p2 : Int32} {p3 : Option Nat} (hf : f_X0_eventNameByte D h p0 p1 p2 p3 = some (r, hz)) : gx_le h hz := by
  unfold f_X0_eventNameByte at hf
  replace hf := gx_bs hf
  obtain ⟨a1, rfl, hf⟩ := hf
  replace hf := gx_bxs hf
  rcases hf with ⟨x3, h4, g2, hf⟩ | ⟨E5, q6, h4, g2, hf⟩
  · refine (le_X1_eventNameByte g2).tr ?_
    replace hf := gx_bs hf
    obtain ⟨a7, rfl, hf⟩ := hf
    replace hf := gx_bs hf
    obtain ⟨h8, g9, hf⟩ := hf
    refine (hx_le_sl g9).tr ?_
    obtain ⟨rfl, rfl⟩ := Prod.mk.inj (Option.some.inj hf)
    exact gx_le.rf
  · refine (le_X1_eventNameByte g2).tr ?_
    replace hf := gx_ite hf
    rcases hf with ⟨c10, hf⟩ | ⟨c10, hf⟩
    · subst c10
      obtain ⟨rfl, rfl⟩ := Prod.mk.inj (Option.some.inj hf)
      exact gx_le.rf
    cases hf
theorem w_X0_eventNameByte {l : Launch} (hlt : l.stackTraces = false) {D : gx_D} {h : HX} {p0 : Option Nat} {p1 : Int32} {p2 : Int32} {p3 : Option Nat} {r : Int32} {hz : HX} (hf : f_X0_eventNameByte D h p0 p1 p2 p3 = some (r, hz)) : gx_MetX l yX0_eventNameByte (wsW_ yX0_eventNameByte cX0_eventNameByte 5 (some .int) [(0, 10, 13, 13)]) 10 175 D [(va_rf p0), (.int p1), (.int p2), (va_rf p3)] h (.inl (some (.int r))) hz :=
  gx_ofGW gz_606 (by simp only [gx_lsr, gx_lsi, gx_lsj, gx_ls0]; decide) (le_X0_eventNameByte hf) (fun p e R s m args below meth c C hn hx => by
    simp only [gx_lar, gx_lai, gx_laj, gx_la0, Nat.reduceAdd]
    exact w_X0_eventNameByte_b hlt C hx hf)
def f_X0_variableNameByte (D : gx_D) (h : HX) (p0 : Option Nat) (p1 : Int32) (p2 : Int32) (p3 : Option Nat) : Option ((Int32) × HX) :=
  p0.bind fun a1 =>
  gx_bx (f_X1_variableNameByte D h a1 p1 p2) (fun x3 h4 =>
  p3.bind fun a7 =>
  (hx_sl h4 a7 (0 : Int32) (Int32.toInt64 x3)).bind fun h8 =>
  some ((0 : Int32), h8)) fun E5 q6 h4 =>
  if E5 = "java/lang/IndexOutOfBoundsException" then
  some ((1 : Int32), h4)
  else
  none
theorem w_X0_variableNameByte_b {l : Launch} (hlt : l.stackTraces = false) {p : Program} {e : Env} {R : Room} {s : State} {m : MethodId} {args : Array Value} {below : List Frame} {meth : Method} {c : Code} {D : gx_D} {h0 : HX} {r : Int32} {hz : HX} (C : gx_Ctx p R s m args meth c "ContractMachineLaw" cX0_variableNameByte 5 (some .int) 10 175 D h0 hz) (hx : c.exceptionTable.toList = tableOf [(0, 10, 13, 13)]) {p0 : Option Nat} {p1 : Int32} {p2 : Int32} {p3 : Option Nat} (hf : f_X0_variableNameByte D h0 p0 p1 p2 p3 = some (r, hz)) : gx_G p l e R s m args below meth c D h0 hz 5 (gx_MQX below args s D h0 hz (.inl (some (.int r)))) 0 [(0, (va_rf p0)), (1, (.int p1)), (2, (.int p2)), (3, (va_rf p3))] [] h0 := by
  unfold f_X0_variableNameByte at hf
  refine gx_aload_n C dX0_variableNameByte_0 3 rfl ?_
  refine gx_iconst (v := 0) C dX0_variableNameByte_1 rfl ?_
  refine gx_aload_n C dX0_variableNameByte_2 0 rfl ?_
  refine gx_iload_n C dX0_variableNameByte_3 1 rfl ?_
  refine gx_iload_n C dX0_variableNameByte_4 2 rfl ?_
  replace hf := gx_bs hf
  obtain ⟨a1, rfl, hf⟩ := hf
  replace hf := gx_bxs hf
  rcases hf with ⟨x3, h4, g2, hf⟩ | ⟨E5, q6, h4, g2, hf⟩
  · refine gx_xcallV (st := [(.int (0 : Int32)), (va_rf p3)]) C (w_X1_variableNameByte hlt g2) (is_X1_variableNameByte g2) gz_108 rfl (lw_V q2301 q2302 q2303 q121 q2304) gz_608 (by decide) rfl rfl (gx_catn (Nat.le_of_ble_eq_true rfl)) dX0_variableNameByte_5 (gx_k2l ?_)
    refine gx_i2l C dX0_variableNameByte_8 ?_
    replace hf := gx_bs hf
    obtain ⟨a7, rfl, hf⟩ := hf
    replace hf := gx_bs hf
    obtain ⟨h8, g9, hf⟩ := hf
    refine gx_last C g9 dX0_variableNameByte_9 ?_
    refine gx_goto (tgt := 17) C dX0_variableNameByte_10 rfl ?_
    refine gx_iconst (v := 0) C dX0_variableNameByte_17 rfl ?_
    obtain ⟨rfl, rfl⟩ := Prod.mk.inj (Option.some.inj hf)
    exact gx_ret (gx_iret C dX0_variableNameByte_18)
  · refine gx_xcallV (st := [(.int (0 : Int32)), (va_rf p3)]) C (w_X1_variableNameByte hlt g2) (is_X1_variableNameByte g2) gz_108 rfl (lw_V q2301 q2302 q2303 q121 q2304) gz_608 (by decide) rfl rfl (gx_catn (Nat.le_of_ble_eq_true rfl)) dX0_variableNameByte_5 (gx_k2r ?_)
    replace hf := gx_ite hf
    rcases hf with ⟨c10, hf⟩ | ⟨c10, hf⟩
    · subst c10
      refine gx_catch C [] ⟨0, 10, 13, 13⟩ [] hx (fun _ h => nomatch h) rfl (by decide) q2258 q2276 rfl ?_
      refine gx_ast C dX0_variableNameByte_13 (by decide) []  rfl gx_ok0 ?_
      refine gx_iconst (v := 1) C dX0_variableNameByte_15 rfl ?_
      obtain ⟨rfl, rfl⟩ := Prod.mk.inj (Option.some.inj hf)
      exact gx_ret (gx_iret C dX0_variableNameByte_16)
    cases hf
theorem le_X0_variableNameByte {D : gx_D} {r : Int32} {hz : HX} {h : HX} {p0 : Option Nat} {p1 : Int32} {p2 : Int32} {p3 : Option Nat} (hf : f_X0_variableNameByte D h p0 p1 p2 p3 = some (r, hz)) : gx_le h hz := by
  unfold f_X0_variableNameByte at hf
  replace hf := gx_bs hf
  obtain ⟨a1, rfl, hf⟩ := hf
  replace hf := gx_bxs hf
  rcases hf with ⟨x3, h4, g2, hf⟩ | ⟨E5, q6, h4, g2, hf⟩
  · refine (le_X1_variableNameByte g2).tr ?_
    replace hf := gx_bs hf
    obtain ⟨a7, rfl, hf⟩ := hf
    replace hf := gx_bs hf
    obtain ⟨h8, g9, hf⟩ := hf
    refine (hx_le_sl g9).tr ?_
    obtain ⟨rfl, rfl⟩ := Prod.mk.inj (Option.some.inj hf)
    exact gx_le.rf
  · refine (le_X1_variableNameByte g2).tr ?_
    replace hf := gx_ite hf
    rcases hf with ⟨c10, hf⟩ | ⟨c10, hf⟩
    · subst c10
      obtain ⟨rfl, rfl⟩ := Prod.mk.inj (Option.some.inj hf)
      exact gx_le.rf
    cases hf
theorem w_X0_variableNameByte {l : Launch} (hlt : l.stackTraces = false) {D : gx_D} {h : HX} {p0 : Option Nat} {p1 : Int32} {p2 : Int32} {p3 : Option Nat} {r : Int32} {hz : HX} (hf : f_X0_variableNameByte D h p0 p1 p2 p3 = some (r, hz)) : gx_MetX l yX0_variableNameByte (wsW_ yX0_variableNameByte cX0_variableNameByte 5 (some .int) [(0, 10, 13, 13)]) 10 175 D [(va_rf p0), (.int p1), (.int p2), (va_rf p3)] h (.inl (some (.int r))) hz :=
  gx_ofGW gz_606 (by simp only [gx_lsr, gx_lsi, gx_lsj, gx_ls0]; decide) (le_X0_variableNameByte hf) (fun p e R s m args below meth c C hn hx => by
    simp only [gx_lar, gx_lai, gx_laj, gx_la0, Nat.reduceAdd]
    exact w_X0_variableNameByte_b hlt C hx hf)
def f_X0_valueOf (D : gx_D) (h : HX) (p0 : Option Nat) (p1 : Int32) (p2 : Option Nat) : Option ((Int32) × HX) :=
  p0.bind fun a1 =>
  gx_bx (f_X1_valueOf D h a1 p1) (fun x3 h4 =>
  p2.bind fun a7 =>
  (hx_sl h4 a7 (0 : Int32) (Int32.toInt64 x3)).bind fun h8 =>
  some ((0 : Int32), h8)) fun E5 q6 h4 =>
  if E5 = "java/lang/IndexOutOfBoundsException" then
  some ((1 : Int32), h4)
  else
  none
theorem w_X0_valueOf_b {l : Launch} (hlt : l.stackTraces = false) {p : Program} {e : Env} {R : Room} {s : State} {m : MethodId} {args : Array Value} {below : List Frame} {meth : Method} {c : Code} {D : gx_D} {h0 : HX} {r : Int32} {hz : HX} (C : gx_Ctx p R s m args meth c "ContractMachineLaw" cX0_valueOf 4 (some .int) 10 172 D h0 hz) (hx : c.exceptionTable.toList = tableOf [(0, 9, 12, 13)]) {p0 : Option Nat} {p1 : Int32} {p2 : Option Nat} (hf : f_X0_valueOf D h0 p0 p1 p2 = some (r, hz)) : gx_G p l e R s m args below meth c D h0 hz 4 (gx_MQX below args s D h0 hz (.inl (some (.int r)))) 0 [(0, (va_rf p0)), (1, (.int p1)), (2, (va_rf p2))] [] h0 := by
  unfold f_X0_valueOf at hf
  refine gx_aload_n C dX0_valueOf_0 2 rfl ?_
  refine gx_iconst (v := 0) C dX0_valueOf_1 rfl ?_
  refine gx_aload_n C dX0_valueOf_2 0 rfl ?_
  refine gx_iload_n C dX0_valueOf_3 1 rfl ?_
  replace hf := gx_bs hf
  obtain ⟨a1, rfl, hf⟩ := hf
  replace hf := gx_bxs hf
  rcases hf with ⟨x3, h4, g2, hf⟩ | ⟨E5, q6, h4, g2, hf⟩
  · refine gx_xcallV (st := [(.int (0 : Int32)), (va_rf p2)]) C (w_X1_valueOf hlt g2) (is_X1_valueOf g2) gz_108 rfl (lw_V q2308 q2309 q2310 q121 q2311) gz_609 (by decide) rfl rfl (gx_catn (Nat.le_of_ble_eq_true rfl)) dX0_valueOf_4 (gx_k2l ?_)
    refine gx_i2l C dX0_valueOf_7 ?_
    replace hf := gx_bs hf
    obtain ⟨a7, rfl, hf⟩ := hf
    replace hf := gx_bs hf
    obtain ⟨h8, g9, hf⟩ := hf
    refine gx_last C g9 dX0_valueOf_8 ?_
    refine gx_goto (tgt := 15) C dX0_valueOf_9 rfl ?_
    refine gx_iconst (v := 0) C dX0_valueOf_15 rfl ?_
    obtain ⟨rfl, rfl⟩ := Prod.mk.inj (Option.some.inj hf)
    exact gx_ret (gx_iret C dX0_valueOf_16)
  · refine gx_xcallV (st := [(.int (0 : Int32)), (va_rf p2)]) C (w_X1_valueOf hlt g2) (is_X1_valueOf g2) gz_108 rfl (lw_V q2308 q2309 q2310 q121 q2311) gz_609 (by decide) rfl rfl (gx_catn (Nat.le_of_ble_eq_true rfl)) dX0_valueOf_4 (gx_k2r ?_)
    replace hf := gx_ite hf
    rcases hf with ⟨c10, hf⟩ | ⟨c10, hf⟩
    · subst c10
      refine gx_catch C [] ⟨0, 9, 12, 13⟩ [] hx (fun _ h => nomatch h) rfl (by decide) q2258 q2276 rfl ?_
      refine gx_astn C dX0_valueOf_12 3 rfl (by decide) []  rfl gx_ok0 ?_
      refine gx_iconst (v := 1) C dX0_valueOf_13 rfl ?_
      obtain ⟨rfl, rfl⟩ := Prod.mk.inj (Option.some.inj hf)
      exact gx_ret (gx_iret C dX0_valueOf_14)
    cases hf
theorem le_X0_valueOf {D : gx_D} {r : Int32} {hz : HX} {h : HX} {p0 : Option Nat} {p1 : Int32} {p2 : Option Nat} (hf : f_X0_valueOf D h p0 p1 p2 = some (r, hz)) : gx_le h hz := by
  unfold f_X0_valueOf at hf
  replace hf := gx_bs hf
  obtain ⟨a1, rfl, hf⟩ := hf
  replace hf := gx_bxs hf
  rcases hf with ⟨x3, h4, g2, hf⟩ | ⟨E5, q6, h4, g2, hf⟩
  · refine (le_X1_valueOf g2).tr ?_
    replace hf := gx_bs hf
    obtain ⟨a7, rfl, hf⟩ := hf
    replace hf := gx_bs hf
    obtain ⟨h8, g9, hf⟩ := hf
    refine (hx_le_sl g9).tr ?_
    obtain ⟨rfl, rfl⟩ := Prod.mk.inj (Option.some.inj hf)
    exact gx_le.rf
  · refine (le_X1_valueOf g2).tr ?_
    replace hf := gx_ite hf
    rcases hf with ⟨c10, hf⟩ | ⟨c10, hf⟩
    · subst c10
      obtain ⟨rfl, rfl⟩ := Prod.mk.inj (Option.some.inj hf)
      exact gx_le.rf
    cases hf
theorem w_X0_valueOf {l : Launch} (hlt : l.stackTraces = false) {D : gx_D} {h : HX} {p0 : Option Nat} {p1 : Int32} {p2 : Option Nat} {r : Int32} {hz : HX} (hf : f_X0_valueOf D h p0 p1 p2 = some (r, hz)) : gx_MetX l yX0_valueOf (wsW_ yX0_valueOf cX0_valueOf 4 (some .int) [(0, 9, 12, 13)]) 10 172 D [(va_rf p0), (.int p1), (va_rf p2)] h (.inl (some (.int r))) hz :=
  gx_ofGW gz_606 (by simp only [gx_lsr, gx_lsi, gx_lsj, gx_ls0]; decide) (le_X0_valueOf hf) (fun p e R s m args below meth c C hn hx => by
    simp only [gx_lar, gx_lai, gx_laj, gx_la0, Nat.reduceAdd]
    exact w_X0_valueOf_b hlt C hx hf)
def f_X0_initialValueOf (D : gx_D) (h : HX) (p0 : Option Nat) (p1 : Int32) (p2 : Option Nat) : Option ((Int32) × HX) :=
  p0.bind fun a1 =>
  gx_bx (f_X1_initialValueOf D h a1 p1) (fun x3 h4 =>
  p2.bind fun a7 =>
  (hx_sl h4 a7 (0 : Int32) (Int32.toInt64 x3)).bind fun h8 =>
  some ((0 : Int32), h8)) fun E5 q6 h4 =>
  if E5 = "java/lang/IndexOutOfBoundsException" then
  some ((1 : Int32), h4)
  else
  none
theorem w_X0_initialValueOf_b {l : Launch} (hlt : l.stackTraces = false) {p : Program} {e : Env} {R : Room} {s : State} {m : MethodId} {args : Array Value} {below : List Frame} {meth : Method} {c : Code} {D : gx_D} {h0 : HX} {r : Int32} {hz : HX} (C : gx_Ctx p R s m args meth c "ContractMachineLaw" cX0_initialValueOf 4 (some .int) 10 172 D h0 hz) (hx : c.exceptionTable.toList = tableOf [(0, 9, 12, 13)]) {p0 : Option Nat} {p1 : Int32} {p2 : Option Nat} (hf : f_X0_initialValueOf D h0 p0 p1 p2 = some (r, hz)) : gx_G p l e R s m args below meth c D h0 hz 4 (gx_MQX below args s D h0 hz (.inl (some (.int r)))) 0 [(0, (va_rf p0)), (1, (.int p1)), (2, (va_rf p2))] [] h0 := by
  unfold f_X0_initialValueOf at hf
  refine gx_aload_n C dX0_initialValueOf_0 2 rfl ?_
  refine gx_iconst (v := 0) C dX0_initialValueOf_1 rfl ?_
  refine gx_aload_n C dX0_initialValueOf_2 0 rfl ?_
  refine gx_iload_n C dX0_initialValueOf_3 1 rfl ?_
  replace hf := gx_bs hf
  obtain ⟨a1, rfl, hf⟩ := hf
  replace hf := gx_bxs hf
  rcases hf with ⟨x3, h4, g2, hf⟩ | ⟨E5, q6, h4, g2, hf⟩
  · refine gx_xcallV (st := [(.int (0 : Int32)), (va_rf p2)]) C (w_X1_initialValueOf hlt g2) (is_X1_initialValueOf g2) gz_108 rfl (lw_V q2319 q2320 q2321 q121 q2322) gz_610 (by decide) rfl rfl (gx_catn (Nat.le_of_ble_eq_true rfl)) dX0_initialValueOf_4 (gx_k2l ?_)
    refine gx_i2l C dX0_initialValueOf_7 ?_
    replace hf := gx_bs hf
    obtain ⟨a7, rfl, hf⟩ := hf
    replace hf := gx_bs hf
    obtain ⟨h8, g9, hf⟩ := hf
    refine gx_last C g9 dX0_initialValueOf_8 ?_
    refine gx_goto (tgt := 15) C dX0_initialValueOf_9 rfl ?_
    refine gx_iconst (v := 0) C dX0_initialValueOf_15 rfl ?_
    obtain ⟨rfl, rfl⟩ := Prod.mk.inj (Option.some.inj hf)
    exact gx_ret (gx_iret C dX0_initialValueOf_16)
  · refine gx_xcallV (st := [(.int (0 : Int32)), (va_rf p2)]) C (w_X1_initialValueOf hlt g2) (is_X1_initialValueOf g2) gz_108 rfl (lw_V q2319 q2320 q2321 q121 q2322) gz_610 (by decide) rfl rfl (gx_catn (Nat.le_of_ble_eq_true rfl)) dX0_initialValueOf_4 (gx_k2r ?_)
    replace hf := gx_ite hf
    rcases hf with ⟨c10, hf⟩ | ⟨c10, hf⟩
    · subst c10
      refine gx_catch C [] ⟨0, 9, 12, 13⟩ [] hx (fun _ h => nomatch h) rfl (by decide) q2258 q2276 rfl ?_
      refine gx_astn C dX0_initialValueOf_12 3 rfl (by decide) []  rfl gx_ok0 ?_
      refine gx_iconst (v := 1) C dX0_initialValueOf_13 rfl ?_
      obtain ⟨rfl, rfl⟩ := Prod.mk.inj (Option.some.inj hf)
      exact gx_ret (gx_iret C dX0_initialValueOf_14)
    cases hf
theorem le_X0_initialValueOf {D : gx_D} {r : Int32} {hz : HX} {h : HX} {p0 : Option Nat} {p1 : Int32} {p2 : Option Nat} (hf : f_X0_initialValueOf D h p0 p1 p2 = some (r, hz)) : gx_le h hz := by
  unfold f_X0_initialValueOf at hf
  replace hf := gx_bs hf
  obtain ⟨a1, rfl, hf⟩ := hf
  replace hf := gx_bxs hf
  rcases hf with ⟨x3, h4, g2, hf⟩ | ⟨E5, q6, h4, g2, hf⟩
  · refine (le_X1_initialValueOf g2).tr ?_
    replace hf := gx_bs hf
    obtain ⟨a7, rfl, hf⟩ := hf
    replace hf := gx_bs hf
    obtain ⟨h8, g9, hf⟩ := hf
    refine (hx_le_sl g9).tr ?_
    obtain ⟨rfl, rfl⟩ := Prod.mk.inj (Option.some.inj hf)
    exact gx_le.rf
  · refine (le_X1_initialValueOf g2).tr ?_
    replace hf := gx_ite hf
    rcases hf with ⟨c10, hf⟩ | ⟨c10, hf⟩
    · subst c10
      obtain ⟨rfl, rfl⟩ := Prod.mk.inj (Option.some.inj hf)
      exact gx_le.rf
    cases hf
theorem w_X0_initialValueOf {l : Launch} (hlt : l.stackTraces = false) {D : gx_D} {h : HX} {p0 : Option Nat} {p1 : Int32} {p2 : Option Nat} {r : Int32} {hz : HX} (hf : f_X0_initialValueOf D h p0 p1 p2 = some (r, hz)) : gx_MetX l yX0_initialValueOf (wsW_ yX0_initialValueOf cX0_initialValueOf 4 (some .int) [(0, 9, 12, 13)]) 10 172 D [(va_rf p0), (.int p1), (va_rf p2)] h (.inl (some (.int r))) hz :=
  gx_ofGW gz_606 (by simp only [gx_lsr, gx_lsi, gx_lsj, gx_ls0]; decide) (le_X0_initialValueOf hf) (fun p e R s m args below meth c C hn hx => by
    simp only [gx_lar, gx_lai, gx_laj, gx_la0, Nat.reduceAdd]
    exact w_X0_initialValueOf_b hlt C hx hf)
def f_X0_sourceOf (D : gx_D) (h : HX) (p0 : Option Nat) (p1 : Int32) (p2 : Option Nat) : Option ((Int32) × HX) :=
  p0.bind fun a1 =>
  gx_bx (f_X1_sourceOf D h a1 p1) (fun x3 h4 =>
  p2.bind fun a7 =>
  (hx_sl h4 a7 (0 : Int32) (Int32.toInt64 x3)).bind fun h8 =>
  some ((0 : Int32), h8)) fun E5 q6 h4 =>
  if E5 = "java/lang/IndexOutOfBoundsException" then
  some ((1 : Int32), h4)
  else
  none
theorem w_X0_sourceOf_b {l : Launch} (hlt : l.stackTraces = false) {p : Program} {e : Env} {R : Room} {s : State} {m : MethodId} {args : Array Value} {below : List Frame} {meth : Method} {c : Code} {D : gx_D} {h0 : HX} {r : Int32} {hz : HX} (C : gx_Ctx p R s m args meth c "ContractMachineLaw" cX0_sourceOf 4 (some .int) 10 172 D h0 hz) (hx : c.exceptionTable.toList = tableOf [(0, 9, 12, 13)]) {p0 : Option Nat} {p1 : Int32} {p2 : Option Nat} (hf : f_X0_sourceOf D h0 p0 p1 p2 = some (r, hz)) : gx_G p l e R s m args below meth c D h0 hz 4 (gx_MQX below args s D h0 hz (.inl (some (.int r)))) 0 [(0, (va_rf p0)), (1, (.int p1)), (2, (va_rf p2))] [] h0 := by
  unfold f_X0_sourceOf at hf
  refine gx_aload_n C dX0_sourceOf_0 2 rfl ?_
  refine gx_iconst (v := 0) C dX0_sourceOf_1 rfl ?_
  refine gx_aload_n C dX0_sourceOf_2 0 rfl ?_
  refine gx_iload_n C dX0_sourceOf_3 1 rfl ?_
  replace hf := gx_bs hf
  obtain ⟨a1, rfl, hf⟩ := hf
  replace hf := gx_bxs hf
  rcases hf with ⟨x3, h4, g2, hf⟩ | ⟨E5, q6, h4, g2, hf⟩
  · refine gx_xcallV (st := [(.int (0 : Int32)), (va_rf p2)]) C (w_X1_sourceOf hlt g2) (is_X1_sourceOf g2) gz_108 rfl (lw_V q2326 q2327 q2328 q121 q2329) gz_611 (by decide) rfl rfl (gx_catn (Nat.le_of_ble_eq_true rfl)) dX0_sourceOf_4 (gx_k2l ?_)
    refine gx_i2l C dX0_sourceOf_7 ?_
    replace hf := gx_bs hf
    obtain ⟨a7, rfl, hf⟩ := hf
    replace hf := gx_bs hf
    obtain ⟨h8, g9, hf⟩ := hf
    refine gx_last C g9 dX0_sourceOf_8 ?_
    refine gx_goto (tgt := 15) C dX0_sourceOf_9 rfl ?_
    refine gx_iconst (v := 0) C dX0_sourceOf_15 rfl ?_
    obtain ⟨rfl, rfl⟩ := Prod.mk.inj (Option.some.inj hf)
    exact gx_ret (gx_iret C dX0_sourceOf_16)
  · refine gx_xcallV (st := [(.int (0 : Int32)), (va_rf p2)]) C (w_X1_sourceOf hlt g2) (is_X1_sourceOf g2) gz_108 rfl (lw_V q2326 q2327 q2328 q121 q2329) gz_611 (by decide) rfl rfl (gx_catn (Nat.le_of_ble_eq_true rfl)) dX0_sourceOf_4 (gx_k2r ?_)
    replace hf := gx_ite hf
    rcases hf with ⟨c10, hf⟩ | ⟨c10, hf⟩
    · subst c10
      refine gx_catch C [] ⟨0, 9, 12, 13⟩ [] hx (fun _ h => nomatch h) rfl (by decide) q2258 q2276 rfl ?_
      refine gx_astn C dX0_sourceOf_12 3 rfl (by decide) []  rfl gx_ok0 ?_
      refine gx_iconst (v := 1) C dX0_sourceOf_13 rfl ?_
      obtain ⟨rfl, rfl⟩ := Prod.mk.inj (Option.some.inj hf)
      exact gx_ret (gx_iret C dX0_sourceOf_14)
    cases hf
theorem le_X0_sourceOf {D : gx_D} {r : Int32} {hz : HX} {h : HX} {p0 : Option Nat} {p1 : Int32} {p2 : Option Nat} (hf : f_X0_sourceOf D h p0 p1 p2 = some (r, hz)) : gx_le h hz := by
  unfold f_X0_sourceOf at hf
  replace hf := gx_bs hf
  obtain ⟨a1, rfl, hf⟩ := hf
  replace hf := gx_bxs hf
  rcases hf with ⟨x3, h4, g2, hf⟩ | ⟨E5, q6, h4, g2, hf⟩
  · refine (le_X1_sourceOf g2).tr ?_
    replace hf := gx_bs hf
    obtain ⟨a7, rfl, hf⟩ := hf
    replace hf := gx_bs hf
    obtain ⟨h8, g9, hf⟩ := hf
    refine (hx_le_sl g9).tr ?_
    obtain ⟨rfl, rfl⟩ := Prod.mk.inj (Option.some.inj hf)
    exact gx_le.rf
  · refine (le_X1_sourceOf g2).tr ?_
    replace hf := gx_ite hf
    rcases hf with ⟨c10, hf⟩ | ⟨c10, hf⟩
    · subst c10
      obtain ⟨rfl, rfl⟩ := Prod.mk.inj (Option.some.inj hf)
      exact gx_le.rf
    cases hf
theorem w_X0_sourceOf {l : Launch} (hlt : l.stackTraces = false) {D : gx_D} {h : HX} {p0 : Option Nat} {p1 : Int32} {p2 : Option Nat} {r : Int32} {hz : HX} (hf : f_X0_sourceOf D h p0 p1 p2 = some (r, hz)) : gx_MetX l yX0_sourceOf (wsW_ yX0_sourceOf cX0_sourceOf 4 (some .int) [(0, 9, 12, 13)]) 10 172 D [(va_rf p0), (.int p1), (va_rf p2)] h (.inl (some (.int r))) hz :=
  gx_ofGW gz_606 (by simp only [gx_lsr, gx_lsi, gx_lsj, gx_ls0]; decide) (le_X0_sourceOf hf) (fun p e R s m args below meth c C hn hx => by
    simp only [gx_lar, gx_lai, gx_laj, gx_la0, Nat.reduceAdd]
    exact w_X0_sourceOf_b hlt C hx hf)
def f_X0_eventOf (D : gx_D) (h : HX) (p0 : Option Nat) (p1 : Int32) (p2 : Option Nat) : Option ((Int32) × HX) :=
  p0.bind fun a1 =>
  gx_bx (f_X1_eventOf D h a1 p1) (fun x3 h4 =>
  p2.bind fun a7 =>
  (hx_sl h4 a7 (0 : Int32) (Int32.toInt64 x3)).bind fun h8 =>
  some ((0 : Int32), h8)) fun E5 q6 h4 =>
  if E5 = "java/lang/IndexOutOfBoundsException" then
  some ((1 : Int32), h4)
  else
  none
theorem w_X0_eventOf_b {l : Launch} (hlt : l.stackTraces = false) {p : Program} {e : Env} {R : Room} {s : State} {m : MethodId} {args : Array Value} {below : List Frame} {meth : Method} {c : Code} {D : gx_D} {h0 : HX} {r : Int32} {hz : HX} (C : gx_Ctx p R s m args meth c "ContractMachineLaw" cX0_eventOf 4 (some .int) 10 172 D h0 hz) (hx : c.exceptionTable.toList = tableOf [(0, 9, 12, 13)]) {p0 : Option Nat} {p1 : Int32} {p2 : Option Nat} (hf : f_X0_eventOf D h0 p0 p1 p2 = some (r, hz)) : gx_G p l e R s m args below meth c D h0 hz 4 (gx_MQX below args s D h0 hz (.inl (some (.int r)))) 0 [(0, (va_rf p0)), (1, (.int p1)), (2, (va_rf p2))] [] h0 := by
  unfold f_X0_eventOf at hf
  refine gx_aload_n C dX0_eventOf_0 2 rfl ?_
  refine gx_iconst (v := 0) C dX0_eventOf_1 rfl ?_
  refine gx_aload_n C dX0_eventOf_2 0 rfl ?_
  refine gx_iload_n C dX0_eventOf_3 1 rfl ?_
  replace hf := gx_bs hf
  obtain ⟨a1, rfl, hf⟩ := hf
  replace hf := gx_bxs hf
  rcases hf with ⟨x3, h4, g2, hf⟩ | ⟨E5, q6, h4, g2, hf⟩
  · refine gx_xcallV (st := [(.int (0 : Int32)), (va_rf p2)]) C (w_X1_eventOf hlt g2) (is_X1_eventOf g2) gz_108 rfl (lw_V q2337 q2338 q2339 q121 q2340) gz_612 (by decide) rfl rfl (gx_catn (Nat.le_of_ble_eq_true rfl)) dX0_eventOf_4 (gx_k2l ?_)
    refine gx_i2l C dX0_eventOf_7 ?_
    replace hf := gx_bs hf
    obtain ⟨a7, rfl, hf⟩ := hf
    replace hf := gx_bs hf
    obtain ⟨h8, g9, hf⟩ := hf
    refine gx_last C g9 dX0_eventOf_8 ?_
    refine gx_goto (tgt := 15) C dX0_eventOf_9 rfl ?_
    refine gx_iconst (v := 0) C dX0_eventOf_15 rfl ?_
    obtain ⟨rfl, rfl⟩ := Prod.mk.inj (Option.some.inj hf)
    exact gx_ret (gx_iret C dX0_eventOf_16)
  · refine gx_xcallV (st := [(.int (0 : Int32)), (va_rf p2)]) C (w_X1_eventOf hlt g2) (is_X1_eventOf g2) gz_108 rfl (lw_V q2337 q2338 q2339 q121 q2340) gz_612 (by decide) rfl rfl (gx_catn (Nat.le_of_ble_eq_true rfl)) dX0_eventOf_4 (gx_k2r ?_)
    replace hf := gx_ite hf
    rcases hf with ⟨c10, hf⟩ | ⟨c10, hf⟩
    · subst c10
      refine gx_catch C [] ⟨0, 9, 12, 13⟩ [] hx (fun _ h => nomatch h) rfl (by decide) q2258 q2276 rfl ?_
      refine gx_astn C dX0_eventOf_12 3 rfl (by decide) []  rfl gx_ok0 ?_
      refine gx_iconst (v := 1) C dX0_eventOf_13 rfl ?_
      obtain ⟨rfl, rfl⟩ := Prod.mk.inj (Option.some.inj hf)
      exact gx_ret (gx_iret C dX0_eventOf_14)
    cases hf
theorem le_X0_eventOf {D : gx_D} {r : Int32} {hz : HX} {h : HX} {p0 : Option Nat} {p1 : Int32} {p2 : Option Nat} (hf : f_X0_eventOf D h p0 p1 p2 = some (r, hz)) : gx_le h hz := by
  unfold f_X0_eventOf at hf
  replace hf := gx_bs hf
  obtain ⟨a1, rfl, hf⟩ := hf
  replace hf := gx_bxs hf
  rcases hf with ⟨x3, h4, g2, hf⟩ | ⟨E5, q6, h4, g2, hf⟩
  · refine (le_X1_eventOf g2).tr ?_
    replace hf := gx_bs hf
    obtain ⟨a7, rfl, hf⟩ := hf
    replace hf := gx_bs hf
    obtain ⟨h8, g9, hf⟩ := hf
    refine (hx_le_sl g9).tr ?_
    obtain ⟨rfl, rfl⟩ := Prod.mk.inj (Option.some.inj hf)
    exact gx_le.rf
  · refine (le_X1_eventOf g2).tr ?_
    replace hf := gx_ite hf
    rcases hf with ⟨c10, hf⟩ | ⟨c10, hf⟩
    · subst c10
      obtain ⟨rfl, rfl⟩ := Prod.mk.inj (Option.some.inj hf)
      exact gx_le.rf
    cases hf
theorem w_X0_eventOf {l : Launch} (hlt : l.stackTraces = false) {D : gx_D} {h : HX} {p0 : Option Nat} {p1 : Int32} {p2 : Option Nat} {r : Int32} {hz : HX} (hf : f_X0_eventOf D h p0 p1 p2 = some (r, hz)) : gx_MetX l yX0_eventOf (wsW_ yX0_eventOf cX0_eventOf 4 (some .int) [(0, 9, 12, 13)]) 10 172 D [(va_rf p0), (.int p1), (va_rf p2)] h (.inl (some (.int r))) hz :=
  gx_ofGW gz_606 (by simp only [gx_lsr, gx_lsi, gx_lsj, gx_ls0]; decide) (le_X0_eventOf hf) (fun p e R s m args below meth c C hn hx => by
    simp only [gx_lar, gx_lai, gx_laj, gx_la0, Nat.reduceAdd]
    exact w_X0_eventOf_b hlt C hx hf)
def f_X0_targetOf (D : gx_D) (h : HX) (p0 : Option Nat) (p1 : Int32) (p2 : Option Nat) : Option ((Int32) × HX) :=
  p0.bind fun a1 =>
  gx_bx (f_X1_targetOf D h a1 p1) (fun x3 h4 =>
  p2.bind fun a7 =>
  (hx_sl h4 a7 (0 : Int32) (Int32.toInt64 x3)).bind fun h8 =>
  some ((0 : Int32), h8)) fun E5 q6 h4 =>
  if E5 = "java/lang/IndexOutOfBoundsException" then
  some ((1 : Int32), h4)
  else
  none
theorem w_X0_targetOf_b {l : Launch} (hlt : l.stackTraces = false) {p : Program} {e : Env} {R : Room} {s : State} {m : MethodId} {args : Array Value} {below : List Frame} {meth : Method} {c : Code} {D : gx_D} {h0 : HX} {r : Int32} {hz : HX} (C : gx_Ctx p R s m args meth c "ContractMachineLaw" cX0_targetOf 4 (some .int) 10 172 D h0 hz) (hx : c.exceptionTable.toList = tableOf [(0, 9, 12, 13)]) {p0 : Option Nat} {p1 : Int32} {p2 : Option Nat} (hf : f_X0_targetOf D h0 p0 p1 p2 = some (r, hz)) : gx_G p l e R s m args below meth c D h0 hz 4 (gx_MQX below args s D h0 hz (.inl (some (.int r)))) 0 [(0, (va_rf p0)), (1, (.int p1)), (2, (va_rf p2))] [] h0 := by
  unfold f_X0_targetOf at hf
  refine gx_aload_n C dX0_targetOf_0 2 rfl ?_
  refine gx_iconst (v := 0) C dX0_targetOf_1 rfl ?_
  refine gx_aload_n C dX0_targetOf_2 0 rfl ?_
  refine gx_iload_n C dX0_targetOf_3 1 rfl ?_
  replace hf := gx_bs hf
  obtain ⟨a1, rfl, hf⟩ := hf
  replace hf := gx_bxs hf
  rcases hf with ⟨x3, h4, g2, hf⟩ | ⟨E5, q6, h4, g2, hf⟩
  · refine gx_xcallV (st := [(.int (0 : Int32)), (va_rf p2)]) C (w_X1_targetOf hlt g2) (is_X1_targetOf g2) gz_108 rfl (lw_V q2344 q2345 q2346 q121 q2347) gz_613 (by decide) rfl rfl (gx_catn (Nat.le_of_ble_eq_true rfl)) dX0_targetOf_4 (gx_k2l ?_)
    refine gx_i2l C dX0_targetOf_7 ?_
    replace hf := gx_bs hf
    obtain ⟨a7, rfl, hf⟩ := hf
    replace hf := gx_bs hf
    obtain ⟨h8, g9, hf⟩ := hf
    refine gx_last C g9 dX0_targetOf_8 ?_
    refine gx_goto (tgt := 15) C dX0_targetOf_9 rfl ?_
    refine gx_iconst (v := 0) C dX0_targetOf_15 rfl ?_
    obtain ⟨rfl, rfl⟩ := Prod.mk.inj (Option.some.inj hf)
    exact gx_ret (gx_iret C dX0_targetOf_16)
  · refine gx_xcallV (st := [(.int (0 : Int32)), (va_rf p2)]) C (w_X1_targetOf hlt g2) (is_X1_targetOf g2) gz_108 rfl (lw_V q2344 q2345 q2346 q121 q2347) gz_613 (by decide) rfl rfl (gx_catn (Nat.le_of_ble_eq_true rfl)) dX0_targetOf_4 (gx_k2r ?_)
    replace hf := gx_ite hf
    rcases hf with ⟨c10, hf⟩ | ⟨c10, hf⟩
    · subst c10
      refine gx_catch C [] ⟨0, 9, 12, 13⟩ [] hx (fun _ h => nomatch h) rfl (by decide) q2258 q2276 rfl ?_
      refine gx_astn C dX0_targetOf_12 3 rfl (by decide) []  rfl gx_ok0 ?_
      refine gx_iconst (v := 1) C dX0_targetOf_13 rfl ?_
      obtain ⟨rfl, rfl⟩ := Prod.mk.inj (Option.some.inj hf)
      exact gx_ret (gx_iret C dX0_targetOf_14)
    cases hf
theorem le_X0_targetOf {D : gx_D} {r : Int32} {hz : HX} {h : HX} {p0 : Option Nat} {p1 : Int32} {p2 : Option Nat} (hf : f_X0_targetOf D h p0 p1 p2 = some (r, hz)) : gx_le h hz := by
  unfold f_X0_targetOf at hf
  replace hf := gx_bs hf
  obtain ⟨a1, rfl, hf⟩ := hf
  replace hf := gx_bxs hf
  rcases hf with ⟨x3, h4, g2, hf⟩ | ⟨E5, q6, h4, g2, hf⟩
  · refine (le_X1_targetOf g2).tr ?_
    replace hf := gx_bs hf
    obtain ⟨a7, rfl, hf⟩ := hf
    replace hf := gx_bs hf
    obtain ⟨h8, g9, hf⟩ := hf
    refine (hx_le_sl g9).tr ?_
    obtain ⟨rfl, rfl⟩ := Prod.mk.inj (Option.some.inj hf)
    exact gx_le.rf
  · refine (le_X1_targetOf g2).tr ?_
    replace hf := gx_ite hf
    rcases hf with ⟨c10, hf⟩ | ⟨c10, hf⟩
    · subst c10
      obtain ⟨rfl, rfl⟩ := Prod.mk.inj (Option.some.inj hf)
      exact gx_le.rf
    cases hf
theorem w_X0_targetOf {l : Launch} (hlt : l.stackTraces = false) {D : gx_D} {h : HX} {p0 : Option Nat} {p1 : Int32} {p2 : Option Nat} {r : Int32} {hz : HX} (hf : f_X0_targetOf D h p0 p1 p2 = some (r, hz)) : gx_MetX l yX0_targetOf (wsW_ yX0_targetOf cX0_targetOf 4 (some .int) [(0, 9, 12, 13)]) 10 172 D [(va_rf p0), (.int p1), (va_rf p2)] h (.inl (some (.int r))) hz :=
  gx_ofGW gz_606 (by simp only [gx_lsr, gx_lsi, gx_lsj, gx_ls0]; decide) (le_X0_targetOf hf) (fun p e R s m args below meth c C hn hx => by
    simp only [gx_lar, gx_lai, gx_laj, gx_la0, Nat.reduceAdd]
    exact w_X0_targetOf_b hlt C hx hf)
def f_X0_hasGuard_b15 (D : gx_D) (h : HX) (s0 : Int64) (s1 : Int32) (s2 : Option Nat) : Option ((Int32) × HX) :=
  s2.bind fun a8 =>
  (hx_sl h a8 s1 s0).bind fun h9 =>
  some ((0 : Int32), h9)
theorem w_X0_hasGuard_b15 {l : Launch} (hlt : l.stackTraces = false) {p : Program} {e : Env} {R : Room} {s : State} {m : MethodId} {args : Array Value} {below : List Frame} {meth : Method} {c : Code} {D : gx_D} {h0 : HX} {r : Int32} {hz : HX} (C : gx_Ctx p R s m args meth c "ContractMachineLaw" cX0_hasGuard 4 (some .int) 10 172 D h0 hz) (hx : c.exceptionTable.toList = tableOf [(0, 16, 19, 13)])  {h : HX} {s0 : Int64} {s1 : Int32} {s2 : Option Nat} (hf : f_X0_hasGuard_b15 D h s0 s1 s2 = some (r, hz)) : gx_G p l e R s m args below meth c D h0 hz 4 (gx_MQX below args s D h0 hz (.inl (some (.int r)))) 15 [] [(.long s0), (.int s1), (va_rf s2)] h := by
  unfold f_X0_hasGuard_b15 at hf
  replace hf := gx_bs hf
  obtain ⟨a8, rfl, hf⟩ := hf
  replace hf := gx_bs hf
  obtain ⟨h9, g10, hf⟩ := hf
  refine gx_last C g10 dX0_hasGuard_15 ?_
  refine gx_goto (tgt := 22) C dX0_hasGuard_16 rfl ?_
  refine gx_iconst (v := 0) C dX0_hasGuard_22 rfl ?_
  obtain ⟨rfl, rfl⟩ := Prod.mk.inj (Option.some.inj hf)
  exact gx_ret (gx_iret C dX0_hasGuard_23)
theorem le_X0_hasGuard_b15 {D : gx_D} {r : Int32} {hz : HX} {h : HX} {s0 : Int64} {s1 : Int32} {s2 : Option Nat} (hf : f_X0_hasGuard_b15 D h s0 s1 s2 = some (r, hz)) : gx_le h hz := by
  unfold f_X0_hasGuard_b15 at hf
  replace hf := gx_bs hf
  obtain ⟨a8, rfl, hf⟩ := hf
  replace hf := gx_bs hf
  obtain ⟨h9, g10, hf⟩ := hf
  refine (hx_le_sl g10).tr ?_
  obtain ⟨rfl, rfl⟩ := Prod.mk.inj (Option.some.inj hf)
  exact gx_le.rf
def f_X0_hasGuard (D : gx_D) (h : HX) (p0 : Option Nat) (p1 : Int32) (p2 : Option Nat) : Option ((Int32) × HX) :=
  p0.bind fun a1 =>
  gx_bx (f_X1_hasGuard D h a1 p1) (fun b3 h4 =>
  if b3 = true then
  f_X0_hasGuard_b15 D h4 ((1 : Int64)) ((0 : Int32)) p2
  else
  f_X0_hasGuard_b15 D h4 ((0 : Int64)) ((0 : Int32)) p2) fun E5 q6 h4 =>
  if E5 = "java/lang/IndexOutOfBoundsException" then
  some ((1 : Int32), h4)
  else
  none
theorem w_X0_hasGuard_b {l : Launch} (hlt : l.stackTraces = false) {p : Program} {e : Env} {R : Room} {s : State} {m : MethodId} {args : Array Value} {below : List Frame} {meth : Method} {c : Code} {D : gx_D} {h0 : HX} {r : Int32} {hz : HX} (C : gx_Ctx p R s m args meth c "ContractMachineLaw" cX0_hasGuard 4 (some .int) 10 172 D h0 hz) (hx : c.exceptionTable.toList = tableOf [(0, 16, 19, 13)]) {p0 : Option Nat} {p1 : Int32} {p2 : Option Nat} (hf : f_X0_hasGuard D h0 p0 p1 p2 = some (r, hz)) : gx_G p l e R s m args below meth c D h0 hz 4 (gx_MQX below args s D h0 hz (.inl (some (.int r)))) 0 [(0, (va_rf p0)), (1, (.int p1)), (2, (va_rf p2))] [] h0 := by
  unfold f_X0_hasGuard at hf
  refine gx_aload_n C dX0_hasGuard_0 2 rfl ?_
  refine gx_iconst (v := 0) C dX0_hasGuard_1 rfl ?_
  refine gx_aload_n C dX0_hasGuard_2 0 rfl ?_
  refine gx_iload_n C dX0_hasGuard_3 1 rfl ?_
  replace hf := gx_bs hf
  obtain ⟨a1, rfl, hf⟩ := hf
  replace hf := gx_bxs hf
  rcases hf with ⟨b3, h4, g2, hf⟩ | ⟨E5, q6, h4, g2, hf⟩
  · refine gx_xcallV (st := [(.int (0 : Int32)), (va_rf p2)]) C (w_X1_hasGuard hlt g2) (is_X1_hasGuard g2) gz_108 rfl (lw_V q2351 q2352 q2353 q121 q2354) gz_614 (by decide) rfl rfl (gx_catn (Nat.le_of_ble_eq_true rfl)) dX0_hasGuard_4 (gx_k2l ?_)
    replace hf := gx_ite hf
    rcases hf with ⟨c7, hf⟩ | ⟨c7, hf⟩
    · refine gx_ifz_eq_f (tgt := 14) C dX0_hasGuard_7 rfl c7 ?_
      refine gx_lconst (v := 1) C dX0_hasGuard_10 rfl ?_
      refine gx_goto (tgt := 15) C dX0_hasGuard_11 rfl ?_
      refine gx_sub [] rfl ?_
      exact w_X0_hasGuard_b15 hlt C hx hf
    · refine gx_ifz_eq_t (tgt := 14) C dX0_hasGuard_7 rfl c7 ?_
      refine gx_lconst (v := 0) C dX0_hasGuard_14 rfl ?_
      refine gx_sub [] rfl ?_
      exact w_X0_hasGuard_b15 hlt C hx hf
  · refine gx_xcallV (st := [(.int (0 : Int32)), (va_rf p2)]) C (w_X1_hasGuard hlt g2) (is_X1_hasGuard g2) gz_108 rfl (lw_V q2351 q2352 q2353 q121 q2354) gz_614 (by decide) rfl rfl (gx_catn (Nat.le_of_ble_eq_true rfl)) dX0_hasGuard_4 (gx_k2r ?_)
    replace hf := gx_ite hf
    rcases hf with ⟨c11, hf⟩ | ⟨c11, hf⟩
    · subst c11
      refine gx_catch C [] ⟨0, 16, 19, 13⟩ [] hx (fun _ h => nomatch h) rfl (by decide) q2258 q2276 rfl ?_
      refine gx_astn C dX0_hasGuard_19 3 rfl (by decide) []  rfl gx_ok0 ?_
      refine gx_iconst (v := 1) C dX0_hasGuard_20 rfl ?_
      obtain ⟨rfl, rfl⟩ := Prod.mk.inj (Option.some.inj hf)
      exact gx_ret (gx_iret C dX0_hasGuard_21)
    cases hf
theorem le_X0_hasGuard {D : gx_D} {r : Int32} {hz : HX} {h : HX} {p0 : Option Nat} {p1 : Int32} {p2 : Option Nat} (hf : f_X0_hasGuard D h p0 p1 p2 = some (r, hz)) : gx_le h hz := by
  unfold f_X0_hasGuard at hf
  replace hf := gx_bs hf
  obtain ⟨a1, rfl, hf⟩ := hf
  replace hf := gx_bxs hf
  rcases hf with ⟨b3, h4, g2, hf⟩ | ⟨E5, q6, h4, g2, hf⟩
  · refine (le_X1_hasGuard g2).tr ?_
    replace hf := gx_ite hf
    rcases hf with ⟨c7, hf⟩ | ⟨c7, hf⟩
    · exact le_X0_hasGuard_b15 hf
    · exact le_X0_hasGuard_b15 hf
  · refine (le_X1_hasGuard g2).tr ?_
    replace hf := gx_ite hf
    rcases hf with ⟨c11, hf⟩ | ⟨c11, hf⟩
    · subst c11
      obtain ⟨rfl, rfl⟩ := Prod.mk.inj (Option.some.inj hf)
      exact gx_le.rf
    cases hf
theorem w_X0_hasGuard {l : Launch} (hlt : l.stackTraces = false) {D : gx_D} {h : HX} {p0 : Option Nat} {p1 : Int32} {p2 : Option Nat} {r : Int32} {hz : HX} (hf : f_X0_hasGuard D h p0 p1 p2 = some (r, hz)) : gx_MetX l yX0_hasGuard (wsW_ yX0_hasGuard cX0_hasGuard 4 (some .int) [(0, 16, 19, 13)]) 10 172 D [(va_rf p0), (.int p1), (va_rf p2)] h (.inl (some (.int r))) hz :=
  gx_ofGW gz_606 (by simp only [gx_lsr, gx_lsi, gx_lsj, gx_ls0]; decide) (le_X0_hasGuard hf) (fun p e R s m args below meth c C hn hx => by
    simp only [gx_lar, gx_lai, gx_laj, gx_la0, Nat.reduceAdd]
    exact w_X0_hasGuard_b hlt C hx hf)
def f_X0_guardHolds_b15 (D : gx_D) (h : HX) (s0 : Int64) (s1 : Int32) (s2 : Option Nat) : Option ((Int32) × HX) :=
  s2.bind fun a8 =>
  (hx_sl h a8 s1 s0).bind fun h9 =>
  some ((0 : Int32), h9)
theorem w_X0_guardHolds_b15 {l : Launch} (hlt : l.stackTraces = false) {p : Program} {e : Env} {R : Room} {s : State} {m : MethodId} {args : Array Value} {below : List Frame} {meth : Method} {c : Code} {D : gx_D} {h0 : HX} {r : Int32} {hz : HX} (C : gx_Ctx p R s m args meth c "ContractMachineLaw" cX0_guardHolds 4 (some .int) 10 172 D h0 hz) (hx : c.exceptionTable.toList = tableOf [(0, 16, 19, 13)])  {h : HX} {s0 : Int64} {s1 : Int32} {s2 : Option Nat} (hf : f_X0_guardHolds_b15 D h s0 s1 s2 = some (r, hz)) : gx_G p l e R s m args below meth c D h0 hz 4 (gx_MQX below args s D h0 hz (.inl (some (.int r)))) 15 [] [(.long s0), (.int s1), (va_rf s2)] h := by
  unfold f_X0_guardHolds_b15 at hf
  replace hf := gx_bs hf
  obtain ⟨a8, rfl, hf⟩ := hf
  replace hf := gx_bs hf
  obtain ⟨h9, g10, hf⟩ := hf
  refine gx_last C g10 dX0_guardHolds_15 ?_
  refine gx_goto (tgt := 22) C dX0_guardHolds_16 rfl ?_
  refine gx_iconst (v := 0) C dX0_guardHolds_22 rfl ?_
  obtain ⟨rfl, rfl⟩ := Prod.mk.inj (Option.some.inj hf)
  exact gx_ret (gx_iret C dX0_guardHolds_23)
theorem le_X0_guardHolds_b15 {D : gx_D} {r : Int32} {hz : HX} {h : HX} {s0 : Int64} {s1 : Int32} {s2 : Option Nat} (hf : f_X0_guardHolds_b15 D h s0 s1 s2 = some (r, hz)) : gx_le h hz := by
  unfold f_X0_guardHolds_b15 at hf
  replace hf := gx_bs hf
  obtain ⟨a8, rfl, hf⟩ := hf
  replace hf := gx_bs hf
  obtain ⟨h9, g10, hf⟩ := hf
  refine (hx_le_sl g10).tr ?_
  obtain ⟨rfl, rfl⟩ := Prod.mk.inj (Option.some.inj hf)
  exact gx_le.rf
def f_X0_guardHolds (D : gx_D) (h : HX) (p0 : Option Nat) (p1 : Int32) (p2 : Option Nat) : Option ((Int32) × HX) :=
  p0.bind fun a1 =>
  gx_bx (f_X1_guardHolds D h a1 p1) (fun b3 h4 =>
  if b3 = true then
  f_X0_guardHolds_b15 D h4 ((1 : Int64)) ((0 : Int32)) p2
  else
  f_X0_guardHolds_b15 D h4 ((0 : Int64)) ((0 : Int32)) p2) fun E5 q6 h4 =>
  if E5 = "java/lang/IndexOutOfBoundsException" then
  some ((1 : Int32), h4)
  else
  none
theorem w_X0_guardHolds_b {l : Launch} (hlt : l.stackTraces = false) {p : Program} {e : Env} {R : Room} {s : State} {m : MethodId} {args : Array Value} {below : List Frame} {meth : Method} {c : Code} {D : gx_D} {h0 : HX} {r : Int32} {hz : HX} (C : gx_Ctx p R s m args meth c "ContractMachineLaw" cX0_guardHolds 4 (some .int) 10 172 D h0 hz) (hx : c.exceptionTable.toList = tableOf [(0, 16, 19, 13)]) {p0 : Option Nat} {p1 : Int32} {p2 : Option Nat} (hf : f_X0_guardHolds D h0 p0 p1 p2 = some (r, hz)) : gx_G p l e R s m args below meth c D h0 hz 4 (gx_MQX below args s D h0 hz (.inl (some (.int r)))) 0 [(0, (va_rf p0)), (1, (.int p1)), (2, (va_rf p2))] [] h0 := by
  unfold f_X0_guardHolds at hf
  refine gx_aload_n C dX0_guardHolds_0 2 rfl ?_
  refine gx_iconst (v := 0) C dX0_guardHolds_1 rfl ?_
  refine gx_aload_n C dX0_guardHolds_2 0 rfl ?_
  refine gx_iload_n C dX0_guardHolds_3 1 rfl ?_
  replace hf := gx_bs hf
  obtain ⟨a1, rfl, hf⟩ := hf
  replace hf := gx_bxs hf
  rcases hf with ⟨b3, h4, g2, hf⟩ | ⟨E5, q6, h4, g2, hf⟩
  · refine gx_xcallV (st := [(.int (0 : Int32)), (va_rf p2)]) C (w_X1_guardHolds hlt g2) (is_X1_guardHolds g2) gz_108 rfl (lw_V q2358 q2359 q2360 q121 q2361) gz_615 (by decide) rfl rfl (gx_catn (Nat.le_of_ble_eq_true rfl)) dX0_guardHolds_4 (gx_k2l ?_)
    replace hf := gx_ite hf
    rcases hf with ⟨c7, hf⟩ | ⟨c7, hf⟩
    · refine gx_ifz_eq_f (tgt := 14) C dX0_guardHolds_7 rfl c7 ?_
      refine gx_lconst (v := 1) C dX0_guardHolds_10 rfl ?_
      refine gx_goto (tgt := 15) C dX0_guardHolds_11 rfl ?_
      refine gx_sub [] rfl ?_
      exact w_X0_guardHolds_b15 hlt C hx hf
    · refine gx_ifz_eq_t (tgt := 14) C dX0_guardHolds_7 rfl c7 ?_
      refine gx_lconst (v := 0) C dX0_guardHolds_14 rfl ?_
      refine gx_sub [] rfl ?_
      exact w_X0_guardHolds_b15 hlt C hx hf
  · refine gx_xcallV (st := [(.int (0 : Int32)), (va_rf p2)]) C (w_X1_guardHolds hlt g2) (is_X1_guardHolds g2) gz_108 rfl (lw_V q2358 q2359 q2360 q121 q2361) gz_615 (by decide) rfl rfl (gx_catn (Nat.le_of_ble_eq_true rfl)) dX0_guardHolds_4 (gx_k2r ?_)
    replace hf := gx_ite hf
    rcases hf with ⟨c11, hf⟩ | ⟨c11, hf⟩
    · subst c11
      refine gx_catch C [] ⟨0, 16, 19, 13⟩ [] hx (fun _ h => nomatch h) rfl (by decide) q2258 q2276 rfl ?_
      refine gx_astn C dX0_guardHolds_19 3 rfl (by decide) []  rfl gx_ok0 ?_
      refine gx_iconst (v := 1) C dX0_guardHolds_20 rfl ?_
      obtain ⟨rfl, rfl⟩ := Prod.mk.inj (Option.some.inj hf)
      exact gx_ret (gx_iret C dX0_guardHolds_21)
    cases hf
theorem le_X0_guardHolds {D : gx_D} {r : Int32} {hz : HX} {h : HX} {p0 : Option Nat} {p1 : Int32} {p2 : Option Nat} (hf : f_X0_guardHolds D h p0 p1 p2 = some (r, hz)) : gx_le h hz := by
  unfold f_X0_guardHolds at hf
  replace hf := gx_bs hf
  obtain ⟨a1, rfl, hf⟩ := hf
  replace hf := gx_bxs hf
  rcases hf with ⟨b3, h4, g2, hf⟩ | ⟨E5, q6, h4, g2, hf⟩
  · refine (le_X1_guardHolds g2).tr ?_
    replace hf := gx_ite hf
    rcases hf with ⟨c7, hf⟩ | ⟨c7, hf⟩
    · exact le_X0_guardHolds_b15 hf
    · exact le_X0_guardHolds_b15 hf
  · refine (le_X1_guardHolds g2).tr ?_
    replace hf := gx_ite hf
    rcases hf with ⟨c11, hf⟩ | ⟨c11, hf⟩
    · subst c11
      obtain ⟨rfl, rfl⟩ := Prod.mk.inj (Option.some.inj hf)
      exact gx_le.rf
    cases hf
theorem w_X0_guardHolds {l : Launch} (hlt : l.stackTraces = false) {D : gx_D} {h : HX} {p0 : Option Nat} {p1 : Int32} {p2 : Option Nat} {r : Int32} {hz : HX} (hf : f_X0_guardHolds D h p0 p1 p2 = some (r, hz)) : gx_MetX l yX0_guardHolds (wsW_ yX0_guardHolds cX0_guardHolds 4 (some .int) [(0, 16, 19, 13)]) 10 172 D [(va_rf p0), (.int p1), (va_rf p2)] h (.inl (some (.int r))) hz :=
  gx_ofGW gz_606 (by simp only [gx_lsr, gx_lsi, gx_lsj, gx_ls0]; decide) (le_X0_guardHolds hf) (fun p e R s m args below meth c C hn hx => by
    simp only [gx_lar, gx_lai, gx_laj, gx_la0, Nat.reduceAdd]
    exact w_X0_guardHolds_b hlt C hx hf)
def f_X0_stateOfInvariant (D : gx_D) (h : HX) (p0 : Option Nat) (p1 : Int32) (p2 : Option Nat) : Option ((Int32) × HX) :=
  p0.bind fun a1 =>
  gx_bx (f_X1_stateOfInvariant D h a1 p1) (fun x3 h4 =>
  p2.bind fun a7 =>
  (hx_sl h4 a7 (0 : Int32) (Int32.toInt64 x3)).bind fun h8 =>
  some ((0 : Int32), h8)) fun E5 q6 h4 =>
  if E5 = "java/lang/IndexOutOfBoundsException" then
  some ((1 : Int32), h4)
  else
  none
theorem w_X0_stateOfInvariant_b {l : Launch} (hlt : l.stackTraces = false) {p : Program} {e : Env} {R : Room} {s : State} {m : MethodId} {args : Array Value} {below : List Frame} {meth : Method} {c : Code} {D : gx_D} {h0 : HX} {r : Int32} {hz : HX} (C : gx_Ctx p R s m args meth c "ContractMachineLaw" cX0_stateOfInvariant 4 (some .int) 10 172 D h0 hz) (hx : c.exceptionTable.toList = tableOf [(0, 9, 12, 13)]) {p0 : Option Nat} {p1 : Int32} {p2 : Option Nat} (hf : f_X0_stateOfInvariant D h0 p0 p1 p2 = some (r, hz)) : gx_G p l e R s m args below meth c D h0 hz 4 (gx_MQX below args s D h0 hz (.inl (some (.int r)))) 0 [(0, (va_rf p0)), (1, (.int p1)), (2, (va_rf p2))] [] h0 := by
  unfold f_X0_stateOfInvariant at hf
  refine gx_aload_n C dX0_stateOfInvariant_0 2 rfl ?_
  refine gx_iconst (v := 0) C dX0_stateOfInvariant_1 rfl ?_
  refine gx_aload_n C dX0_stateOfInvariant_2 0 rfl ?_
  refine gx_iload_n C dX0_stateOfInvariant_3 1 rfl ?_
  replace hf := gx_bs hf
  obtain ⟨a1, rfl, hf⟩ := hf
  replace hf := gx_bxs hf
  rcases hf with ⟨x3, h4, g2, hf⟩ | ⟨E5, q6, h4, g2, hf⟩
  · refine gx_xcallV (st := [(.int (0 : Int32)), (va_rf p2)]) C (w_X1_stateOfInvariant hlt g2) (is_X1_stateOfInvariant g2) gz_108 rfl (lw_V q2366 q2367 q2368 q121 q2369) gz_616 (by decide) rfl rfl (gx_catn (Nat.le_of_ble_eq_true rfl)) dX0_stateOfInvariant_4 (gx_k2l ?_)
    refine gx_i2l C dX0_stateOfInvariant_7 ?_
    replace hf := gx_bs hf
    obtain ⟨a7, rfl, hf⟩ := hf
    replace hf := gx_bs hf
    obtain ⟨h8, g9, hf⟩ := hf
    refine gx_last C g9 dX0_stateOfInvariant_8 ?_
    refine gx_goto (tgt := 15) C dX0_stateOfInvariant_9 rfl ?_
    refine gx_iconst (v := 0) C dX0_stateOfInvariant_15 rfl ?_
    obtain ⟨rfl, rfl⟩ := Prod.mk.inj (Option.some.inj hf)
    exact gx_ret (gx_iret C dX0_stateOfInvariant_16)
  · refine gx_xcallV (st := [(.int (0 : Int32)), (va_rf p2)]) C (w_X1_stateOfInvariant hlt g2) (is_X1_stateOfInvariant g2) gz_108 rfl (lw_V q2366 q2367 q2368 q121 q2369) gz_616 (by decide) rfl rfl (gx_catn (Nat.le_of_ble_eq_true rfl)) dX0_stateOfInvariant_4 (gx_k2r ?_)
    replace hf := gx_ite hf
    rcases hf with ⟨c10, hf⟩ | ⟨c10, hf⟩
    · subst c10
      refine gx_catch C [] ⟨0, 9, 12, 13⟩ [] hx (fun _ h => nomatch h) rfl (by decide) q2258 q2276 rfl ?_
      refine gx_astn C dX0_stateOfInvariant_12 3 rfl (by decide) []  rfl gx_ok0 ?_
      refine gx_iconst (v := 1) C dX0_stateOfInvariant_13 rfl ?_
      obtain ⟨rfl, rfl⟩ := Prod.mk.inj (Option.some.inj hf)
      exact gx_ret (gx_iret C dX0_stateOfInvariant_14)
    cases hf
theorem le_X0_stateOfInvariant {D : gx_D} {r : Int32} {hz : HX} {h : HX} {p0 : Option Nat} {p1 : Int32} {p2 : Option Nat} (hf : f_X0_stateOfInvariant D h p0 p1 p2 = some (r, hz)) : gx_le h hz := by
  unfold f_X0_stateOfInvariant at hf
  replace hf := gx_bs hf
  obtain ⟨a1, rfl, hf⟩ := hf
  replace hf := gx_bxs hf
  rcases hf with ⟨x3, h4, g2, hf⟩ | ⟨E5, q6, h4, g2, hf⟩
  · refine (le_X1_stateOfInvariant g2).tr ?_
    replace hf := gx_bs hf
    obtain ⟨a7, rfl, hf⟩ := hf
    replace hf := gx_bs hf
    obtain ⟨h8, g9, hf⟩ := hf
    refine (hx_le_sl g9).tr ?_
    obtain ⟨rfl, rfl⟩ := Prod.mk.inj (Option.some.inj hf)
    exact gx_le.rf
  · refine (le_X1_stateOfInvariant g2).tr ?_
    replace hf := gx_ite hf
    rcases hf with ⟨c10, hf⟩ | ⟨c10, hf⟩
    · subst c10
      obtain ⟨rfl, rfl⟩ := Prod.mk.inj (Option.some.inj hf)
      exact gx_le.rf
    cases hf
theorem w_X0_stateOfInvariant {l : Launch} (hlt : l.stackTraces = false) {D : gx_D} {h : HX} {p0 : Option Nat} {p1 : Int32} {p2 : Option Nat} {r : Int32} {hz : HX} (hf : f_X0_stateOfInvariant D h p0 p1 p2 = some (r, hz)) : gx_MetX l yX0_stateOfInvariant (wsW_ yX0_stateOfInvariant cX0_stateOfInvariant 4 (some .int) [(0, 9, 12, 13)]) 10 172 D [(va_rf p0), (.int p1), (va_rf p2)] h (.inl (some (.int r))) hz :=
  gx_ofGW gz_606 (by simp only [gx_lsr, gx_lsi, gx_lsj, gx_ls0]; decide) (le_X0_stateOfInvariant hf) (fun p e R s m args below meth c C hn hx => by
    simp only [gx_lar, gx_lai, gx_laj, gx_la0, Nat.reduceAdd]
    exact w_X0_stateOfInvariant_b hlt C hx hf)
def f_X0_comparisonHolds_b15 (D : gx_D) (h : HX) (s0 : Int64) (s1 : Int32) (s2 : Option Nat) : Option ((Int32) × HX) :=
  s2.bind fun a8 =>
  (hx_sl h a8 s1 s0).bind fun h9 =>
  some ((0 : Int32), h9)
theorem w_X0_comparisonHolds_b15 {l : Launch} (hlt : l.stackTraces = false) {p : Program} {e : Env} {R : Room} {s : State} {m : MethodId} {args : Array Value} {below : List Frame} {meth : Method} {c : Code} {D : gx_D} {h0 : HX} {r : Int32} {hz : HX} (C : gx_Ctx p R s m args meth c "ContractMachineLaw" cX0_comparisonHolds 4 (some .int) 10 172 D h0 hz) (hx : c.exceptionTable.toList = tableOf [(0, 16, 19, 13)])  {h : HX} {s0 : Int64} {s1 : Int32} {s2 : Option Nat} (hf : f_X0_comparisonHolds_b15 D h s0 s1 s2 = some (r, hz)) : gx_G p l e R s m args below meth c D h0 hz 4 (gx_MQX below args s D h0 hz (.inl (some (.int r)))) 15 [] [(.long s0), (.int s1), (va_rf s2)] h := by
  unfold f_X0_comparisonHolds_b15 at hf
  replace hf := gx_bs hf
  obtain ⟨a8, rfl, hf⟩ := hf
  replace hf := gx_bs hf
  obtain ⟨h9, g10, hf⟩ := hf
  refine gx_last C g10 dX0_comparisonHolds_15 ?_
  refine gx_goto (tgt := 22) C dX0_comparisonHolds_16 rfl ?_
  refine gx_iconst (v := 0) C dX0_comparisonHolds_22 rfl ?_
  obtain ⟨rfl, rfl⟩ := Prod.mk.inj (Option.some.inj hf)
  exact gx_ret (gx_iret C dX0_comparisonHolds_23)
theorem le_X0_comparisonHolds_b15 {D : gx_D} {r : Int32} {hz : HX} {h : HX} {s0 : Int64} {s1 : Int32} {s2 : Option Nat} (hf : f_X0_comparisonHolds_b15 D h s0 s1 s2 = some (r, hz)) : gx_le h hz := by
  unfold f_X0_comparisonHolds_b15 at hf
  replace hf := gx_bs hf
  obtain ⟨a8, rfl, hf⟩ := hf
  replace hf := gx_bs hf
  obtain ⟨h9, g10, hf⟩ := hf
  refine (hx_le_sl g10).tr ?_
  obtain ⟨rfl, rfl⟩ := Prod.mk.inj (Option.some.inj hf)
  exact gx_le.rf
def f_X0_comparisonHolds (D : gx_D) (h : HX) (p0 : Option Nat) (p1 : Int32) (p2 : Option Nat) : Option ((Int32) × HX) :=
  p0.bind fun a1 =>
  gx_bx (f_X1_comparisonHolds D h a1 p1) (fun b3 h4 =>
  if b3 = true then
  f_X0_comparisonHolds_b15 D h4 ((1 : Int64)) ((0 : Int32)) p2
  else
  f_X0_comparisonHolds_b15 D h4 ((0 : Int64)) ((0 : Int32)) p2) fun E5 q6 h4 =>
  if E5 = "java/lang/IndexOutOfBoundsException" then
  some ((1 : Int32), h4)
  else
  none
theorem w_X0_comparisonHolds_b {l : Launch} (hlt : l.stackTraces = false) {p : Program} {e : Env} {R : Room} {s : State} {m : MethodId} {args : Array Value} {below : List Frame} {meth : Method} {c : Code} {D : gx_D} {h0 : HX} {r : Int32} {hz : HX} (C : gx_Ctx p R s m args meth c "ContractMachineLaw" cX0_comparisonHolds 4 (some .int) 10 172 D h0 hz) (hx : c.exceptionTable.toList = tableOf [(0, 16, 19, 13)]) {p0 : Option Nat} {p1 : Int32} {p2 : Option Nat} (hf : f_X0_comparisonHolds D h0 p0 p1 p2 = some (r, hz)) : gx_G p l e R s m args below meth c D h0 hz 4 (gx_MQX below args s D h0 hz (.inl (some (.int r)))) 0 [(0, (va_rf p0)), (1, (.int p1)), (2, (va_rf p2))] [] h0 := by
  unfold f_X0_comparisonHolds at hf
  refine gx_aload_n C dX0_comparisonHolds_0 2 rfl ?_
  refine gx_iconst (v := 0) C dX0_comparisonHolds_1 rfl ?_
  refine gx_aload_n C dX0_comparisonHolds_2 0 rfl ?_
  refine gx_iload_n C dX0_comparisonHolds_3 1 rfl ?_
  replace hf := gx_bs hf
  obtain ⟨a1, rfl, hf⟩ := hf
  replace hf := gx_bxs hf
  rcases hf with ⟨b3, h4, g2, hf⟩ | ⟨E5, q6, h4, g2, hf⟩
  · refine gx_xcallV (st := [(.int (0 : Int32)), (va_rf p2)]) C (w_X1_comparisonHolds hlt g2) (is_X1_comparisonHolds g2) gz_108 rfl (lw_V q2377 q2378 q2379 q121 q2380) gz_617 (by decide) rfl rfl (gx_catn (Nat.le_of_ble_eq_true rfl)) dX0_comparisonHolds_4 (gx_k2l ?_)
    replace hf := gx_ite hf
    rcases hf with ⟨c7, hf⟩ | ⟨c7, hf⟩
    · refine gx_ifz_eq_f (tgt := 14) C dX0_comparisonHolds_7 rfl c7 ?_
      refine gx_lconst (v := 1) C dX0_comparisonHolds_10 rfl ?_
      refine gx_goto (tgt := 15) C dX0_comparisonHolds_11 rfl ?_
      refine gx_sub [] rfl ?_
      exact w_X0_comparisonHolds_b15 hlt C hx hf
    · refine gx_ifz_eq_t (tgt := 14) C dX0_comparisonHolds_7 rfl c7 ?_
      refine gx_lconst (v := 0) C dX0_comparisonHolds_14 rfl ?_
      refine gx_sub [] rfl ?_
      exact w_X0_comparisonHolds_b15 hlt C hx hf
  · refine gx_xcallV (st := [(.int (0 : Int32)), (va_rf p2)]) C (w_X1_comparisonHolds hlt g2) (is_X1_comparisonHolds g2) gz_108 rfl (lw_V q2377 q2378 q2379 q121 q2380) gz_617 (by decide) rfl rfl (gx_catn (Nat.le_of_ble_eq_true rfl)) dX0_comparisonHolds_4 (gx_k2r ?_)
    replace hf := gx_ite hf
    rcases hf with ⟨c11, hf⟩ | ⟨c11, hf⟩
    · subst c11
      refine gx_catch C [] ⟨0, 16, 19, 13⟩ [] hx (fun _ h => nomatch h) rfl (by decide) q2258 q2276 rfl ?_
      refine gx_astn C dX0_comparisonHolds_19 3 rfl (by decide) []  rfl gx_ok0 ?_
      refine gx_iconst (v := 1) C dX0_comparisonHolds_20 rfl ?_
      obtain ⟨rfl, rfl⟩ := Prod.mk.inj (Option.some.inj hf)
      exact gx_ret (gx_iret C dX0_comparisonHolds_21)
    cases hf
theorem le_X0_comparisonHolds {D : gx_D} {r : Int32} {hz : HX} {h : HX} {p0 : Option Nat} {p1 : Int32} {p2 : Option Nat} (hf : f_X0_comparisonHolds D h p0 p1 p2 = some (r, hz)) : gx_le h hz := by
  unfold f_X0_comparisonHolds at hf
  replace hf := gx_bs hf
  obtain ⟨a1, rfl, hf⟩ := hf
  replace hf := gx_bxs hf
  rcases hf with ⟨b3, h4, g2, hf⟩ | ⟨E5, q6, h4, g2, hf⟩
  · refine (le_X1_comparisonHolds g2).tr ?_
    replace hf := gx_ite hf
    rcases hf with ⟨c7, hf⟩ | ⟨c7, hf⟩
    · exact le_X0_comparisonHolds_b15 hf
    · exact le_X0_comparisonHolds_b15 hf
  · refine (le_X1_comparisonHolds g2).tr ?_
    replace hf := gx_ite hf
    rcases hf with ⟨c11, hf⟩ | ⟨c11, hf⟩
    · subst c11
      obtain ⟨rfl, rfl⟩ := Prod.mk.inj (Option.some.inj hf)
      exact gx_le.rf
    cases hf
theorem w_X0_comparisonHolds {l : Launch} (hlt : l.stackTraces = false) {D : gx_D} {h : HX} {p0 : Option Nat} {p1 : Int32} {p2 : Option Nat} {r : Int32} {hz : HX} (hf : f_X0_comparisonHolds D h p0 p1 p2 = some (r, hz)) : gx_MetX l yX0_comparisonHolds (wsW_ yX0_comparisonHolds cX0_comparisonHolds 4 (some .int) [(0, 16, 19, 13)]) 10 172 D [(va_rf p0), (.int p1), (va_rf p2)] h (.inl (some (.int r))) hz :=
  gx_ofGW gz_606 (by simp only [gx_lsr, gx_lsi, gx_lsj, gx_ls0]; decide) (le_X0_comparisonHolds hf) (fun p e R s m args below meth c C hn hx => by
    simp only [gx_lar, gx_lai, gx_laj, gx_la0, Nat.reduceAdd]
    exact w_X0_comparisonHolds_b hlt C hx hf)
def f_X0_verdictOf (D : gx_D) (h : HX) (p0 : Option Nat) (p1 : Int32) (p2 : Option Nat) : Option ((Int32) × HX) :=
  p0.bind fun a1 =>
  gx_bx (f_X1_verdictOf D h a1 p1) (fun x3 h4 =>
  p2.bind fun a7 =>
  (hx_sl h4 a7 (0 : Int32) (Int32.toInt64 x3)).bind fun h8 =>
  some ((0 : Int32), h8)) fun E5 q6 h4 =>
  if E5 = "java/lang/IndexOutOfBoundsException" then
  some ((1 : Int32), h4)
  else
  none
theorem w_X0_verdictOf_b {l : Launch} (hlt : l.stackTraces = false) {p : Program} {e : Env} {R : Room} {s : State} {m : MethodId} {args : Array Value} {below : List Frame} {meth : Method} {c : Code} {D : gx_D} {h0 : HX} {r : Int32} {hz : HX} (C : gx_Ctx p R s m args meth c "ContractMachineLaw" cX0_verdictOf 4 (some .int) 10 177 D h0 hz) (hx : c.exceptionTable.toList = tableOf [(0, 9, 12, 13)]) {p0 : Option Nat} {p1 : Int32} {p2 : Option Nat} (hf : f_X0_verdictOf D h0 p0 p1 p2 = some (r, hz)) : gx_G p l e R s m args below meth c D h0 hz 4 (gx_MQX below args s D h0 hz (.inl (some (.int r)))) 0 [(0, (va_rf p0)), (1, (.int p1)), (2, (va_rf p2))] [] h0 := by
  unfold f_X0_verdictOf at hf
  refine gx_aload_n C dX0_verdictOf_0 2 rfl ?_
  refine gx_iconst (v := 0) C dX0_verdictOf_1 rfl ?_
  refine gx_aload_n C dX0_verdictOf_2 0 rfl ?_
  refine gx_iload_n C dX0_verdictOf_3 1 rfl ?_
  replace hf := gx_bs hf
  obtain ⟨a1, rfl, hf⟩ := hf
  replace hf := gx_bxs hf
  rcases hf with ⟨x3, h4, g2, hf⟩ | ⟨E5, q6, h4, g2, hf⟩
  · refine gx_xcallV (st := [(.int (0 : Int32)), (va_rf p2)]) C (w_X1_verdictOf hlt g2) (is_X1_verdictOf g2) gz_108 rfl (lw_V q2385 q2386 q2387 q121 q2388) gz_618 (by decide) rfl rfl (gx_catn (Nat.le_of_ble_eq_true rfl)) dX0_verdictOf_4 (gx_k2l ?_)
    refine gx_i2l C dX0_verdictOf_7 ?_
    replace hf := gx_bs hf
    obtain ⟨a7, rfl, hf⟩ := hf
    replace hf := gx_bs hf
    obtain ⟨h8, g9, hf⟩ := hf
    refine gx_last C g9 dX0_verdictOf_8 ?_
    refine gx_goto (tgt := 15) C dX0_verdictOf_9 rfl ?_
    refine gx_iconst (v := 0) C dX0_verdictOf_15 rfl ?_
    obtain ⟨rfl, rfl⟩ := Prod.mk.inj (Option.some.inj hf)
    exact gx_ret (gx_iret C dX0_verdictOf_16)
  · refine gx_xcallV (st := [(.int (0 : Int32)), (va_rf p2)]) C (w_X1_verdictOf hlt g2) (is_X1_verdictOf g2) gz_108 rfl (lw_V q2385 q2386 q2387 q121 q2388) gz_618 (by decide) rfl rfl (gx_catn (Nat.le_of_ble_eq_true rfl)) dX0_verdictOf_4 (gx_k2r ?_)
    replace hf := gx_ite hf
    rcases hf with ⟨c10, hf⟩ | ⟨c10, hf⟩
    · subst c10
      refine gx_catch C [] ⟨0, 9, 12, 13⟩ [] hx (fun _ h => nomatch h) rfl (by decide) q2258 q2276 rfl ?_
      refine gx_astn C dX0_verdictOf_12 3 rfl (by decide) []  rfl gx_ok0 ?_
      refine gx_iconst (v := 1) C dX0_verdictOf_13 rfl ?_
      obtain ⟨rfl, rfl⟩ := Prod.mk.inj (Option.some.inj hf)
      exact gx_ret (gx_iret C dX0_verdictOf_14)
    cases hf
theorem le_X0_verdictOf {D : gx_D} {r : Int32} {hz : HX} {h : HX} {p0 : Option Nat} {p1 : Int32} {p2 : Option Nat} (hf : f_X0_verdictOf D h p0 p1 p2 = some (r, hz)) : gx_le h hz := by
  unfold f_X0_verdictOf at hf
  replace hf := gx_bs hf
  obtain ⟨a1, rfl, hf⟩ := hf
  replace hf := gx_bxs hf
  rcases hf with ⟨x3, h4, g2, hf⟩ | ⟨E5, q6, h4, g2, hf⟩
  · refine (le_X1_verdictOf g2).tr ?_
    replace hf := gx_bs hf
    obtain ⟨a7, rfl, hf⟩ := hf
    replace hf := gx_bs hf
    obtain ⟨h8, g9, hf⟩ := hf
    refine (hx_le_sl g9).tr ?_
    obtain ⟨rfl, rfl⟩ := Prod.mk.inj (Option.some.inj hf)
    exact gx_le.rf
  · refine (le_X1_verdictOf g2).tr ?_
    replace hf := gx_ite hf
    rcases hf with ⟨c10, hf⟩ | ⟨c10, hf⟩
    · subst c10
      obtain ⟨rfl, rfl⟩ := Prod.mk.inj (Option.some.inj hf)
      exact gx_le.rf
    cases hf
theorem w_X0_verdictOf {l : Launch} (hlt : l.stackTraces = false) {D : gx_D} {h : HX} {p0 : Option Nat} {p1 : Int32} {p2 : Option Nat} {r : Int32} {hz : HX} (hf : f_X0_verdictOf D h p0 p1 p2 = some (r, hz)) : gx_MetX l yX0_verdictOf (wsW_ yX0_verdictOf cX0_verdictOf 4 (some .int) [(0, 9, 12, 13)]) 10 177 D [(va_rf p0), (.int p1), (va_rf p2)] h (.inl (some (.int r))) hz :=
  gx_ofGW gz_606 (by simp only [gx_lsr, gx_lsi, gx_lsj, gx_ls0]; decide) (le_X0_verdictOf hf) (fun p e R s m args below meth c C hn hx => by
    simp only [gx_lar, gx_lai, gx_laj, gx_la0, Nat.reduceAdd]
    exact w_X0_verdictOf_b hlt C hx hf)
def f_X0_chosenTransition (D : gx_D) (h : HX) (p0 : Option Nat) (p1 : Int32) (p2 : Option Nat) : Option ((Int32) × HX) :=
  p0.bind fun a1 =>
  gx_bx (f_X1_chosenTransition D h a1 p1) (fun x3 h4 =>
  p2.bind fun a7 =>
  (hx_sl h4 a7 (0 : Int32) (Int32.toInt64 x3)).bind fun h8 =>
  some ((0 : Int32), h8)) fun E5 q6 h4 =>
  if E5 = "java/lang/IndexOutOfBoundsException" then
  some ((1 : Int32), h4)
  else
  none
theorem w_X0_chosenTransition_b {l : Launch} (hlt : l.stackTraces = false) {p : Program} {e : Env} {R : Room} {s : State} {m : MethodId} {args : Array Value} {below : List Frame} {meth : Method} {c : Code} {D : gx_D} {h0 : HX} {r : Int32} {hz : HX} (C : gx_Ctx p R s m args meth c "ContractMachineLaw" cX0_chosenTransition 4 (some .int) 10 172 D h0 hz) (hx : c.exceptionTable.toList = tableOf [(0, 9, 12, 13)]) {p0 : Option Nat} {p1 : Int32} {p2 : Option Nat} (hf : f_X0_chosenTransition D h0 p0 p1 p2 = some (r, hz)) : gx_G p l e R s m args below meth c D h0 hz 4 (gx_MQX below args s D h0 hz (.inl (some (.int r)))) 0 [(0, (va_rf p0)), (1, (.int p1)), (2, (va_rf p2))] [] h0 := by
  unfold f_X0_chosenTransition at hf
  refine gx_aload_n C dX0_chosenTransition_0 2 rfl ?_
  refine gx_iconst (v := 0) C dX0_chosenTransition_1 rfl ?_
  refine gx_aload_n C dX0_chosenTransition_2 0 rfl ?_
  refine gx_iload_n C dX0_chosenTransition_3 1 rfl ?_
  replace hf := gx_bs hf
  obtain ⟨a1, rfl, hf⟩ := hf
  replace hf := gx_bxs hf
  rcases hf with ⟨x3, h4, g2, hf⟩ | ⟨E5, q6, h4, g2, hf⟩
  · refine gx_xcallV (st := [(.int (0 : Int32)), (va_rf p2)]) C (w_X1_chosenTransition hlt g2) (is_X1_chosenTransition g2) gz_108 rfl (lw_V q2396 q2397 q2398 q121 q2399) gz_619 (by decide) rfl rfl (gx_catn (Nat.le_of_ble_eq_true rfl)) dX0_chosenTransition_4 (gx_k2l ?_)
    refine gx_i2l C dX0_chosenTransition_7 ?_
    replace hf := gx_bs hf
    obtain ⟨a7, rfl, hf⟩ := hf
    replace hf := gx_bs hf
    obtain ⟨h8, g9, hf⟩ := hf
    refine gx_last C g9 dX0_chosenTransition_8 ?_
    refine gx_goto (tgt := 15) C dX0_chosenTransition_9 rfl ?_
    refine gx_iconst (v := 0) C dX0_chosenTransition_15 rfl ?_
    obtain ⟨rfl, rfl⟩ := Prod.mk.inj (Option.some.inj hf)
    exact gx_ret (gx_iret C dX0_chosenTransition_16)
  · refine gx_xcallV (st := [(.int (0 : Int32)), (va_rf p2)]) C (w_X1_chosenTransition hlt g2) (is_X1_chosenTransition g2) gz_108 rfl (lw_V q2396 q2397 q2398 q121 q2399) gz_619 (by decide) rfl rfl (gx_catn (Nat.le_of_ble_eq_true rfl)) dX0_chosenTransition_4 (gx_k2r ?_)
    replace hf := gx_ite hf
    rcases hf with ⟨c10, hf⟩ | ⟨c10, hf⟩
    · subst c10
      refine gx_catch C [] ⟨0, 9, 12, 13⟩ [] hx (fun _ h => nomatch h) rfl (by decide) q2258 q2276 rfl ?_
      refine gx_astn C dX0_chosenTransition_12 3 rfl (by decide) []  rfl gx_ok0 ?_
      refine gx_iconst (v := 1) C dX0_chosenTransition_13 rfl ?_
      obtain ⟨rfl, rfl⟩ := Prod.mk.inj (Option.some.inj hf)
      exact gx_ret (gx_iret C dX0_chosenTransition_14)
    cases hf
theorem le_X0_chosenTransition {D : gx_D} {r : Int32} {hz : HX} {h : HX} {p0 : Option Nat} {p1 : Int32} {p2 : Option Nat} (hf : f_X0_chosenTransition D h p0 p1 p2 = some (r, hz)) : gx_le h hz := by
  unfold f_X0_chosenTransition at hf
  replace hf := gx_bs hf
  obtain ⟨a1, rfl, hf⟩ := hf
  replace hf := gx_bxs hf
  rcases hf with ⟨x3, h4, g2, hf⟩ | ⟨E5, q6, h4, g2, hf⟩
  · refine (le_X1_chosenTransition g2).tr ?_
    replace hf := gx_bs hf
    obtain ⟨a7, rfl, hf⟩ := hf
    replace hf := gx_bs hf
    obtain ⟨h8, g9, hf⟩ := hf
    refine (hx_le_sl g9).tr ?_
    obtain ⟨rfl, rfl⟩ := Prod.mk.inj (Option.some.inj hf)
    exact gx_le.rf
  · refine (le_X1_chosenTransition g2).tr ?_
    replace hf := gx_ite hf
    rcases hf with ⟨c10, hf⟩ | ⟨c10, hf⟩
    · subst c10
      obtain ⟨rfl, rfl⟩ := Prod.mk.inj (Option.some.inj hf)
      exact gx_le.rf
    cases hf
theorem w_X0_chosenTransition {l : Launch} (hlt : l.stackTraces = false) {D : gx_D} {h : HX} {p0 : Option Nat} {p1 : Int32} {p2 : Option Nat} {r : Int32} {hz : HX} (hf : f_X0_chosenTransition D h p0 p1 p2 = some (r, hz)) : gx_MetX l yX0_chosenTransition (wsW_ yX0_chosenTransition cX0_chosenTransition 4 (some .int) [(0, 9, 12, 13)]) 10 172 D [(va_rf p0), (.int p1), (va_rf p2)] h (.inl (some (.int r))) hz :=
  gx_ofGW gz_606 (by simp only [gx_lsr, gx_lsi, gx_lsj, gx_ls0]; decide) (le_X0_chosenTransition hf) (fun p e R s m args below meth c C hn hx => by
    simp only [gx_lar, gx_lai, gx_laj, gx_la0, Nat.reduceAdd]
    exact w_X0_chosenTransition_b hlt C hx hf)
def f_X0_brokenInvariant (D : gx_D) (h : HX) (p0 : Option Nat) (p1 : Int32) (p2 : Option Nat) : Option ((Int32) × HX) :=
  p0.bind fun a1 =>
  gx_bx (f_X1_brokenInvariant D h a1 p1) (fun x3 h4 =>
  p2.bind fun a7 =>
  (hx_sl h4 a7 (0 : Int32) (Int32.toInt64 x3)).bind fun h8 =>
  some ((0 : Int32), h8)) fun E5 q6 h4 =>
  if E5 = "java/lang/IndexOutOfBoundsException" then
  some ((1 : Int32), h4)
  else
  none
theorem w_X0_brokenInvariant_b {l : Launch} (hlt : l.stackTraces = false) {p : Program} {e : Env} {R : Room} {s : State} {m : MethodId} {args : Array Value} {below : List Frame} {meth : Method} {c : Code} {D : gx_D} {h0 : HX} {r : Int32} {hz : HX} (C : gx_Ctx p R s m args meth c "ContractMachineLaw" cX0_brokenInvariant 4 (some .int) 10 178 D h0 hz) (hx : c.exceptionTable.toList = tableOf [(0, 9, 12, 13)]) {p0 : Option Nat} {p1 : Int32} {p2 : Option Nat} (hf : f_X0_brokenInvariant D h0 p0 p1 p2 = some (r, hz)) : gx_G p l e R s m args below meth c D h0 hz 4 (gx_MQX below args s D h0 hz (.inl (some (.int r)))) 0 [(0, (va_rf p0)), (1, (.int p1)), (2, (va_rf p2))] [] h0 := by
  unfold f_X0_brokenInvariant at hf
  refine gx_aload_n C dX0_brokenInvariant_0 2 rfl ?_
  refine gx_iconst (v := 0) C dX0_brokenInvariant_1 rfl ?_
  refine gx_aload_n C dX0_brokenInvariant_2 0 rfl ?_
  refine gx_iload_n C dX0_brokenInvariant_3 1 rfl ?_
  replace hf := gx_bs hf
  obtain ⟨a1, rfl, hf⟩ := hf
  replace hf := gx_bxs hf
  rcases hf with ⟨x3, h4, g2, hf⟩ | ⟨E5, q6, h4, g2, hf⟩
  · refine gx_xcallV (st := [(.int (0 : Int32)), (va_rf p2)]) C (w_X1_brokenInvariant hlt g2) (is_X1_brokenInvariant g2) gz_108 rfl (lw_V q2403 q2404 q2405 q121 q2406) gz_620 (by decide) rfl rfl (gx_catn (Nat.le_of_ble_eq_true rfl)) dX0_brokenInvariant_4 (gx_k2l ?_)
    refine gx_i2l C dX0_brokenInvariant_7 ?_
    replace hf := gx_bs hf
    obtain ⟨a7, rfl, hf⟩ := hf
    replace hf := gx_bs hf
    obtain ⟨h8, g9, hf⟩ := hf
    refine gx_last C g9 dX0_brokenInvariant_8 ?_
    refine gx_goto (tgt := 15) C dX0_brokenInvariant_9 rfl ?_
    refine gx_iconst (v := 0) C dX0_brokenInvariant_15 rfl ?_
    obtain ⟨rfl, rfl⟩ := Prod.mk.inj (Option.some.inj hf)
    exact gx_ret (gx_iret C dX0_brokenInvariant_16)
  · refine gx_xcallV (st := [(.int (0 : Int32)), (va_rf p2)]) C (w_X1_brokenInvariant hlt g2) (is_X1_brokenInvariant g2) gz_108 rfl (lw_V q2403 q2404 q2405 q121 q2406) gz_620 (by decide) rfl rfl (gx_catn (Nat.le_of_ble_eq_true rfl)) dX0_brokenInvariant_4 (gx_k2r ?_)
    replace hf := gx_ite hf
    rcases hf with ⟨c10, hf⟩ | ⟨c10, hf⟩
    · subst c10
      refine gx_catch C [] ⟨0, 9, 12, 13⟩ [] hx (fun _ h => nomatch h) rfl (by decide) q2258 q2276 rfl ?_
      refine gx_astn C dX0_brokenInvariant_12 3 rfl (by decide) []  rfl gx_ok0 ?_
      refine gx_iconst (v := 1) C dX0_brokenInvariant_13 rfl ?_
      obtain ⟨rfl, rfl⟩ := Prod.mk.inj (Option.some.inj hf)
      exact gx_ret (gx_iret C dX0_brokenInvariant_14)
    cases hf
theorem le_X0_brokenInvariant {D : gx_D} {r : Int32} {hz : HX} {h : HX} {p0 : Option Nat} {p1 : Int32} {p2 : Option Nat} (hf : f_X0_brokenInvariant D h p0 p1 p2 = some (r, hz)) : gx_le h hz := by
  unfold f_X0_brokenInvariant at hf
  replace hf := gx_bs hf
  obtain ⟨a1, rfl, hf⟩ := hf
  replace hf := gx_bxs hf
  rcases hf with ⟨x3, h4, g2, hf⟩ | ⟨E5, q6, h4, g2, hf⟩
  · refine (le_X1_brokenInvariant g2).tr ?_
    replace hf := gx_bs hf
    obtain ⟨a7, rfl, hf⟩ := hf
    replace hf := gx_bs hf
    obtain ⟨h8, g9, hf⟩ := hf
    refine (hx_le_sl g9).tr ?_
    obtain ⟨rfl, rfl⟩ := Prod.mk.inj (Option.some.inj hf)
    exact gx_le.rf
  · refine (le_X1_brokenInvariant g2).tr ?_
    replace hf := gx_ite hf
    rcases hf with ⟨c10, hf⟩ | ⟨c10, hf⟩
    · subst c10
      obtain ⟨rfl, rfl⟩ := Prod.mk.inj (Option.some.inj hf)
      exact gx_le.rf
    cases hf
theorem w_X0_brokenInvariant {l : Launch} (hlt : l.stackTraces = false) {D : gx_D} {h : HX} {p0 : Option Nat} {p1 : Int32} {p2 : Option Nat} {r : Int32} {hz : HX} (hf : f_X0_brokenInvariant D h p0 p1 p2 = some (r, hz)) : gx_MetX l yX0_brokenInvariant (wsW_ yX0_brokenInvariant cX0_brokenInvariant 4 (some .int) [(0, 9, 12, 13)]) 10 178 D [(va_rf p0), (.int p1), (va_rf p2)] h (.inl (some (.int r))) hz :=
  gx_ofGW gz_606 (by simp only [gx_lsr, gx_lsi, gx_lsj, gx_ls0]; decide) (le_X0_brokenInvariant hf) (fun p e R s m args below meth c C hn hx => by
    simp only [gx_lar, gx_lai, gx_laj, gx_la0, Nat.reduceAdd]
    exact w_X0_brokenInvariant_b hlt C hx hf)
def f_X0_timesTaken (D : gx_D) (h : HX) (p0 : Option Nat) (p1 : Int32) (p2 : Option Nat) : Option ((Int32) × HX) :=
  p0.bind fun a1 =>
  gx_bx (f_X1_timesTaken D h a1 p1) (fun x3 h4 =>
  p2.bind fun a7 =>
  (hx_sl h4 a7 (0 : Int32) (Int32.toInt64 x3)).bind fun h8 =>
  some ((0 : Int32), h8)) fun E5 q6 h4 =>
  if E5 = "java/lang/IndexOutOfBoundsException" then
  some ((1 : Int32), h4)
  else
  none
theorem w_X0_timesTaken_b {l : Launch} (hlt : l.stackTraces = false) {p : Program} {e : Env} {R : Room} {s : State} {m : MethodId} {args : Array Value} {below : List Frame} {meth : Method} {c : Code} {D : gx_D} {h0 : HX} {r : Int32} {hz : HX} (C : gx_Ctx p R s m args meth c "ContractMachineLaw" cX0_timesTaken 4 (some .int) 10 173 D h0 hz) (hx : c.exceptionTable.toList = tableOf [(0, 9, 12, 13)]) {p0 : Option Nat} {p1 : Int32} {p2 : Option Nat} (hf : f_X0_timesTaken D h0 p0 p1 p2 = some (r, hz)) : gx_G p l e R s m args below meth c D h0 hz 4 (gx_MQX below args s D h0 hz (.inl (some (.int r)))) 0 [(0, (va_rf p0)), (1, (.int p1)), (2, (va_rf p2))] [] h0 := by
  unfold f_X0_timesTaken at hf
  refine gx_aload_n C dX0_timesTaken_0 2 rfl ?_
  refine gx_iconst (v := 0) C dX0_timesTaken_1 rfl ?_
  refine gx_aload_n C dX0_timesTaken_2 0 rfl ?_
  refine gx_iload_n C dX0_timesTaken_3 1 rfl ?_
  replace hf := gx_bs hf
  obtain ⟨a1, rfl, hf⟩ := hf
  replace hf := gx_bxs hf
  rcases hf with ⟨x3, h4, g2, hf⟩ | ⟨E5, q6, h4, g2, hf⟩
  · refine gx_xcallV (st := [(.int (0 : Int32)), (va_rf p2)]) C (w_X1_timesTaken hlt g2) (is_X1_timesTaken g2) gz_108 rfl (lw_V q2410 q2411 q2412 q121 q2413) gz_621 (by decide) rfl rfl (gx_catn (Nat.le_of_ble_eq_true rfl)) dX0_timesTaken_4 (gx_k2l ?_)
    refine gx_i2l C dX0_timesTaken_7 ?_
    replace hf := gx_bs hf
    obtain ⟨a7, rfl, hf⟩ := hf
    replace hf := gx_bs hf
    obtain ⟨h8, g9, hf⟩ := hf
    refine gx_last C g9 dX0_timesTaken_8 ?_
    refine gx_goto (tgt := 15) C dX0_timesTaken_9 rfl ?_
    refine gx_iconst (v := 0) C dX0_timesTaken_15 rfl ?_
    obtain ⟨rfl, rfl⟩ := Prod.mk.inj (Option.some.inj hf)
    exact gx_ret (gx_iret C dX0_timesTaken_16)
  · refine gx_xcallV (st := [(.int (0 : Int32)), (va_rf p2)]) C (w_X1_timesTaken hlt g2) (is_X1_timesTaken g2) gz_108 rfl (lw_V q2410 q2411 q2412 q121 q2413) gz_621 (by decide) rfl rfl (gx_catn (Nat.le_of_ble_eq_true rfl)) dX0_timesTaken_4 (gx_k2r ?_)
    replace hf := gx_ite hf
    rcases hf with ⟨c10, hf⟩ | ⟨c10, hf⟩
    · subst c10
      refine gx_catch C [] ⟨0, 9, 12, 13⟩ [] hx (fun _ h => nomatch h) rfl (by decide) q2258 q2276 rfl ?_
      refine gx_astn C dX0_timesTaken_12 3 rfl (by decide) []  rfl gx_ok0 ?_
      refine gx_iconst (v := 1) C dX0_timesTaken_13 rfl ?_
      obtain ⟨rfl, rfl⟩ := Prod.mk.inj (Option.some.inj hf)
      exact gx_ret (gx_iret C dX0_timesTaken_14)
    cases hf
theorem le_X0_timesTaken {D : gx_D} {r : Int32} {hz : HX} {h : HX} {p0 : Option Nat} {p1 : Int32} {p2 : Option Nat} (hf : f_X0_timesTaken D h p0 p1 p2 = some (r, hz)) : gx_le h hz := by
  unfold f_X0_timesTaken at hf
  replace hf := gx_bs hf
  obtain ⟨a1, rfl, hf⟩ := hf
  replace hf := gx_bxs hf
  rcases hf with ⟨x3, h4, g2, hf⟩ | ⟨E5, q6, h4, g2, hf⟩
  · refine (le_X1_timesTaken g2).tr ?_
    replace hf := gx_bs hf
    obtain ⟨a7, rfl, hf⟩ := hf
    replace hf := gx_bs hf
    obtain ⟨h8, g9, hf⟩ := hf
    refine (hx_le_sl g9).tr ?_
    obtain ⟨rfl, rfl⟩ := Prod.mk.inj (Option.some.inj hf)
    exact gx_le.rf
  · refine (le_X1_timesTaken g2).tr ?_
    replace hf := gx_ite hf
    rcases hf with ⟨c10, hf⟩ | ⟨c10, hf⟩
    · subst c10
      obtain ⟨rfl, rfl⟩ := Prod.mk.inj (Option.some.inj hf)
      exact gx_le.rf
    cases hf
theorem w_X0_timesTaken {l : Launch} (hlt : l.stackTraces = false) {D : gx_D} {h : HX} {p0 : Option Nat} {p1 : Int32} {p2 : Option Nat} {r : Int32} {hz : HX} (hf : f_X0_timesTaken D h p0 p1 p2 = some (r, hz)) : gx_MetX l yX0_timesTaken (wsW_ yX0_timesTaken cX0_timesTaken 4 (some .int) [(0, 9, 12, 13)]) 10 173 D [(va_rf p0), (.int p1), (va_rf p2)] h (.inl (some (.int r))) hz :=
  gx_ofGW gz_606 (by simp only [gx_lsr, gx_lsi, gx_lsj, gx_ls0]; decide) (le_X0_timesTaken hf) (fun p e R s m args below meth c C hn hx => by
    simp only [gx_lar, gx_lai, gx_laj, gx_la0, Nat.reduceAdd]
    exact w_X0_timesTaken_b hlt C hx hf)
def f_X0_visitsOf (D : gx_D) (h : HX) (p0 : Option Nat) (p1 : Int32) (p2 : Option Nat) : Option ((Int32) × HX) :=
  p0.bind fun a1 =>
  gx_bx (f_X1_visitsOf D h a1 p1) (fun x3 h4 =>
  p2.bind fun a7 =>
  (hx_sl h4 a7 (0 : Int32) (Int32.toInt64 x3)).bind fun h8 =>
  some ((0 : Int32), h8)) fun E5 q6 h4 =>
  if E5 = "java/lang/IndexOutOfBoundsException" then
  some ((1 : Int32), h4)
  else
  none
theorem w_X0_visitsOf_b {l : Launch} (hlt : l.stackTraces = false) {p : Program} {e : Env} {R : Room} {s : State} {m : MethodId} {args : Array Value} {below : List Frame} {meth : Method} {c : Code} {D : gx_D} {h0 : HX} {r : Int32} {hz : HX} (C : gx_Ctx p R s m args meth c "ContractMachineLaw" cX0_visitsOf 4 (some .int) 10 172 D h0 hz) (hx : c.exceptionTable.toList = tableOf [(0, 9, 12, 13)]) {p0 : Option Nat} {p1 : Int32} {p2 : Option Nat} (hf : f_X0_visitsOf D h0 p0 p1 p2 = some (r, hz)) : gx_G p l e R s m args below meth c D h0 hz 4 (gx_MQX below args s D h0 hz (.inl (some (.int r)))) 0 [(0, (va_rf p0)), (1, (.int p1)), (2, (va_rf p2))] [] h0 := by
  unfold f_X0_visitsOf at hf
  refine gx_aload_n C dX0_visitsOf_0 2 rfl ?_
  refine gx_iconst (v := 0) C dX0_visitsOf_1 rfl ?_
  refine gx_aload_n C dX0_visitsOf_2 0 rfl ?_
  refine gx_iload_n C dX0_visitsOf_3 1 rfl ?_
  replace hf := gx_bs hf
  obtain ⟨a1, rfl, hf⟩ := hf
  replace hf := gx_bxs hf
  rcases hf with ⟨x3, h4, g2, hf⟩ | ⟨E5, q6, h4, g2, hf⟩
  · refine gx_xcallV (st := [(.int (0 : Int32)), (va_rf p2)]) C (w_X1_visitsOf hlt g2) (is_X1_visitsOf g2) gz_108 rfl (lw_V q2417 q2418 q2419 q121 q2420) gz_622 (by decide) rfl rfl (gx_catn (Nat.le_of_ble_eq_true rfl)) dX0_visitsOf_4 (gx_k2l ?_)
    refine gx_i2l C dX0_visitsOf_7 ?_
    replace hf := gx_bs hf
    obtain ⟨a7, rfl, hf⟩ := hf
    replace hf := gx_bs hf
    obtain ⟨h8, g9, hf⟩ := hf
    refine gx_last C g9 dX0_visitsOf_8 ?_
    refine gx_goto (tgt := 15) C dX0_visitsOf_9 rfl ?_
    refine gx_iconst (v := 0) C dX0_visitsOf_15 rfl ?_
    obtain ⟨rfl, rfl⟩ := Prod.mk.inj (Option.some.inj hf)
    exact gx_ret (gx_iret C dX0_visitsOf_16)
  · refine gx_xcallV (st := [(.int (0 : Int32)), (va_rf p2)]) C (w_X1_visitsOf hlt g2) (is_X1_visitsOf g2) gz_108 rfl (lw_V q2417 q2418 q2419 q121 q2420) gz_622 (by decide) rfl rfl (gx_catn (Nat.le_of_ble_eq_true rfl)) dX0_visitsOf_4 (gx_k2r ?_)
    replace hf := gx_ite hf
    rcases hf with ⟨c10, hf⟩ | ⟨c10, hf⟩
    · subst c10
      refine gx_catch C [] ⟨0, 9, 12, 13⟩ [] hx (fun _ h => nomatch h) rfl (by decide) q2258 q2276 rfl ?_
      refine gx_astn C dX0_visitsOf_12 3 rfl (by decide) []  rfl gx_ok0 ?_
      refine gx_iconst (v := 1) C dX0_visitsOf_13 rfl ?_
      obtain ⟨rfl, rfl⟩ := Prod.mk.inj (Option.some.inj hf)
      exact gx_ret (gx_iret C dX0_visitsOf_14)
    cases hf
theorem le_X0_visitsOf {D : gx_D} {r : Int32} {hz : HX} {h : HX} {p0 : Option Nat} {p1 : Int32} {p2 : Option Nat} (hf : f_X0_visitsOf D h p0 p1 p2 = some (r, hz)) : gx_le h hz := by
  unfold f_X0_visitsOf at hf
  replace hf := gx_bs hf
  obtain ⟨a1, rfl, hf⟩ := hf
  replace hf := gx_bxs hf
  rcases hf with ⟨x3, h4, g2, hf⟩ | ⟨E5, q6, h4, g2, hf⟩
  · refine (le_X1_visitsOf g2).tr ?_
    replace hf := gx_bs hf
    obtain ⟨a7, rfl, hf⟩ := hf
    replace hf := gx_bs hf
    obtain ⟨h8, g9, hf⟩ := hf
    refine (hx_le_sl g9).tr ?_
    obtain ⟨rfl, rfl⟩ := Prod.mk.inj (Option.some.inj hf)
    exact gx_le.rf
  · refine (le_X1_visitsOf g2).tr ?_
    replace hf := gx_ite hf
    rcases hf with ⟨c10, hf⟩ | ⟨c10, hf⟩
    · subst c10
      obtain ⟨rfl, rfl⟩ := Prod.mk.inj (Option.some.inj hf)
      exact gx_le.rf
    cases hf
theorem w_X0_visitsOf {l : Launch} (hlt : l.stackTraces = false) {D : gx_D} {h : HX} {p0 : Option Nat} {p1 : Int32} {p2 : Option Nat} {r : Int32} {hz : HX} (hf : f_X0_visitsOf D h p0 p1 p2 = some (r, hz)) : gx_MetX l yX0_visitsOf (wsW_ yX0_visitsOf cX0_visitsOf 4 (some .int) [(0, 9, 12, 13)]) 10 172 D [(va_rf p0), (.int p1), (va_rf p2)] h (.inl (some (.int r))) hz :=
  gx_ofGW gz_606 (by simp only [gx_lsr, gx_lsi, gx_lsj, gx_ls0]; decide) (le_X0_visitsOf hf) (fun p e R s m args below meth c C hn hx => by
    simp only [gx_lar, gx_lai, gx_laj, gx_la0, Nat.reduceAdd]
    exact w_X0_visitsOf_b hlt C hx hf)
def f_X0_rejectedWith (D : gx_D) (h : HX) (p0 : Option Nat) (p1 : Int32) (p2 : Option Nat) : Option ((Int32) × HX) :=
  p0.bind fun a1 =>
  gx_bx (f_X1_rejectedWith D h a1 p1) (fun x3 h4 =>
  p2.bind fun a7 =>
  (hx_sl h4 a7 (0 : Int32) (Int32.toInt64 x3)).bind fun h8 =>
  some ((0 : Int32), h8)) fun E5 q6 h4 =>
  if E5 = "java/lang/IllegalArgumentException" then
  some ((1 : Int32), h4)
  else
  none
theorem w_X0_rejectedWith_b {l : Launch} (hlt : l.stackTraces = false) {p : Program} {e : Env} {R : Room} {s : State} {m : MethodId} {args : Array Value} {below : List Frame} {meth : Method} {c : Code} {D : gx_D} {h0 : HX} {r : Int32} {hz : HX} (C : gx_Ctx p R s m args meth c "ContractMachineLaw" cX0_rejectedWith 4 (some .int) 8 130 D h0 hz) (hx : c.exceptionTable.toList = tableOf [(0, 9, 12, 68)]) {p0 : Option Nat} {p1 : Int32} {p2 : Option Nat} (hf : f_X0_rejectedWith D h0 p0 p1 p2 = some (r, hz)) : gx_G p l e R s m args below meth c D h0 hz 4 (gx_MQX below args s D h0 hz (.inl (some (.int r)))) 0 [(0, (va_rf p0)), (1, (.int p1)), (2, (va_rf p2))] [] h0 := by
  unfold f_X0_rejectedWith at hf
  refine gx_aload_n C dX0_rejectedWith_0 2 rfl ?_
  refine gx_iconst (v := 0) C dX0_rejectedWith_1 rfl ?_
  refine gx_aload_n C dX0_rejectedWith_2 0 rfl ?_
  refine gx_iload_n C dX0_rejectedWith_3 1 rfl ?_
  replace hf := gx_bs hf
  obtain ⟨a1, rfl, hf⟩ := hf
  replace hf := gx_bxs hf
  rcases hf with ⟨x3, h4, g2, hf⟩ | ⟨E5, q6, h4, g2, hf⟩
  · refine gx_xcallV (st := [(.int (0 : Int32)), (va_rf p2)]) C (w_X1_rejectedWith hlt g2) (is_X1_rejectedWith g2) gz_108 rfl (lw_V q2429 q2430 q2431 q121 q2432) gz_623 (by decide) rfl rfl (gx_catn (Nat.le_of_ble_eq_true rfl)) dX0_rejectedWith_4 (gx_k2l ?_)
    refine gx_i2l C dX0_rejectedWith_7 ?_
    replace hf := gx_bs hf
    obtain ⟨a7, rfl, hf⟩ := hf
    replace hf := gx_bs hf
    obtain ⟨h8, g9, hf⟩ := hf
    refine gx_last C g9 dX0_rejectedWith_8 ?_
    refine gx_goto (tgt := 15) C dX0_rejectedWith_9 rfl ?_
    refine gx_iconst (v := 0) C dX0_rejectedWith_15 rfl ?_
    obtain ⟨rfl, rfl⟩ := Prod.mk.inj (Option.some.inj hf)
    exact gx_ret (gx_iret C dX0_rejectedWith_16)
  · refine gx_xcallV (st := [(.int (0 : Int32)), (va_rf p2)]) C (w_X1_rejectedWith hlt g2) (is_X1_rejectedWith g2) gz_108 rfl (lw_V q2429 q2430 q2431 q121 q2432) gz_623 (by decide) rfl rfl (gx_catn (Nat.le_of_ble_eq_true rfl)) dX0_rejectedWith_4 (gx_k2r ?_)
    replace hf := gx_ite hf
    rcases hf with ⟨c10, hf⟩ | ⟨c10, hf⟩
    · subst c10
      refine gx_catch C [] ⟨0, 9, 12, 68⟩ [] hx (fun _ h => nomatch h) rfl (by decide) q2428 q227 rfl ?_
      refine gx_astn C dX0_rejectedWith_12 3 rfl (by decide) []  rfl gx_ok0 ?_
      refine gx_iconst (v := 1) C dX0_rejectedWith_13 rfl ?_
      obtain ⟨rfl, rfl⟩ := Prod.mk.inj (Option.some.inj hf)
      exact gx_ret (gx_iret C dX0_rejectedWith_14)
    cases hf
theorem le_X0_rejectedWith {D : gx_D} {r : Int32} {hz : HX} {h : HX} {p0 : Option Nat} {p1 : Int32} {p2 : Option Nat} (hf : f_X0_rejectedWith D h p0 p1 p2 = some (r, hz)) : gx_le h hz := by
  unfold f_X0_rejectedWith at hf
  replace hf := gx_bs hf
  obtain ⟨a1, rfl, hf⟩ := hf
  replace hf := gx_bxs hf
  rcases hf with ⟨x3, h4, g2, hf⟩ | ⟨E5, q6, h4, g2, hf⟩
  · refine (le_X1_rejectedWith g2).tr ?_
    replace hf := gx_bs hf
    obtain ⟨a7, rfl, hf⟩ := hf
    replace hf := gx_bs hf
    obtain ⟨h8, g9, hf⟩ := hf
    refine (hx_le_sl g9).tr ?_
    obtain ⟨rfl, rfl⟩ := Prod.mk.inj (Option.some.inj hf)
    exact gx_le.rf
  · refine (le_X1_rejectedWith g2).tr ?_
    replace hf := gx_ite hf
    rcases hf with ⟨c10, hf⟩ | ⟨c10, hf⟩
    · subst c10
      obtain ⟨rfl, rfl⟩ := Prod.mk.inj (Option.some.inj hf)
      exact gx_le.rf
    cases hf
theorem w_X0_rejectedWith {l : Launch} (hlt : l.stackTraces = false) {D : gx_D} {h : HX} {p0 : Option Nat} {p1 : Int32} {p2 : Option Nat} {r : Int32} {hz : HX} (hf : f_X0_rejectedWith D h p0 p1 p2 = some (r, hz)) : gx_MetX l yX0_rejectedWith (wsW_ yX0_rejectedWith cX0_rejectedWith 4 (some .int) [(0, 9, 12, 68)]) 8 130 D [(va_rf p0), (.int p1), (va_rf p2)] h (.inl (some (.int r))) hz :=
  gx_ofGW gz_606 (by simp only [gx_lsr, gx_lsi, gx_lsj, gx_ls0]; decide) (le_X0_rejectedWith hf) (fun p e R s m args below meth c C hn hx => by
    simp only [gx_lar, gx_lai, gx_laj, gx_la0, Nat.reduceAdd]
    exact w_X0_rejectedWith_b hlt C hx hf)
def f_X0_isReachable_b15 (D : gx_D) (h : HX) (s0 : Int64) (s1 : Int32) (s2 : Option Nat) : Option ((Int32) × HX) :=
  s2.bind fun a8 =>
  (hx_sl h a8 s1 s0).bind fun h9 =>
  some ((0 : Int32), h9)
theorem w_X0_isReachable_b15 {l : Launch} (hlt : l.stackTraces = false) {p : Program} {e : Env} {R : Room} {s : State} {m : MethodId} {args : Array Value} {below : List Frame} {meth : Method} {c : Code} {D : gx_D} {h0 : HX} {r : Int32} {hz : HX} (C : gx_Ctx p R s m args meth c "ContractMachineLaw" cX0_isReachable 4 (some .int) 13 285 D h0 hz) (hx : c.exceptionTable.toList = tableOf [(0, 16, 19, 13)])  {h : HX} {s0 : Int64} {s1 : Int32} {s2 : Option Nat} (hf : f_X0_isReachable_b15 D h s0 s1 s2 = some (r, hz)) : gx_G p l e R s m args below meth c D h0 hz 4 (gx_MQX below args s D h0 hz (.inl (some (.int r)))) 15 [] [(.long s0), (.int s1), (va_rf s2)] h := by
  unfold f_X0_isReachable_b15 at hf
  replace hf := gx_bs hf
  obtain ⟨a8, rfl, hf⟩ := hf
  replace hf := gx_bs hf
  obtain ⟨h9, g10, hf⟩ := hf
  refine gx_last C g10 dX0_isReachable_15 ?_
  refine gx_goto (tgt := 22) C dX0_isReachable_16 rfl ?_
  refine gx_iconst (v := 0) C dX0_isReachable_22 rfl ?_
  obtain ⟨rfl, rfl⟩ := Prod.mk.inj (Option.some.inj hf)
  exact gx_ret (gx_iret C dX0_isReachable_23)
theorem le_X0_isReachable_b15 {D : gx_D} {r : Int32} {hz : HX} {h : HX} {s0 : Int64} {s1 : Int32} {s2 : Option Nat} (hf : f_X0_isReachable_b15 D h s0 s1 s2 = some (r, hz)) : gx_le h hz := by
  unfold f_X0_isReachable_b15 at hf
  replace hf := gx_bs hf
  obtain ⟨a8, rfl, hf⟩ := hf
  replace hf := gx_bs hf
  obtain ⟨h9, g10, hf⟩ := hf
  refine (hx_le_sl g10).tr ?_
  obtain ⟨rfl, rfl⟩ := Prod.mk.inj (Option.some.inj hf)
  exact gx_le.rf
def f_X0_isReachable (D : gx_D) (h : HX) (p0 : Option Nat) (p1 : Int32) (p2 : Option Nat) : Option ((Int32) × HX) :=
  p0.bind fun a1 =>
  gx_bx (f_X1_isReachable D h a1 p1) (fun b3 h4 =>
  if b3 = true then
  f_X0_isReachable_b15 D h4 ((1 : Int64)) ((0 : Int32)) p2
  else
  f_X0_isReachable_b15 D h4 ((0 : Int64)) ((0 : Int32)) p2) fun E5 q6 h4 =>
  if E5 = "java/lang/IndexOutOfBoundsException" then
  some ((1 : Int32), h4)
  else
  none
theorem w_X0_isReachable_b {l : Launch} (hlt : l.stackTraces = false) {p : Program} {e : Env} {R : Room} {s : State} {m : MethodId} {args : Array Value} {below : List Frame} {meth : Method} {c : Code} {D : gx_D} {h0 : HX} {r : Int32} {hz : HX} (C : gx_Ctx p R s m args meth c "ContractMachineLaw" cX0_isReachable 4 (some .int) 13 285 D h0 hz) (hx : c.exceptionTable.toList = tableOf [(0, 16, 19, 13)]) {p0 : Option Nat} {p1 : Int32} {p2 : Option Nat} (hf : f_X0_isReachable D h0 p0 p1 p2 = some (r, hz)) : gx_G p l e R s m args below meth c D h0 hz 4 (gx_MQX below args s D h0 hz (.inl (some (.int r)))) 0 [(0, (va_rf p0)), (1, (.int p1)), (2, (va_rf p2))] [] h0 := by
  unfold f_X0_isReachable at hf
  refine gx_aload_n C dX0_isReachable_0 2 rfl ?_
  refine gx_iconst (v := 0) C dX0_isReachable_1 rfl ?_
  refine gx_aload_n C dX0_isReachable_2 0 rfl ?_
  refine gx_iload_n C dX0_isReachable_3 1 rfl ?_
  replace hf := gx_bs hf
  obtain ⟨a1, rfl, hf⟩ := hf
  replace hf := gx_bxs hf
  rcases hf with ⟨b3, h4, g2, hf⟩ | ⟨E5, q6, h4, g2, hf⟩
  · refine gx_xcallV (st := [(.int (0 : Int32)), (va_rf p2)]) C (w_X1_isReachable hlt g2) (is_X1_isReachable g2) gz_108 rfl (lw_V q2445 q2446 q2447 q121 q2448) gz_624 (by decide) rfl rfl (gx_catn (Nat.le_of_ble_eq_true rfl)) dX0_isReachable_4 (gx_k2l ?_)
    replace hf := gx_ite hf
    rcases hf with ⟨c7, hf⟩ | ⟨c7, hf⟩
    · refine gx_ifz_eq_f (tgt := 14) C dX0_isReachable_7 rfl c7 ?_
      refine gx_lconst (v := 1) C dX0_isReachable_10 rfl ?_
      refine gx_goto (tgt := 15) C dX0_isReachable_11 rfl ?_
      refine gx_sub [] rfl ?_
      exact w_X0_isReachable_b15 hlt C hx hf
    · refine gx_ifz_eq_t (tgt := 14) C dX0_isReachable_7 rfl c7 ?_
      refine gx_lconst (v := 0) C dX0_isReachable_14 rfl ?_
      refine gx_sub [] rfl ?_
      exact w_X0_isReachable_b15 hlt C hx hf
  · refine gx_xcallV (st := [(.int (0 : Int32)), (va_rf p2)]) C (w_X1_isReachable hlt g2) (is_X1_isReachable g2) gz_108 rfl (lw_V q2445 q2446 q2447 q121 q2448) gz_624 (by decide) rfl rfl (gx_catn (Nat.le_of_ble_eq_true rfl)) dX0_isReachable_4 (gx_k2r ?_)
    replace hf := gx_ite hf
    rcases hf with ⟨c11, hf⟩ | ⟨c11, hf⟩
    · subst c11
      refine gx_catch C [] ⟨0, 16, 19, 13⟩ [] hx (fun _ h => nomatch h) rfl (by decide) q2258 q2276 rfl ?_
      refine gx_astn C dX0_isReachable_19 3 rfl (by decide) []  rfl gx_ok0 ?_
      refine gx_iconst (v := 1) C dX0_isReachable_20 rfl ?_
      obtain ⟨rfl, rfl⟩ := Prod.mk.inj (Option.some.inj hf)
      exact gx_ret (gx_iret C dX0_isReachable_21)
    cases hf
theorem le_X0_isReachable {D : gx_D} {r : Int32} {hz : HX} {h : HX} {p0 : Option Nat} {p1 : Int32} {p2 : Option Nat} (hf : f_X0_isReachable D h p0 p1 p2 = some (r, hz)) : gx_le h hz := by
  unfold f_X0_isReachable at hf
  replace hf := gx_bs hf
  obtain ⟨a1, rfl, hf⟩ := hf
  replace hf := gx_bxs hf
  rcases hf with ⟨b3, h4, g2, hf⟩ | ⟨E5, q6, h4, g2, hf⟩
  · refine (le_X1_isReachable g2).tr ?_
    replace hf := gx_ite hf
    rcases hf with ⟨c7, hf⟩ | ⟨c7, hf⟩
    · exact le_X0_isReachable_b15 hf
    · exact le_X0_isReachable_b15 hf
  · refine (le_X1_isReachable g2).tr ?_
    replace hf := gx_ite hf
    rcases hf with ⟨c11, hf⟩ | ⟨c11, hf⟩
    · subst c11
      obtain ⟨rfl, rfl⟩ := Prod.mk.inj (Option.some.inj hf)
      exact gx_le.rf
    cases hf
theorem w_X0_isReachable {l : Launch} (hlt : l.stackTraces = false) {D : gx_D} {h : HX} {p0 : Option Nat} {p1 : Int32} {p2 : Option Nat} {r : Int32} {hz : HX} (hf : f_X0_isReachable D h p0 p1 p2 = some (r, hz)) : gx_MetX l yX0_isReachable (wsW_ yX0_isReachable cX0_isReachable 4 (some .int) [(0, 16, 19, 13)]) 13 285 D [(va_rf p0), (.int p1), (va_rf p2)] h (.inl (some (.int r))) hz :=
  gx_ofGW gz_606 (by simp only [gx_lsr, gx_lsi, gx_lsj, gx_ls0]; decide) (le_X0_isReachable hf) (fun p e R s m args below meth c C hn hx => by
    simp only [gx_lar, gx_lai, gx_laj, gx_la0, Nat.reduceAdd]
    exact w_X0_isReachable_b hlt C hx hf)
def f_X0_canBeTaken_b15 (D : gx_D) (h : HX) (s0 : Int64) (s1 : Int32) (s2 : Option Nat) : Option ((Int32) × HX) :=
  s2.bind fun a8 =>
  (hx_sl h a8 s1 s0).bind fun h9 =>
  some ((0 : Int32), h9)
theorem w_X0_canBeTaken_b15 {l : Launch} (hlt : l.stackTraces = false) {p : Program} {e : Env} {R : Room} {s : State} {m : MethodId} {args : Array Value} {below : List Frame} {meth : Method} {c : Code} {D : gx_D} {h0 : HX} {r : Int32} {hz : HX} (C : gx_Ctx p R s m args meth c "ContractMachineLaw" cX0_canBeTaken 4 (some .int) 12 265 D h0 hz) (hx : c.exceptionTable.toList = tableOf [(0, 16, 19, 13)])  {h : HX} {s0 : Int64} {s1 : Int32} {s2 : Option Nat} (hf : f_X0_canBeTaken_b15 D h s0 s1 s2 = some (r, hz)) : gx_G p l e R s m args below meth c D h0 hz 4 (gx_MQX below args s D h0 hz (.inl (some (.int r)))) 15 [] [(.long s0), (.int s1), (va_rf s2)] h := by
  unfold f_X0_canBeTaken_b15 at hf
  replace hf := gx_bs hf
  obtain ⟨a8, rfl, hf⟩ := hf
  replace hf := gx_bs hf
  obtain ⟨h9, g10, hf⟩ := hf
  refine gx_last C g10 dX0_canBeTaken_15 ?_
  refine gx_goto (tgt := 22) C dX0_canBeTaken_16 rfl ?_
  refine gx_iconst (v := 0) C dX0_canBeTaken_22 rfl ?_
  obtain ⟨rfl, rfl⟩ := Prod.mk.inj (Option.some.inj hf)
  exact gx_ret (gx_iret C dX0_canBeTaken_23)
theorem le_X0_canBeTaken_b15 {D : gx_D} {r : Int32} {hz : HX} {h : HX} {s0 : Int64} {s1 : Int32} {s2 : Option Nat} (hf : f_X0_canBeTaken_b15 D h s0 s1 s2 = some (r, hz)) : gx_le h hz := by
  unfold f_X0_canBeTaken_b15 at hf
  replace hf := gx_bs hf
  obtain ⟨a8, rfl, hf⟩ := hf
  replace hf := gx_bs hf
  obtain ⟨h9, g10, hf⟩ := hf
  refine (hx_le_sl g10).tr ?_
  obtain ⟨rfl, rfl⟩ := Prod.mk.inj (Option.some.inj hf)
  exact gx_le.rf
def f_X0_canBeTaken (D : gx_D) (h : HX) (p0 : Option Nat) (p1 : Int32) (p2 : Option Nat) : Option ((Int32) × HX) :=
  p0.bind fun a1 =>
  gx_bx (f_X1_canBeTaken D h a1 p1) (fun b3 h4 =>
  if b3 = true then
  f_X0_canBeTaken_b15 D h4 ((1 : Int64)) ((0 : Int32)) p2
  else
  f_X0_canBeTaken_b15 D h4 ((0 : Int64)) ((0 : Int32)) p2) fun E5 q6 h4 =>
  if E5 = "java/lang/IndexOutOfBoundsException" then
  some ((1 : Int32), h4)
  else
  none
theorem w_X0_canBeTaken_b {l : Launch} (hlt : l.stackTraces = false) {p : Program} {e : Env} {R : Room} {s : State} {m : MethodId} {args : Array Value} {below : List Frame} {meth : Method} {c : Code} {D : gx_D} {h0 : HX} {r : Int32} {hz : HX} (C : gx_Ctx p R s m args meth c "ContractMachineLaw" cX0_canBeTaken 4 (some .int) 12 265 D h0 hz) (hx : c.exceptionTable.toList = tableOf [(0, 16, 19, 13)]) {p0 : Option Nat} {p1 : Int32} {p2 : Option Nat} (hf : f_X0_canBeTaken D h0 p0 p1 p2 = some (r, hz)) : gx_G p l e R s m args below meth c D h0 hz 4 (gx_MQX below args s D h0 hz (.inl (some (.int r)))) 0 [(0, (va_rf p0)), (1, (.int p1)), (2, (va_rf p2))] [] h0 := by
  unfold f_X0_canBeTaken at hf
  refine gx_aload_n C dX0_canBeTaken_0 2 rfl ?_
  refine gx_iconst (v := 0) C dX0_canBeTaken_1 rfl ?_
  refine gx_aload_n C dX0_canBeTaken_2 0 rfl ?_
  refine gx_iload_n C dX0_canBeTaken_3 1 rfl ?_
  replace hf := gx_bs hf
  obtain ⟨a1, rfl, hf⟩ := hf
  replace hf := gx_bxs hf
  rcases hf with ⟨b3, h4, g2, hf⟩ | ⟨E5, q6, h4, g2, hf⟩
  · refine gx_xcallV (st := [(.int (0 : Int32)), (va_rf p2)]) C (w_X1_canBeTaken hlt g2) (is_X1_canBeTaken g2) gz_108 rfl (lw_V q2470 q2471 q2472 q121 q2473) gz_625 (by decide) rfl rfl (gx_catn (Nat.le_of_ble_eq_true rfl)) dX0_canBeTaken_4 (gx_k2l ?_)
    replace hf := gx_ite hf
    rcases hf with ⟨c7, hf⟩ | ⟨c7, hf⟩
    · refine gx_ifz_eq_f (tgt := 14) C dX0_canBeTaken_7 rfl c7 ?_
      refine gx_lconst (v := 1) C dX0_canBeTaken_10 rfl ?_
      refine gx_goto (tgt := 15) C dX0_canBeTaken_11 rfl ?_
      refine gx_sub [] rfl ?_
      exact w_X0_canBeTaken_b15 hlt C hx hf
    · refine gx_ifz_eq_t (tgt := 14) C dX0_canBeTaken_7 rfl c7 ?_
      refine gx_lconst (v := 0) C dX0_canBeTaken_14 rfl ?_
      refine gx_sub [] rfl ?_
      exact w_X0_canBeTaken_b15 hlt C hx hf
  · refine gx_xcallV (st := [(.int (0 : Int32)), (va_rf p2)]) C (w_X1_canBeTaken hlt g2) (is_X1_canBeTaken g2) gz_108 rfl (lw_V q2470 q2471 q2472 q121 q2473) gz_625 (by decide) rfl rfl (gx_catn (Nat.le_of_ble_eq_true rfl)) dX0_canBeTaken_4 (gx_k2r ?_)
    replace hf := gx_ite hf
    rcases hf with ⟨c11, hf⟩ | ⟨c11, hf⟩
    · subst c11
      refine gx_catch C [] ⟨0, 16, 19, 13⟩ [] hx (fun _ h => nomatch h) rfl (by decide) q2258 q2276 rfl ?_
      refine gx_astn C dX0_canBeTaken_19 3 rfl (by decide) []  rfl gx_ok0 ?_
      refine gx_iconst (v := 1) C dX0_canBeTaken_20 rfl ?_
      obtain ⟨rfl, rfl⟩ := Prod.mk.inj (Option.some.inj hf)
      exact gx_ret (gx_iret C dX0_canBeTaken_21)
    cases hf
theorem le_X0_canBeTaken {D : gx_D} {r : Int32} {hz : HX} {h : HX} {p0 : Option Nat} {p1 : Int32} {p2 : Option Nat} (hf : f_X0_canBeTaken D h p0 p1 p2 = some (r, hz)) : gx_le h hz := by
  unfold f_X0_canBeTaken at hf
  replace hf := gx_bs hf
  obtain ⟨a1, rfl, hf⟩ := hf
  replace hf := gx_bxs hf
  rcases hf with ⟨b3, h4, g2, hf⟩ | ⟨E5, q6, h4, g2, hf⟩
  · refine (le_X1_canBeTaken g2).tr ?_
    replace hf := gx_ite hf
    rcases hf with ⟨c7, hf⟩ | ⟨c7, hf⟩
    · exact le_X0_canBeTaken_b15 hf
    · exact le_X0_canBeTaken_b15 hf
  · refine (le_X1_canBeTaken g2).tr ?_
    replace hf := gx_ite hf
    rcases hf with ⟨c11, hf⟩ | ⟨c11, hf⟩
    · subst c11
      obtain ⟨rfl, rfl⟩ := Prod.mk.inj (Option.some.inj hf)
      exact gx_le.rf
    cases hf
theorem w_X0_canBeTaken {l : Launch} (hlt : l.stackTraces = false) {D : gx_D} {h : HX} {p0 : Option Nat} {p1 : Int32} {p2 : Option Nat} {r : Int32} {hz : HX} (hf : f_X0_canBeTaken D h p0 p1 p2 = some (r, hz)) : gx_MetX l yX0_canBeTaken (wsW_ yX0_canBeTaken cX0_canBeTaken 4 (some .int) [(0, 16, 19, 13)]) 12 265 D [(va_rf p0), (.int p1), (va_rf p2)] h (.inl (some (.int r))) hz :=
  gx_ofGW gz_606 (by simp only [gx_lsr, gx_lsi, gx_lsj, gx_ls0]; decide) (le_X0_canBeTaken hf) (fun p e R s m args below meth c C hn hx => by
    simp only [gx_lar, gx_lai, gx_laj, gx_la0, Nat.reduceAdd]
    exact w_X0_canBeTaken_b hlt C hx hf)
def f_X0_stepsTo (D : gx_D) (h : HX) (p0 : Option Nat) (p1 : Int32) (p2 : Option Nat) : Option ((Int32) × HX) :=
  p0.bind fun a1 =>
  gx_bx (f_X1_stepsTo D h a1 p1) (fun x3 h4 =>
  p2.bind fun a7 =>
  (hx_sl h4 a7 (0 : Int32) (Int32.toInt64 x3)).bind fun h8 =>
  some ((0 : Int32), h8)) fun E5 q6 h4 =>
  if E5 = "java/lang/IndexOutOfBoundsException" then
  some ((1 : Int32), h4)
  else
  none
theorem w_X0_stepsTo_b {l : Launch} (hlt : l.stackTraces = false) {p : Program} {e : Env} {R : Room} {s : State} {m : MethodId} {args : Array Value} {below : List Frame} {meth : Method} {c : Code} {D : gx_D} {h0 : HX} {r : Int32} {hz : HX} (C : gx_Ctx p R s m args meth c "ContractMachineLaw" cX0_stepsTo 4 (some .int) 13 286 D h0 hz) (hx : c.exceptionTable.toList = tableOf [(0, 9, 12, 13)]) {p0 : Option Nat} {p1 : Int32} {p2 : Option Nat} (hf : f_X0_stepsTo D h0 p0 p1 p2 = some (r, hz)) : gx_G p l e R s m args below meth c D h0 hz 4 (gx_MQX below args s D h0 hz (.inl (some (.int r)))) 0 [(0, (va_rf p0)), (1, (.int p1)), (2, (va_rf p2))] [] h0 := by
  unfold f_X0_stepsTo at hf
  refine gx_aload_n C dX0_stepsTo_0 2 rfl ?_
  refine gx_iconst (v := 0) C dX0_stepsTo_1 rfl ?_
  refine gx_aload_n C dX0_stepsTo_2 0 rfl ?_
  refine gx_iload_n C dX0_stepsTo_3 1 rfl ?_
  replace hf := gx_bs hf
  obtain ⟨a1, rfl, hf⟩ := hf
  replace hf := gx_bxs hf
  rcases hf with ⟨x3, h4, g2, hf⟩ | ⟨E5, q6, h4, g2, hf⟩
  · refine gx_xcallV (st := [(.int (0 : Int32)), (va_rf p2)]) C (w_X1_stepsTo hlt g2) (is_X1_stepsTo g2) gz_108 rfl (lw_V q2494 q2495 q2496 q121 q2497) gz_626 (by decide) rfl rfl (gx_catn (Nat.le_of_ble_eq_true rfl)) dX0_stepsTo_4 (gx_k2l ?_)
    refine gx_i2l C dX0_stepsTo_7 ?_
    replace hf := gx_bs hf
    obtain ⟨a7, rfl, hf⟩ := hf
    replace hf := gx_bs hf
    obtain ⟨h8, g9, hf⟩ := hf
    refine gx_last C g9 dX0_stepsTo_8 ?_
    refine gx_goto (tgt := 15) C dX0_stepsTo_9 rfl ?_
    refine gx_iconst (v := 0) C dX0_stepsTo_15 rfl ?_
    obtain ⟨rfl, rfl⟩ := Prod.mk.inj (Option.some.inj hf)
    exact gx_ret (gx_iret C dX0_stepsTo_16)
  · refine gx_xcallV (st := [(.int (0 : Int32)), (va_rf p2)]) C (w_X1_stepsTo hlt g2) (is_X1_stepsTo g2) gz_108 rfl (lw_V q2494 q2495 q2496 q121 q2497) gz_626 (by decide) rfl rfl (gx_catn (Nat.le_of_ble_eq_true rfl)) dX0_stepsTo_4 (gx_k2r ?_)
    replace hf := gx_ite hf
    rcases hf with ⟨c10, hf⟩ | ⟨c10, hf⟩
    · subst c10
      refine gx_catch C [] ⟨0, 9, 12, 13⟩ [] hx (fun _ h => nomatch h) rfl (by decide) q2258 q2276 rfl ?_
      refine gx_astn C dX0_stepsTo_12 3 rfl (by decide) []  rfl gx_ok0 ?_
      refine gx_iconst (v := 1) C dX0_stepsTo_13 rfl ?_
      obtain ⟨rfl, rfl⟩ := Prod.mk.inj (Option.some.inj hf)
      exact gx_ret (gx_iret C dX0_stepsTo_14)
    cases hf
theorem le_X0_stepsTo {D : gx_D} {r : Int32} {hz : HX} {h : HX} {p0 : Option Nat} {p1 : Int32} {p2 : Option Nat} (hf : f_X0_stepsTo D h p0 p1 p2 = some (r, hz)) : gx_le h hz := by
  unfold f_X0_stepsTo at hf
  replace hf := gx_bs hf
  obtain ⟨a1, rfl, hf⟩ := hf
  replace hf := gx_bxs hf
  rcases hf with ⟨x3, h4, g2, hf⟩ | ⟨E5, q6, h4, g2, hf⟩
  · refine (le_X1_stepsTo g2).tr ?_
    replace hf := gx_bs hf
    obtain ⟨a7, rfl, hf⟩ := hf
    replace hf := gx_bs hf
    obtain ⟨h8, g9, hf⟩ := hf
    refine (hx_le_sl g9).tr ?_
    obtain ⟨rfl, rfl⟩ := Prod.mk.inj (Option.some.inj hf)
    exact gx_le.rf
  · refine (le_X1_stepsTo g2).tr ?_
    replace hf := gx_ite hf
    rcases hf with ⟨c10, hf⟩ | ⟨c10, hf⟩
    · subst c10
      obtain ⟨rfl, rfl⟩ := Prod.mk.inj (Option.some.inj hf)
      exact gx_le.rf
    cases hf
theorem w_X0_stepsTo {l : Launch} (hlt : l.stackTraces = false) {D : gx_D} {h : HX} {p0 : Option Nat} {p1 : Int32} {p2 : Option Nat} {r : Int32} {hz : HX} (hf : f_X0_stepsTo D h p0 p1 p2 = some (r, hz)) : gx_MetX l yX0_stepsTo (wsW_ yX0_stepsTo cX0_stepsTo 4 (some .int) [(0, 9, 12, 13)]) 13 286 D [(va_rf p0), (.int p1), (va_rf p2)] h (.inl (some (.int r))) hz :=
  gx_ofGW gz_606 (by simp only [gx_lsr, gx_lsi, gx_lsj, gx_ls0]; decide) (le_X0_stepsTo hf) (fun p e R s m args below meth c C hn hx => by
    simp only [gx_lar, gx_lai, gx_laj, gx_la0, Nat.reduceAdd]
    exact w_X0_stepsTo_b hlt C hx hf)
def f_X0_firstEventTo (D : gx_D) (h : HX) (p0 : Option Nat) (p1 : Int32) (p2 : Option Nat) : Option ((Int32) × HX) :=
  p0.bind fun a1 =>
  gx_bx (f_X1_firstEventTo D h a1 p1) (fun x3 h4 =>
  p2.bind fun a7 =>
  (hx_sl h4 a7 (0 : Int32) (Int32.toInt64 x3)).bind fun h8 =>
  some ((0 : Int32), h8)) fun E5 q6 h4 =>
  if E5 = "java/lang/IndexOutOfBoundsException" then
  some ((1 : Int32), h4)
  else
  none
theorem w_X0_firstEventTo_b {l : Launch} (hlt : l.stackTraces = false) {p : Program} {e : Env} {R : Room} {s : State} {m : MethodId} {args : Array Value} {below : List Frame} {meth : Method} {c : Code} {D : gx_D} {h0 : HX} {r : Int32} {hz : HX} (C : gx_Ctx p R s m args meth c "ContractMachineLaw" cX0_firstEventTo 4 (some .int) 13 286 D h0 hz) (hx : c.exceptionTable.toList = tableOf [(0, 9, 12, 13)]) {p0 : Option Nat} {p1 : Int32} {p2 : Option Nat} (hf : f_X0_firstEventTo D h0 p0 p1 p2 = some (r, hz)) : gx_G p l e R s m args below meth c D h0 hz 4 (gx_MQX below args s D h0 hz (.inl (some (.int r)))) 0 [(0, (va_rf p0)), (1, (.int p1)), (2, (va_rf p2))] [] h0 := by
  unfold f_X0_firstEventTo at hf
  refine gx_aload_n C dX0_firstEventTo_0 2 rfl ?_
  refine gx_iconst (v := 0) C dX0_firstEventTo_1 rfl ?_
  refine gx_aload_n C dX0_firstEventTo_2 0 rfl ?_
  refine gx_iload_n C dX0_firstEventTo_3 1 rfl ?_
  replace hf := gx_bs hf
  obtain ⟨a1, rfl, hf⟩ := hf
  replace hf := gx_bxs hf
  rcases hf with ⟨x3, h4, g2, hf⟩ | ⟨E5, q6, h4, g2, hf⟩
  · refine gx_xcallV (st := [(.int (0 : Int32)), (va_rf p2)]) C (w_X1_firstEventTo hlt g2) (is_X1_firstEventTo g2) gz_108 rfl (lw_V q2501 q2502 q2503 q121 q2504) gz_627 (by decide) rfl rfl (gx_catn (Nat.le_of_ble_eq_true rfl)) dX0_firstEventTo_4 (gx_k2l ?_)
    refine gx_i2l C dX0_firstEventTo_7 ?_
    replace hf := gx_bs hf
    obtain ⟨a7, rfl, hf⟩ := hf
    replace hf := gx_bs hf
    obtain ⟨h8, g9, hf⟩ := hf
    refine gx_last C g9 dX0_firstEventTo_8 ?_
    refine gx_goto (tgt := 15) C dX0_firstEventTo_9 rfl ?_
    refine gx_iconst (v := 0) C dX0_firstEventTo_15 rfl ?_
    obtain ⟨rfl, rfl⟩ := Prod.mk.inj (Option.some.inj hf)
    exact gx_ret (gx_iret C dX0_firstEventTo_16)
  · refine gx_xcallV (st := [(.int (0 : Int32)), (va_rf p2)]) C (w_X1_firstEventTo hlt g2) (is_X1_firstEventTo g2) gz_108 rfl (lw_V q2501 q2502 q2503 q121 q2504) gz_627 (by decide) rfl rfl (gx_catn (Nat.le_of_ble_eq_true rfl)) dX0_firstEventTo_4 (gx_k2r ?_)
    replace hf := gx_ite hf
    rcases hf with ⟨c10, hf⟩ | ⟨c10, hf⟩
    · subst c10
      refine gx_catch C [] ⟨0, 9, 12, 13⟩ [] hx (fun _ h => nomatch h) rfl (by decide) q2258 q2276 rfl ?_
      refine gx_astn C dX0_firstEventTo_12 3 rfl (by decide) []  rfl gx_ok0 ?_
      refine gx_iconst (v := 1) C dX0_firstEventTo_13 rfl ?_
      obtain ⟨rfl, rfl⟩ := Prod.mk.inj (Option.some.inj hf)
      exact gx_ret (gx_iret C dX0_firstEventTo_14)
    cases hf
theorem le_X0_firstEventTo {D : gx_D} {r : Int32} {hz : HX} {h : HX} {p0 : Option Nat} {p1 : Int32} {p2 : Option Nat} (hf : f_X0_firstEventTo D h p0 p1 p2 = some (r, hz)) : gx_le h hz := by
  unfold f_X0_firstEventTo at hf
  replace hf := gx_bs hf
  obtain ⟨a1, rfl, hf⟩ := hf
  replace hf := gx_bxs hf
  rcases hf with ⟨x3, h4, g2, hf⟩ | ⟨E5, q6, h4, g2, hf⟩
  · refine (le_X1_firstEventTo g2).tr ?_
    replace hf := gx_bs hf
    obtain ⟨a7, rfl, hf⟩ := hf
    replace hf := gx_bs hf
    obtain ⟨h8, g9, hf⟩ := hf
    refine (hx_le_sl g9).tr ?_
    obtain ⟨rfl, rfl⟩ := Prod.mk.inj (Option.some.inj hf)
    exact gx_le.rf
  · refine (le_X1_firstEventTo g2).tr ?_
    replace hf := gx_ite hf
    rcases hf with ⟨c10, hf⟩ | ⟨c10, hf⟩
    · subst c10
      obtain ⟨rfl, rfl⟩ := Prod.mk.inj (Option.some.inj hf)
      exact gx_le.rf
    cases hf
theorem w_X0_firstEventTo {l : Launch} (hlt : l.stackTraces = false) {D : gx_D} {h : HX} {p0 : Option Nat} {p1 : Int32} {p2 : Option Nat} {r : Int32} {hz : HX} (hf : f_X0_firstEventTo D h p0 p1 p2 = some (r, hz)) : gx_MetX l yX0_firstEventTo (wsW_ yX0_firstEventTo cX0_firstEventTo 4 (some .int) [(0, 9, 12, 13)]) 13 286 D [(va_rf p0), (.int p1), (va_rf p2)] h (.inl (some (.int r))) hz :=
  gx_ofGW gz_606 (by simp only [gx_lsr, gx_lsi, gx_lsj, gx_ls0]; decide) (le_X0_firstEventTo hf) (fun p e R s m args below meth c C hn hx => by
    simp only [gx_lar, gx_lai, gx_laj, gx_la0, Nat.reduceAdd]
    exact w_X0_firstEventTo_b hlt C hx hf)
def f_X0_fire (D : gx_D) (h : HX) (p0 : Option Nat) (p1 : Int32) (p2 : Option Nat) : Option ((Int32) × HX) :=
  p0.bind fun a1 =>
  gx_bx (f_X1_fire D h a1 p1) (fun x3 h4 =>
  p2.bind fun a7 =>
  (hx_sl h4 a7 (0 : Int32) (Int32.toInt64 x3)).bind fun h8 =>
  some ((0 : Int32), h8)) fun E5 q6 h4 =>
  if E5 = "java/lang/IndexOutOfBoundsException" then
  some ((1 : Int32), h4)
  else
  none
theorem w_X0_fire_b {l : Launch} (hlt : l.stackTraces = false) {p : Program} {e : Env} {R : Room} {s : State} {m : MethodId} {args : Array Value} {below : List Frame} {meth : Method} {c : Code} {D : gx_D} {h0 : HX} {r : Int32} {hz : HX} (C : gx_Ctx p R s m args meth c "ContractMachineLaw" cX0_fire 4 (some .int) 10 200 D h0 hz) (hx : c.exceptionTable.toList = tableOf [(0, 9, 12, 13)]) {p0 : Option Nat} {p1 : Int32} {p2 : Option Nat} (hf : f_X0_fire D h0 p0 p1 p2 = some (r, hz)) : gx_G p l e R s m args below meth c D h0 hz 4 (gx_MQX below args s D h0 hz (.inl (some (.int r)))) 0 [(0, (va_rf p0)), (1, (.int p1)), (2, (va_rf p2))] [] h0 := by
  unfold f_X0_fire at hf
  refine gx_aload_n C dX0_fire_0 2 rfl ?_
  refine gx_iconst (v := 0) C dX0_fire_1 rfl ?_
  refine gx_aload_n C dX0_fire_2 0 rfl ?_
  refine gx_iload_n C dX0_fire_3 1 rfl ?_
  replace hf := gx_bs hf
  obtain ⟨a1, rfl, hf⟩ := hf
  replace hf := gx_bxs hf
  rcases hf with ⟨x3, h4, g2, hf⟩ | ⟨E5, q6, h4, g2, hf⟩
  · refine gx_xcallV (st := [(.int (0 : Int32)), (va_rf p2)]) C (w_X1_fire hlt g2) (is_X1_fire g2) gz_108 rfl (lw_V q2508 q2509 q2510 q121 q2511) gz_628 (by decide) rfl rfl (gx_catn (Nat.le_of_ble_eq_true rfl)) dX0_fire_4 (gx_k2l ?_)
    refine gx_i2l C dX0_fire_7 ?_
    replace hf := gx_bs hf
    obtain ⟨a7, rfl, hf⟩ := hf
    replace hf := gx_bs hf
    obtain ⟨h8, g9, hf⟩ := hf
    refine gx_last C g9 dX0_fire_8 ?_
    refine gx_goto (tgt := 15) C dX0_fire_9 rfl ?_
    refine gx_iconst (v := 0) C dX0_fire_15 rfl ?_
    obtain ⟨rfl, rfl⟩ := Prod.mk.inj (Option.some.inj hf)
    exact gx_ret (gx_iret C dX0_fire_16)
  · refine gx_xcallV (st := [(.int (0 : Int32)), (va_rf p2)]) C (w_X1_fire hlt g2) (is_X1_fire g2) gz_108 rfl (lw_V q2508 q2509 q2510 q121 q2511) gz_628 (by decide) rfl rfl (gx_catn (Nat.le_of_ble_eq_true rfl)) dX0_fire_4 (gx_k2r ?_)
    replace hf := gx_ite hf
    rcases hf with ⟨c10, hf⟩ | ⟨c10, hf⟩
    · subst c10
      refine gx_catch C [] ⟨0, 9, 12, 13⟩ [] hx (fun _ h => nomatch h) rfl (by decide) q2258 q2276 rfl ?_
      refine gx_astn C dX0_fire_12 3 rfl (by decide) []  rfl gx_ok0 ?_
      refine gx_iconst (v := 1) C dX0_fire_13 rfl ?_
      obtain ⟨rfl, rfl⟩ := Prod.mk.inj (Option.some.inj hf)
      exact gx_ret (gx_iret C dX0_fire_14)
    cases hf
theorem le_X0_fire {D : gx_D} {r : Int32} {hz : HX} {h : HX} {p0 : Option Nat} {p1 : Int32} {p2 : Option Nat} (hf : f_X0_fire D h p0 p1 p2 = some (r, hz)) : gx_le h hz := by
  unfold f_X0_fire at hf
  replace hf := gx_bs hf
  obtain ⟨a1, rfl, hf⟩ := hf
  replace hf := gx_bxs hf
  rcases hf with ⟨x3, h4, g2, hf⟩ | ⟨E5, q6, h4, g2, hf⟩
  · refine (le_X1_fire g2).tr ?_
    replace hf := gx_bs hf
    obtain ⟨a7, rfl, hf⟩ := hf
    replace hf := gx_bs hf
    obtain ⟨h8, g9, hf⟩ := hf
    refine (hx_le_sl g9).tr ?_
    obtain ⟨rfl, rfl⟩ := Prod.mk.inj (Option.some.inj hf)
    exact gx_le.rf
  · refine (le_X1_fire g2).tr ?_
    replace hf := gx_ite hf
    rcases hf with ⟨c10, hf⟩ | ⟨c10, hf⟩
    · subst c10
      obtain ⟨rfl, rfl⟩ := Prod.mk.inj (Option.some.inj hf)
      exact gx_le.rf
    cases hf
theorem w_X0_fire {l : Launch} (hlt : l.stackTraces = false) {D : gx_D} {h : HX} {p0 : Option Nat} {p1 : Int32} {p2 : Option Nat} {r : Int32} {hz : HX} (hf : f_X0_fire D h p0 p1 p2 = some (r, hz)) : gx_MetX l yX0_fire (wsW_ yX0_fire cX0_fire 4 (some .int) [(0, 9, 12, 13)]) 10 200 D [(va_rf p0), (.int p1), (va_rf p2)] h (.inl (some (.int r))) hz :=
  gx_ofGW gz_606 (by simp only [gx_lsr, gx_lsi, gx_lsj, gx_ls0]; decide) (le_X0_fire hf) (fun p e R s m args below meth c C hn hx => by
    simp only [gx_lar, gx_lai, gx_laj, gx_la0, Nat.reduceAdd]
    exact w_X0_fire_b hlt C hx hf)
def f_X0_setValue (D : gx_D) (h : HX) (p0 : Option Nat) (p1 : Int32) (p2 : Int32) (p3 : Option Nat) : Option ((Int32) × HX) :=
  p0.bind fun a1 =>
  gx_bx (f_X1_setValue D h a1 p1 p2) (fun x3 h4 =>
  p3.bind fun a7 =>
  (hx_sl h4 a7 (0 : Int32) (Int32.toInt64 x3)).bind fun h8 =>
  some ((0 : Int32), h8)) fun E5 q6 h4 =>
  if E5 = "java/lang/IndexOutOfBoundsException" then
  some ((1 : Int32), h4)
  else
  if E5 = "java/lang/IllegalArgumentException" then
  some ((2 : Int32), h4)
  else
  if E5 = "java/lang/IllegalStateException" then
  some ((3 : Int32), h4)
  else
  none
theorem w_X0_setValue_b {l : Launch} (hlt : l.stackTraces = false) {p : Program} {e : Env} {R : Room} {s : State} {m : MethodId} {args : Array Value} {below : List Frame} {meth : Method} {c : Code} {D : gx_D} {h0 : HX} {r : Int32} {hz : HX} (C : gx_Ctx p R s m args meth c "ContractMachineLaw" cX0_setValue 5 (some .int) 10 175 D h0 hz) (hx : c.exceptionTable.toList = tableOf [(0, 10, 13, 13), (0, 10, 17, 68), (0, 10, 21, 88)]) {p0 : Option Nat} {p1 : Int32} {p2 : Int32} {p3 : Option Nat} (hf : f_X0_setValue D h0 p0 p1 p2 p3 = some (r, hz)) : gx_G p l e R s m args below meth c D h0 hz 5 (gx_MQX below args s D h0 hz (.inl (some (.int r)))) 0 [(0, (va_rf p0)), (1, (.int p1)), (2, (.int p2)), (3, (va_rf p3))] [] h0 := by
  unfold f_X0_setValue at hf
  refine gx_aload_n C dX0_setValue_0 3 rfl ?_
  refine gx_iconst (v := 0) C dX0_setValue_1 rfl ?_
  refine gx_aload_n C dX0_setValue_2 0 rfl ?_
  refine gx_iload_n C dX0_setValue_3 1 rfl ?_
  refine gx_iload_n C dX0_setValue_4 2 rfl ?_
  replace hf := gx_bs hf
  obtain ⟨a1, rfl, hf⟩ := hf
  replace hf := gx_bxs hf
  rcases hf with ⟨x3, h4, g2, hf⟩ | ⟨E5, q6, h4, g2, hf⟩
  · refine gx_xcallV (st := [(.int (0 : Int32)), (va_rf p3)]) C (w_X1_setValue hlt g2) (is_X1_setValue g2) gz_108 rfl (lw_V q2533 q2534 q2535 q121 q2536) gz_629 (by decide) rfl rfl (gx_catn (Nat.le_of_ble_eq_true rfl)) dX0_setValue_5 (gx_k2l ?_)
    refine gx_i2l C dX0_setValue_8 ?_
    replace hf := gx_bs hf
    obtain ⟨a7, rfl, hf⟩ := hf
    replace hf := gx_bs hf
    obtain ⟨h8, g9, hf⟩ := hf
    refine gx_last C g9 dX0_setValue_9 ?_
    refine gx_goto (tgt := 25) C dX0_setValue_10 rfl ?_
    refine gx_iconst (v := 0) C dX0_setValue_25 rfl ?_
    obtain ⟨rfl, rfl⟩ := Prod.mk.inj (Option.some.inj hf)
    exact gx_ret (gx_iret C dX0_setValue_26)
  · refine gx_xcallV (st := [(.int (0 : Int32)), (va_rf p3)]) C (w_X1_setValue hlt g2) (is_X1_setValue g2) gz_108 rfl (lw_V q2533 q2534 q2535 q121 q2536) gz_629 (by decide) rfl rfl (gx_catn (Nat.le_of_ble_eq_true rfl)) dX0_setValue_5 (gx_k2r ?_)
    replace hf := gx_ite hf
    rcases hf with ⟨c10, hf⟩ | ⟨c10, hf⟩
    · subst c10
      refine gx_catch C [] ⟨0, 10, 13, 13⟩ [⟨0, 10, 17, 68⟩, ⟨0, 10, 21, 88⟩] hx (fun _ h => nomatch h) rfl (by decide) q2258 q2276 rfl ?_
      refine gx_ast C dX0_setValue_13 (by decide) []  rfl gx_ok0 ?_
      refine gx_iconst (v := 1) C dX0_setValue_15 rfl ?_
      obtain ⟨rfl, rfl⟩ := Prod.mk.inj (Option.some.inj hf)
      exact gx_ret (gx_iret C dX0_setValue_16)
    replace hf := gx_ite hf
    rcases hf with ⟨c11, hf⟩ | ⟨c11, hf⟩
    · subst c11
      refine gx_catch C [⟨0, 10, 13, 13⟩] ⟨0, 10, 17, 68⟩ [⟨0, 10, 21, 88⟩] hx (List.forall_mem_cons.mpr ⟨Or.inr ⟨by decide, _, q2258, by decide +kernel⟩, (fun _ h => nomatch h)⟩) rfl (by decide) q2428 q227 rfl ?_
      refine gx_ast C dX0_setValue_17 (by decide) []  rfl gx_ok0 ?_
      refine gx_iconst (v := 2) C dX0_setValue_19 rfl ?_
      obtain ⟨rfl, rfl⟩ := Prod.mk.inj (Option.some.inj hf)
      exact gx_ret (gx_iret C dX0_setValue_20)
    replace hf := gx_ite hf
    rcases hf with ⟨c12, hf⟩ | ⟨c12, hf⟩
    · subst c12
      refine gx_catch C [⟨0, 10, 13, 13⟩, ⟨0, 10, 17, 68⟩] ⟨0, 10, 21, 88⟩ [] hx (List.forall_mem_cons.mpr ⟨Or.inr ⟨by decide, _, q2258, by decide +kernel⟩, (List.forall_mem_cons.mpr ⟨Or.inr ⟨by decide, _, q2428, by decide +kernel⟩, (fun _ h => nomatch h)⟩)⟩) rfl (by decide) q2532 q1692 rfl ?_
      refine gx_ast C dX0_setValue_21 (by decide) []  rfl gx_ok0 ?_
      refine gx_iconst (v := 3) C dX0_setValue_23 rfl ?_
      obtain ⟨rfl, rfl⟩ := Prod.mk.inj (Option.some.inj hf)
      exact gx_ret (gx_iret C dX0_setValue_24)
    cases hf
theorem le_X0_setValue {D : gx_D} {r : Int32} {hz : HX} {h : HX} {p0 : Option Nat} {p1 : Int32} {p2 : Int32} {p3 : Option Nat} (hf : f_X0_setValue D h p0 p1 p2 p3 = some (r, hz)) : gx_le h hz := by
  unfold f_X0_setValue at hf
  replace hf := gx_bs hf
  obtain ⟨a1, rfl, hf⟩ := hf
  replace hf := gx_bxs hf
  rcases hf with ⟨x3, h4, g2, hf⟩ | ⟨E5, q6, h4, g2, hf⟩
  · refine (le_X1_setValue g2).tr ?_
    replace hf := gx_bs hf
    obtain ⟨a7, rfl, hf⟩ := hf
    replace hf := gx_bs hf
    obtain ⟨h8, g9, hf⟩ := hf
    refine (hx_le_sl g9).tr ?_
    obtain ⟨rfl, rfl⟩ := Prod.mk.inj (Option.some.inj hf)
    exact gx_le.rf
  · refine (le_X1_setValue g2).tr ?_
    replace hf := gx_ite hf
    rcases hf with ⟨c10, hf⟩ | ⟨c10, hf⟩
    · subst c10
      obtain ⟨rfl, rfl⟩ := Prod.mk.inj (Option.some.inj hf)
      exact gx_le.rf
    replace hf := gx_ite hf
    rcases hf with ⟨c11, hf⟩ | ⟨c11, hf⟩
    · subst c11
      obtain ⟨rfl, rfl⟩ := Prod.mk.inj (Option.some.inj hf)
      exact gx_le.rf
    replace hf := gx_ite hf
    rcases hf with ⟨c12, hf⟩ | ⟨c12, hf⟩
    · subst c12
      obtain ⟨rfl, rfl⟩ := Prod.mk.inj (Option.some.inj hf)
      exact gx_le.rf
    cases hf
theorem w_X0_setValue {l : Launch} (hlt : l.stackTraces = false) {D : gx_D} {h : HX} {p0 : Option Nat} {p1 : Int32} {p2 : Int32} {p3 : Option Nat} {r : Int32} {hz : HX} (hf : f_X0_setValue D h p0 p1 p2 p3 = some (r, hz)) : gx_MetX l yX0_setValue (wsW_ yX0_setValue cX0_setValue 5 (some .int) [(0, 10, 13, 13), (0, 10, 17, 68), (0, 10, 21, 88)]) 10 175 D [(va_rf p0), (.int p1), (.int p2), (va_rf p3)] h (.inl (some (.int r))) hz :=
  gx_ofGW gz_606 (by simp only [gx_lsr, gx_lsi, gx_lsj, gx_ls0]; decide) (le_X0_setValue hf) (fun p e R s m args below meth c C hn hx => by
    simp only [gx_lar, gx_lai, gx_laj, gx_la0, Nat.reduceAdd]
    exact w_X0_setValue_b hlt C hx hf)
def f_X0_addAlways (D : gx_D) (h : HX) (p0 : Option Nat) (p1 : Int32) (p2 : Int32) (p3 : Int32) (p4 : Option Nat) : Option ((Int32) × HX) :=
  p0.bind fun a1 =>
  gx_bx (f_X1_addAlways D h a1 p1 p2 p3) (fun x3 h4 =>
  p4.bind fun a7 =>
  (hx_sl h4 a7 (0 : Int32) (Int32.toInt64 x3)).bind fun h8 =>
  some ((0 : Int32), h8)) fun E5 q6 h4 =>
  if E5 = "java/lang/IndexOutOfBoundsException" then
  some ((1 : Int32), h4)
  else
  if E5 = "java/lang/IllegalArgumentException" then
  some ((2 : Int32), h4)
  else
  if E5 = "java/lang/IllegalStateException" then
  some ((3 : Int32), h4)
  else
  none
theorem w_X0_addAlways_b {l : Launch} (hlt : l.stackTraces = false) {p : Program} {e : Env} {R : Room} {s : State} {m : MethodId} {args : Array Value} {below : List Frame} {meth : Method} {c : Code} {D : gx_D} {h0 : HX} {r : Int32} {hz : HX} (C : gx_Ctx p R s m args meth c "ContractMachineLaw" cX0_addAlways 6 (some .int) 10 176 D h0 hz) (hx : c.exceptionTable.toList = tableOf [(0, 12, 15, 13), (0, 12, 19, 68), (0, 12, 23, 88)]) {p0 : Option Nat} {p1 : Int32} {p2 : Int32} {p3 : Int32} {p4 : Option Nat} (hf : f_X0_addAlways D h0 p0 p1 p2 p3 p4 = some (r, hz)) : gx_G p l e R s m args below meth c D h0 hz 6 (gx_MQX below args s D h0 hz (.inl (some (.int r)))) 0 [(0, (va_rf p0)), (1, (.int p1)), (2, (.int p2)), (3, (.int p3)), (4, (va_rf p4))] [] h0 := by
  unfold f_X0_addAlways at hf
  refine gx_aload C dX0_addAlways_0 4 rfl ?_
  refine gx_iconst (v := 0) C dX0_addAlways_2 rfl ?_
  refine gx_aload_n C dX0_addAlways_3 0 rfl ?_
  refine gx_iload_n C dX0_addAlways_4 1 rfl ?_
  refine gx_iload_n C dX0_addAlways_5 2 rfl ?_
  refine gx_iload_n C dX0_addAlways_6 3 rfl ?_
  replace hf := gx_bs hf
  obtain ⟨a1, rfl, hf⟩ := hf
  replace hf := gx_bxs hf
  rcases hf with ⟨x3, h4, g2, hf⟩ | ⟨E5, q6, h4, g2, hf⟩
  · refine gx_xcallV (st := [(.int (0 : Int32)), (va_rf p4)]) C (w_X1_addAlways hlt g2) (is_X1_addAlways g2) gz_108 rfl (lw_V q2551 q2552 q2553 q121 q2554) gz_630 (by decide) rfl rfl (gx_catn (Nat.le_of_ble_eq_true rfl)) dX0_addAlways_7 (gx_k2l ?_)
    refine gx_i2l C dX0_addAlways_10 ?_
    replace hf := gx_bs hf
    obtain ⟨a7, rfl, hf⟩ := hf
    replace hf := gx_bs hf
    obtain ⟨h8, g9, hf⟩ := hf
    refine gx_last C g9 dX0_addAlways_11 ?_
    refine gx_goto (tgt := 27) C dX0_addAlways_12 rfl ?_
    refine gx_iconst (v := 0) C dX0_addAlways_27 rfl ?_
    obtain ⟨rfl, rfl⟩ := Prod.mk.inj (Option.some.inj hf)
    exact gx_ret (gx_iret C dX0_addAlways_28)
  · refine gx_xcallV (st := [(.int (0 : Int32)), (va_rf p4)]) C (w_X1_addAlways hlt g2) (is_X1_addAlways g2) gz_108 rfl (lw_V q2551 q2552 q2553 q121 q2554) gz_630 (by decide) rfl rfl (gx_catn (Nat.le_of_ble_eq_true rfl)) dX0_addAlways_7 (gx_k2r ?_)
    replace hf := gx_ite hf
    rcases hf with ⟨c10, hf⟩ | ⟨c10, hf⟩
    · subst c10
      refine gx_catch C [] ⟨0, 12, 15, 13⟩ [⟨0, 12, 19, 68⟩, ⟨0, 12, 23, 88⟩] hx (fun _ h => nomatch h) rfl (by decide) q2258 q2276 rfl ?_
      refine gx_ast C dX0_addAlways_15 (by decide) []  rfl gx_ok0 ?_
      refine gx_iconst (v := 1) C dX0_addAlways_17 rfl ?_
      obtain ⟨rfl, rfl⟩ := Prod.mk.inj (Option.some.inj hf)
      exact gx_ret (gx_iret C dX0_addAlways_18)
    replace hf := gx_ite hf
    rcases hf with ⟨c11, hf⟩ | ⟨c11, hf⟩
    · subst c11
      refine gx_catch C [⟨0, 12, 15, 13⟩] ⟨0, 12, 19, 68⟩ [⟨0, 12, 23, 88⟩] hx (List.forall_mem_cons.mpr ⟨Or.inr ⟨by decide, _, q2258, by decide +kernel⟩, (fun _ h => nomatch h)⟩) rfl (by decide) q2428 q227 rfl ?_
      refine gx_ast C dX0_addAlways_19 (by decide) []  rfl gx_ok0 ?_
      refine gx_iconst (v := 2) C dX0_addAlways_21 rfl ?_
      obtain ⟨rfl, rfl⟩ := Prod.mk.inj (Option.some.inj hf)
      exact gx_ret (gx_iret C dX0_addAlways_22)
    replace hf := gx_ite hf
    rcases hf with ⟨c12, hf⟩ | ⟨c12, hf⟩
    · subst c12
      refine gx_catch C [⟨0, 12, 15, 13⟩, ⟨0, 12, 19, 68⟩] ⟨0, 12, 23, 88⟩ [] hx (List.forall_mem_cons.mpr ⟨Or.inr ⟨by decide, _, q2258, by decide +kernel⟩, (List.forall_mem_cons.mpr ⟨Or.inr ⟨by decide, _, q2428, by decide +kernel⟩, (fun _ h => nomatch h)⟩)⟩) rfl (by decide) q2532 q1692 rfl ?_
      refine gx_ast C dX0_addAlways_23 (by decide) []  rfl gx_ok0 ?_
      refine gx_iconst (v := 3) C dX0_addAlways_25 rfl ?_
      obtain ⟨rfl, rfl⟩ := Prod.mk.inj (Option.some.inj hf)
      exact gx_ret (gx_iret C dX0_addAlways_26)
    cases hf
theorem le_X0_addAlways {D : gx_D} {r : Int32} {hz : HX} {h : HX} {p0 : Option Nat} {p1 : Int32} {p2 : Int32} {p3 : Int32} {p4 : Option Nat} (hf : f_X0_addAlways D h p0 p1 p2 p3 p4 = some (r, hz)) : gx_le h hz := by
  unfold f_X0_addAlways at hf
  replace hf := gx_bs hf
  obtain ⟨a1, rfl, hf⟩ := hf
  replace hf := gx_bxs hf
  rcases hf with ⟨x3, h4, g2, hf⟩ | ⟨E5, q6, h4, g2, hf⟩
  · refine (le_X1_addAlways g2).tr ?_
    replace hf := gx_bs hf
    obtain ⟨a7, rfl, hf⟩ := hf
    replace hf := gx_bs hf
    obtain ⟨h8, g9, hf⟩ := hf
    refine (hx_le_sl g9).tr ?_
    obtain ⟨rfl, rfl⟩ := Prod.mk.inj (Option.some.inj hf)
    exact gx_le.rf
  · refine (le_X1_addAlways g2).tr ?_
    replace hf := gx_ite hf
    rcases hf with ⟨c10, hf⟩ | ⟨c10, hf⟩
    · subst c10
      obtain ⟨rfl, rfl⟩ := Prod.mk.inj (Option.some.inj hf)
      exact gx_le.rf
    replace hf := gx_ite hf
    rcases hf with ⟨c11, hf⟩ | ⟨c11, hf⟩
    · subst c11
      obtain ⟨rfl, rfl⟩ := Prod.mk.inj (Option.some.inj hf)
      exact gx_le.rf
    replace hf := gx_ite hf
    rcases hf with ⟨c12, hf⟩ | ⟨c12, hf⟩
    · subst c12
      obtain ⟨rfl, rfl⟩ := Prod.mk.inj (Option.some.inj hf)
      exact gx_le.rf
    cases hf
theorem w_X0_addAlways {l : Launch} (hlt : l.stackTraces = false) {D : gx_D} {h : HX} {p0 : Option Nat} {p1 : Int32} {p2 : Int32} {p3 : Int32} {p4 : Option Nat} {r : Int32} {hz : HX} (hf : f_X0_addAlways D h p0 p1 p2 p3 p4 = some (r, hz)) : gx_MetX l yX0_addAlways (wsW_ yX0_addAlways cX0_addAlways 6 (some .int) [(0, 12, 15, 13), (0, 12, 19, 68), (0, 12, 23, 88)]) 10 176 D [(va_rf p0), (.int p1), (.int p2), (.int p3), (va_rf p4)] h (.inl (some (.int r))) hz :=
  gx_ofGW gz_606 (by simp only [gx_lsr, gx_lsi, gx_lsj, gx_ls0]; decide) (le_X0_addAlways hf) (fun p e R s m args below meth c C hn hx => by
    simp only [gx_lar, gx_lai, gx_laj, gx_la0, Nat.reduceAdd]
    exact w_X0_addAlways_b hlt C hx hf)
def f_X0_undo (D : gx_D) (h : HX) (p0 : Option Nat) (p1 : Option Nat) : Option ((Int32) × HX) :=
  p0.bind fun a1 =>
  gx_bx (f_X1_undo D h a1) (fun x3 h4 =>
  p1.bind fun a7 =>
  (hx_sl h4 a7 (0 : Int32) (Int32.toInt64 x3)).bind fun h8 =>
  some ((0 : Int32), h8)) fun E5 q6 h4 =>
  if E5 = "java/util/NoSuchElementException" then
  some ((1 : Int32), h4)
  else
  none
theorem w_X0_undo_b {l : Launch} (hlt : l.stackTraces = false) {p : Program} {e : Env} {R : Room} {s : State} {m : MethodId} {args : Array Value} {below : List Frame} {meth : Method} {c : Code} {D : gx_D} {h0 : HX} {r : Int32} {hz : HX} (C : gx_Ctx p R s m args meth c "ContractMachineLaw" cX0_undo 3 (some .int) 8 129 D h0 hz) (hx : c.exceptionTable.toList = tableOf [(0, 8, 11, 98)]) {p0 : Option Nat} {p1 : Option Nat} (hf : f_X0_undo D h0 p0 p1 = some (r, hz)) : gx_G p l e R s m args below meth c D h0 hz 3 (gx_MQX below args s D h0 hz (.inl (some (.int r)))) 0 [(0, (va_rf p0)), (1, (va_rf p1))] [] h0 := by
  unfold f_X0_undo at hf
  refine gx_aload_n C dX0_undo_0 1 rfl ?_
  refine gx_iconst (v := 0) C dX0_undo_1 rfl ?_
  refine gx_aload_n C dX0_undo_2 0 rfl ?_
  replace hf := gx_bs hf
  obtain ⟨a1, rfl, hf⟩ := hf
  replace hf := gx_bxs hf
  rcases hf with ⟨x3, h4, g2, hf⟩ | ⟨E5, q6, h4, g2, hf⟩
  · refine gx_xcallV (st := [(.int (0 : Int32)), (va_rf p1)]) C (w_X1_undo hlt g2) (is_X1_undo g2) gz_108 rfl (lw_V q2565 q2566 q2567 q121 q2568) gz_631 (by decide) rfl rfl (gx_catn (Nat.le_of_ble_eq_true rfl)) dX0_undo_3 (gx_k2l ?_)
    refine gx_i2l C dX0_undo_6 ?_
    replace hf := gx_bs hf
    obtain ⟨a7, rfl, hf⟩ := hf
    replace hf := gx_bs hf
    obtain ⟨h8, g9, hf⟩ := hf
    refine gx_last C g9 dX0_undo_7 ?_
    refine gx_goto (tgt := 14) C dX0_undo_8 rfl ?_
    refine gx_iconst (v := 0) C dX0_undo_14 rfl ?_
    obtain ⟨rfl, rfl⟩ := Prod.mk.inj (Option.some.inj hf)
    exact gx_ret (gx_iret C dX0_undo_15)
  · refine gx_xcallV (st := [(.int (0 : Int32)), (va_rf p1)]) C (w_X1_undo hlt g2) (is_X1_undo g2) gz_108 rfl (lw_V q2565 q2566 q2567 q121 q2568) gz_631 (by decide) rfl rfl (gx_catn (Nat.le_of_ble_eq_true rfl)) dX0_undo_3 (gx_k2r ?_)
    replace hf := gx_ite hf
    rcases hf with ⟨c10, hf⟩ | ⟨c10, hf⟩
    · subst c10
      refine gx_catch C [] ⟨0, 8, 11, 98⟩ [] hx (fun _ h => nomatch h) rfl (by decide) q2564 q1658 rfl ?_
      refine gx_astn C dX0_undo_11 2 rfl (by decide) []  rfl gx_ok0 ?_
      refine gx_iconst (v := 1) C dX0_undo_12 rfl ?_
      obtain ⟨rfl, rfl⟩ := Prod.mk.inj (Option.some.inj hf)
      exact gx_ret (gx_iret C dX0_undo_13)
    cases hf
theorem le_X0_undo {D : gx_D} {r : Int32} {hz : HX} {h : HX} {p0 : Option Nat} {p1 : Option Nat} (hf : f_X0_undo D h p0 p1 = some (r, hz)) : gx_le h hz := by
  unfold f_X0_undo at hf
  replace hf := gx_bs hf
  obtain ⟨a1, rfl, hf⟩ := hf
  replace hf := gx_bxs hf
  rcases hf with ⟨x3, h4, g2, hf⟩ | ⟨E5, q6, h4, g2, hf⟩
  · refine (le_X1_undo g2).tr ?_
    replace hf := gx_bs hf
    obtain ⟨a7, rfl, hf⟩ := hf
    replace hf := gx_bs hf
    obtain ⟨h8, g9, hf⟩ := hf
    refine (hx_le_sl g9).tr ?_
    obtain ⟨rfl, rfl⟩ := Prod.mk.inj (Option.some.inj hf)
    exact gx_le.rf
  · refine (le_X1_undo g2).tr ?_
    replace hf := gx_ite hf
    rcases hf with ⟨c10, hf⟩ | ⟨c10, hf⟩
    · subst c10
      obtain ⟨rfl, rfl⟩ := Prod.mk.inj (Option.some.inj hf)
      exact gx_le.rf
    cases hf
theorem w_X0_undo {l : Launch} (hlt : l.stackTraces = false) {D : gx_D} {h : HX} {p0 : Option Nat} {p1 : Option Nat} {r : Int32} {hz : HX} (hf : f_X0_undo D h p0 p1 = some (r, hz)) : gx_MetX l yX0_undo (wsW_ yX0_undo cX0_undo 3 (some .int) [(0, 8, 11, 98)]) 8 129 D [(va_rf p0), (va_rf p1)] h (.inl (some (.int r))) hz :=
  gx_ofGW gz_606 (by simp only [gx_lsr, gx_lsi, gx_lsj, gx_ls0]; decide) (le_X0_undo hf) (fun p e R s m args below meth c C hn hx => by
    simp only [gx_lar, gx_lai, gx_laj, gx_la0, Nat.reduceAdd]
    exact w_X0_undo_b hlt C hx hf)
def f_X0_restoreState (D : gx_D) (h : HX) (p0 : Option Nat) (p1 : Option Nat) : Option ((Int32) × HX) :=
  p0.bind fun a1 =>
  gx_bx (f_X1_restoreState D h a1) (fun x3 h4 =>
  p1.bind fun a7 =>
  (hx_sl h4 a7 (0 : Int32) (Int32.toInt64 x3)).bind fun h8 =>
  some ((0 : Int32), h8)) fun E5 q6 h4 =>
  if E5 = "java/util/NoSuchElementException" then
  some ((1 : Int32), h4)
  else
  none
theorem w_X0_restoreState_b {l : Launch} (hlt : l.stackTraces = false) {p : Program} {e : Env} {R : Room} {s : State} {m : MethodId} {args : Array Value} {below : List Frame} {meth : Method} {c : Code} {D : gx_D} {h0 : HX} {r : Int32} {hz : HX} (C : gx_Ctx p R s m args meth c "ContractMachineLaw" cX0_restoreState 3 (some .int) 8 149 D h0 hz) (hx : c.exceptionTable.toList = tableOf [(0, 8, 11, 98)]) {p0 : Option Nat} {p1 : Option Nat} (hf : f_X0_restoreState D h0 p0 p1 = some (r, hz)) : gx_G p l e R s m args below meth c D h0 hz 3 (gx_MQX below args s D h0 hz (.inl (some (.int r)))) 0 [(0, (va_rf p0)), (1, (va_rf p1))] [] h0 := by
  unfold f_X0_restoreState at hf
  refine gx_aload_n C dX0_restoreState_0 1 rfl ?_
  refine gx_iconst (v := 0) C dX0_restoreState_1 rfl ?_
  refine gx_aload_n C dX0_restoreState_2 0 rfl ?_
  replace hf := gx_bs hf
  obtain ⟨a1, rfl, hf⟩ := hf
  replace hf := gx_bxs hf
  rcases hf with ⟨x3, h4, g2, hf⟩ | ⟨E5, q6, h4, g2, hf⟩
  · refine gx_xcallV (st := [(.int (0 : Int32)), (va_rf p1)]) C (w_X1_restoreState hlt g2) (is_X1_restoreState g2) gz_108 rfl (lw_V q2592 q2593 q2594 q121 q2595) gz_632 (by decide) rfl rfl (gx_catn (Nat.le_of_ble_eq_true rfl)) dX0_restoreState_3 (gx_k2l ?_)
    refine gx_i2l C dX0_restoreState_6 ?_
    replace hf := gx_bs hf
    obtain ⟨a7, rfl, hf⟩ := hf
    replace hf := gx_bs hf
    obtain ⟨h8, g9, hf⟩ := hf
    refine gx_last C g9 dX0_restoreState_7 ?_
    refine gx_goto (tgt := 14) C dX0_restoreState_8 rfl ?_
    refine gx_iconst (v := 0) C dX0_restoreState_14 rfl ?_
    obtain ⟨rfl, rfl⟩ := Prod.mk.inj (Option.some.inj hf)
    exact gx_ret (gx_iret C dX0_restoreState_15)
  · refine gx_xcallV (st := [(.int (0 : Int32)), (va_rf p1)]) C (w_X1_restoreState hlt g2) (is_X1_restoreState g2) gz_108 rfl (lw_V q2592 q2593 q2594 q121 q2595) gz_632 (by decide) rfl rfl (gx_catn (Nat.le_of_ble_eq_true rfl)) dX0_restoreState_3 (gx_k2r ?_)
    replace hf := gx_ite hf
    rcases hf with ⟨c10, hf⟩ | ⟨c10, hf⟩
    · subst c10
      refine gx_catch C [] ⟨0, 8, 11, 98⟩ [] hx (fun _ h => nomatch h) rfl (by decide) q2564 q1658 rfl ?_
      refine gx_astn C dX0_restoreState_11 2 rfl (by decide) []  rfl gx_ok0 ?_
      refine gx_iconst (v := 1) C dX0_restoreState_12 rfl ?_
      obtain ⟨rfl, rfl⟩ := Prod.mk.inj (Option.some.inj hf)
      exact gx_ret (gx_iret C dX0_restoreState_13)
    cases hf
theorem le_X0_restoreState {D : gx_D} {r : Int32} {hz : HX} {h : HX} {p0 : Option Nat} {p1 : Option Nat} (hf : f_X0_restoreState D h p0 p1 = some (r, hz)) : gx_le h hz := by
  unfold f_X0_restoreState at hf
  replace hf := gx_bs hf
  obtain ⟨a1, rfl, hf⟩ := hf
  replace hf := gx_bxs hf
  rcases hf with ⟨x3, h4, g2, hf⟩ | ⟨E5, q6, h4, g2, hf⟩
  · refine (le_X1_restoreState g2).tr ?_
    replace hf := gx_bs hf
    obtain ⟨a7, rfl, hf⟩ := hf
    replace hf := gx_bs hf
    obtain ⟨h8, g9, hf⟩ := hf
    refine (hx_le_sl g9).tr ?_
    obtain ⟨rfl, rfl⟩ := Prod.mk.inj (Option.some.inj hf)
    exact gx_le.rf
  · refine (le_X1_restoreState g2).tr ?_
    replace hf := gx_ite hf
    rcases hf with ⟨c10, hf⟩ | ⟨c10, hf⟩
    · subst c10
      obtain ⟨rfl, rfl⟩ := Prod.mk.inj (Option.some.inj hf)
      exact gx_le.rf
    cases hf
theorem w_X0_restoreState {l : Launch} (hlt : l.stackTraces = false) {D : gx_D} {h : HX} {p0 : Option Nat} {p1 : Option Nat} {r : Int32} {hz : HX} (hf : f_X0_restoreState D h p0 p1 = some (r, hz)) : gx_MetX l yX0_restoreState (wsW_ yX0_restoreState cX0_restoreState 3 (some .int) [(0, 8, 11, 98)]) 8 149 D [(va_rf p0), (va_rf p1)] h (.inl (some (.int r))) hz :=
  gx_ofGW gz_606 (by simp only [gx_lsr, gx_lsi, gx_lsj, gx_ls0]; decide) (le_X0_restoreState hf) (fun p e R s m args below meth c C hn hx => by
    simp only [gx_lar, gx_lai, gx_laj, gx_la0, Nat.reduceAdd]
    exact w_X0_restoreState_b hlt C hx hf)
def f_L_law_b2499 (D : gx_D) (o : Nat) (k23 : (HX × MS) → Option Nat → Option Nat → Option Nat → Int32 → Option ((Bool) × HX)) (h : (HX × MS)) (v0 : Option Nat) (v1 : Option Nat) (v3 : Option Nat) (v4 : Int32) : Option ((Bool) × HX) :=
  k23 (h.1, h.2) v0 v1 v3 ((v4 + (6 : Int32)))
theorem w_L_law_b2499 {l : Launch} (hlt : l.stackTraces = false) {p : Program} {e : Env} {R : Room} {s : State} {m : MethodId} {args : Array Value} {below : List Frame} {meth : Method} {c : Code} {D : gx_D} {h0 : HX} {r : Bool} {hz : HX} (C : gx_Ctx p R s m args meth c "ContractMachineLaw" cL_law 9 (some .boolean) 17 396 D h0 hz) (hx : meth.name = "law") {o : Nat}  {k23 : (HX × MS) → Option Nat → Option Nat → Option Nat → Int32 → Option ((Bool) × HX)} (wk23 : ∀ ⦃h : (HX × MS)⦄ ⦃v0 : Option Nat⦄ ⦃v1 : Option Nat⦄ ⦃v3 : Option Nat⦄ ⦃v4 : Int32⦄, k23 h v0 v1 v3 v4 = some (r, hz) → mh_hole h.1 o → gx_G p l e R s m args below meth c D h0 hz 9 (gx_MQ below args s D h0 hz (some (.int (b2i r)))) 23 [(0, (va_rf v0)), (1, (va_rf v1)), (2, (va_rf (some o))), (3, (va_rf v3)), (4, (.int v4))] [] (mh h.1 o h.2)) {h : (HX × MS)} {v0 : Option Nat} {v1 : Option Nat} {v3 : Option Nat} {v4 : Int32} (hf : f_L_law_b2499 D o k23 h v0 v1 v3 v4 = some (r, hz)) (hH : mh_hole h.1 o) : gx_G p l e R s m args below meth c D h0 hz 9 (gx_MQ below args s D h0 hz (some (.int (b2i r)))) 2499 [(0, (va_rf v0)), (1, (va_rf v1)), (2, (va_rf (some o))), (3, (va_rf v3)), (4, (.int v4))] [] (mh h.1 o h.2) := by
  unfold f_L_law_b2499 at hf
  refine gx_inc (v := 6) C dL_law_2499 4 rfl rfl (by decide) [0, 1, 2, 3] rfl (gx_okn rfl rfl (gx_okn rfl rfl (gx_okn rfl rfl (gx_okr rfl gx_catv_r gx_ok0)))) ?_
  refine gx_goto (tgt := 23) C dL_law_2502 rfl ?_
  refine gx_sub [1, 2, 3, 4, 0] rfl ?_
  exact wk23 hf hH
theorem le_L_law_b2499 {D : gx_D} {o : Nat} {r : Bool} {hz : HX} {k23 : (HX × MS) → Option Nat → Option Nat → Option Nat → Int32 → Option ((Bool) × HX)} (lek23 : ∀ ⦃h : (HX × MS)⦄ ⦃v0 : Option Nat⦄ ⦃v1 : Option Nat⦄ ⦃v3 : Option Nat⦄ ⦃v4 : Int32⦄, k23 h v0 v1 v3 v4 = some (r, hz) → mh_hole h.1 o → gx_le (mh h.1 o h.2) hz) {h : (HX × MS)} {v0 : Option Nat} {v1 : Option Nat} {v3 : Option Nat} {v4 : Int32} (hf : f_L_law_b2499 D o k23 h v0 v1 v3 v4 = some (r, hz)) (hH : mh_hole h.1 o) : gx_le (mh h.1 o h.2) hz := by
  unfold f_L_law_b2499 at hf
  exact lek23 hf hH
def f_L_law_b572 (D : gx_D) (o : Nat) (k23 : (HX × MS) → Option Nat → Option Nat → Option Nat → Int32 → Option ((Bool) × HX)) (h : (HX × MS)) (v0 : Option Nat) (v1 : Option Nat) (v3 : Option Nat) (v4 : Int32) : Option ((Bool) × HX) :=
  f_L_law_b2499 D o k23 (h.1, h.2) v0 v1 v3 v4
theorem w_L_law_b572 {l : Launch} (hlt : l.stackTraces = false) {p : Program} {e : Env} {R : Room} {s : State} {m : MethodId} {args : Array Value} {below : List Frame} {meth : Method} {c : Code} {D : gx_D} {h0 : HX} {r : Bool} {hz : HX} (C : gx_Ctx p R s m args meth c "ContractMachineLaw" cL_law 9 (some .boolean) 17 396 D h0 hz) (hx : meth.name = "law") {o : Nat}  {k23 : (HX × MS) → Option Nat → Option Nat → Option Nat → Int32 → Option ((Bool) × HX)} (wk23 : ∀ ⦃h : (HX × MS)⦄ ⦃v0 : Option Nat⦄ ⦃v1 : Option Nat⦄ ⦃v3 : Option Nat⦄ ⦃v4 : Int32⦄, k23 h v0 v1 v3 v4 = some (r, hz) → mh_hole h.1 o → gx_G p l e R s m args below meth c D h0 hz 9 (gx_MQ below args s D h0 hz (some (.int (b2i r)))) 23 [(0, (va_rf v0)), (1, (va_rf v1)), (2, (va_rf (some o))), (3, (va_rf v3)), (4, (.int v4))] [] (mh h.1 o h.2)) {h : (HX × MS)} {v0 : Option Nat} {v1 : Option Nat} {v3 : Option Nat} {v4 : Int32} (hf : f_L_law_b572 D o k23 h v0 v1 v3 v4 = some (r, hz)) (hH : mh_hole h.1 o) : gx_G p l e R s m args below meth c D h0 hz 9 (gx_MQ below args s D h0 hz (some (.int (b2i r)))) 572 [(0, (va_rf v0)), (1, (va_rf v1)), (2, (va_rf (some o))), (3, (va_rf v3)), (4, (.int v4))] [] (mh h.1 o h.2) := by
  unfold f_L_law_b572 at hf
  refine gx_goto (tgt := 2499) C dL_law_572 rfl ?_
  refine gx_sub [0, 1, 2, 3, 4] rfl ?_
  exact w_L_law_b2499 hlt C hx wk23 hf hH
theorem le_L_law_b572 {D : gx_D} {o : Nat} {r : Bool} {hz : HX} {k23 : (HX × MS) → Option Nat → Option Nat → Option Nat → Int32 → Option ((Bool) × HX)} (lek23 : ∀ ⦃h : (HX × MS)⦄ ⦃v0 : Option Nat⦄ ⦃v1 : Option Nat⦄ ⦃v3 : Option Nat⦄ ⦃v4 : Int32⦄, k23 h v0 v1 v3 v4 = some (r, hz) → mh_hole h.1 o → gx_le (mh h.1 o h.2) hz) {h : (HX × MS)} {v0 : Option Nat} {v1 : Option Nat} {v3 : Option Nat} {v4 : Int32} (hf : f_L_law_b572 D o k23 h v0 v1 v3 v4 = some (r, hz)) (hH : mh_hole h.1 o) : gx_le (mh h.1 o h.2) hz := by
  unfold f_L_law_b572 at hf
  exact le_L_law_b2499 lek23 hf hH
def f_L_law_b640 (D : gx_D) (o : Nat) (k23 : (HX × MS) → Option Nat → Option Nat → Option Nat → Int32 → Option ((Bool) × HX)) (h : (HX × MS)) (v0 : Option Nat) (v1 : Option Nat) (v3 : Option Nat) (v4 : Int32) : Option ((Bool) × HX) :=
  f_L_law_b2499 D o k23 (h.1, h.2) v0 v1 v3 v4
theorem w_L_law_b640 {l : Launch} (hlt : l.stackTraces = false) {p : Program} {e : Env} {R : Room} {s : State} {m : MethodId} {args : Array Value} {below : List Frame} {meth : Method} {c : Code} {D : gx_D} {h0 : HX} {r : Bool} {hz : HX} (C : gx_Ctx p R s m args meth c "ContractMachineLaw" cL_law 9 (some .boolean) 17 396 D h0 hz) (hx : meth.name = "law") {o : Nat}  {k23 : (HX × MS) → Option Nat → Option Nat → Option Nat → Int32 → Option ((Bool) × HX)} (wk23 : ∀ ⦃h : (HX × MS)⦄ ⦃v0 : Option Nat⦄ ⦃v1 : Option Nat⦄ ⦃v3 : Option Nat⦄ ⦃v4 : Int32⦄, k23 h v0 v1 v3 v4 = some (r, hz) → mh_hole h.1 o → gx_G p l e R s m args below meth c D h0 hz 9 (gx_MQ below args s D h0 hz (some (.int (b2i r)))) 23 [(0, (va_rf v0)), (1, (va_rf v1)), (2, (va_rf (some o))), (3, (va_rf v3)), (4, (.int v4))] [] (mh h.1 o h.2)) {h : (HX × MS)} {v0 : Option Nat} {v1 : Option Nat} {v3 : Option Nat} {v4 : Int32} (hf : f_L_law_b640 D o k23 h v0 v1 v3 v4 = some (r, hz)) (hH : mh_hole h.1 o) : gx_G p l e R s m args below meth c D h0 hz 9 (gx_MQ below args s D h0 hz (some (.int (b2i r)))) 640 [(0, (va_rf v0)), (1, (va_rf v1)), (2, (va_rf (some o))), (3, (va_rf v3)), (4, (.int v4))] [] (mh h.1 o h.2) := by
  unfold f_L_law_b640 at hf
  refine gx_goto (tgt := 2499) C dL_law_640 rfl ?_
  refine gx_sub [0, 1, 2, 3, 4] rfl ?_
  exact w_L_law_b2499 hlt C hx wk23 hf hH
theorem le_L_law_b640 {D : gx_D} {o : Nat} {r : Bool} {hz : HX} {k23 : (HX × MS) → Option Nat → Option Nat → Option Nat → Int32 → Option ((Bool) × HX)} (lek23 : ∀ ⦃h : (HX × MS)⦄ ⦃v0 : Option Nat⦄ ⦃v1 : Option Nat⦄ ⦃v3 : Option Nat⦄ ⦃v4 : Int32⦄, k23 h v0 v1 v3 v4 = some (r, hz) → mh_hole h.1 o → gx_le (mh h.1 o h.2) hz) {h : (HX × MS)} {v0 : Option Nat} {v1 : Option Nat} {v3 : Option Nat} {v4 : Int32} (hf : f_L_law_b640 D o k23 h v0 v1 v3 v4 = some (r, hz)) (hH : mh_hole h.1 o) : gx_le (mh h.1 o h.2) hz := by
  unfold f_L_law_b640 at hf
  exact le_L_law_b2499 lek23 hf hH
def f_L_law_b708 (D : gx_D) (o : Nat) (k23 : (HX × MS) → Option Nat → Option Nat → Option Nat → Int32 → Option ((Bool) × HX)) (h : (HX × MS)) (v0 : Option Nat) (v1 : Option Nat) (v3 : Option Nat) (v4 : Int32) : Option ((Bool) × HX) :=
  f_L_law_b2499 D o k23 (h.1, h.2) v0 v1 v3 v4
theorem w_L_law_b708 {l : Launch} (hlt : l.stackTraces = false) {p : Program} {e : Env} {R : Room} {s : State} {m : MethodId} {args : Array Value} {below : List Frame} {meth : Method} {c : Code} {D : gx_D} {h0 : HX} {r : Bool} {hz : HX} (C : gx_Ctx p R s m args meth c "ContractMachineLaw" cL_law 9 (some .boolean) 17 396 D h0 hz) (hx : meth.name = "law") {o : Nat}  {k23 : (HX × MS) → Option Nat → Option Nat → Option Nat → Int32 → Option ((Bool) × HX)} (wk23 : ∀ ⦃h : (HX × MS)⦄ ⦃v0 : Option Nat⦄ ⦃v1 : Option Nat⦄ ⦃v3 : Option Nat⦄ ⦃v4 : Int32⦄, k23 h v0 v1 v3 v4 = some (r, hz) → mh_hole h.1 o → gx_G p l e R s m args below meth c D h0 hz 9 (gx_MQ below args s D h0 hz (some (.int (b2i r)))) 23 [(0, (va_rf v0)), (1, (va_rf v1)), (2, (va_rf (some o))), (3, (va_rf v3)), (4, (.int v4))] [] (mh h.1 o h.2)) {h : (HX × MS)} {v0 : Option Nat} {v1 : Option Nat} {v3 : Option Nat} {v4 : Int32} (hf : f_L_law_b708 D o k23 h v0 v1 v3 v4 = some (r, hz)) (hH : mh_hole h.1 o) : gx_G p l e R s m args below meth c D h0 hz 9 (gx_MQ below args s D h0 hz (some (.int (b2i r)))) 708 [(0, (va_rf v0)), (1, (va_rf v1)), (2, (va_rf (some o))), (3, (va_rf v3)), (4, (.int v4))] [] (mh h.1 o h.2) := by
  unfold f_L_law_b708 at hf
  refine gx_goto (tgt := 2499) C dL_law_708 rfl ?_
  refine gx_sub [0, 1, 2, 3, 4] rfl ?_
  exact w_L_law_b2499 hlt C hx wk23 hf hH
theorem le_L_law_b708 {D : gx_D} {o : Nat} {r : Bool} {hz : HX} {k23 : (HX × MS) → Option Nat → Option Nat → Option Nat → Int32 → Option ((Bool) × HX)} (lek23 : ∀ ⦃h : (HX × MS)⦄ ⦃v0 : Option Nat⦄ ⦃v1 : Option Nat⦄ ⦃v3 : Option Nat⦄ ⦃v4 : Int32⦄, k23 h v0 v1 v3 v4 = some (r, hz) → mh_hole h.1 o → gx_le (mh h.1 o h.2) hz) {h : (HX × MS)} {v0 : Option Nat} {v1 : Option Nat} {v3 : Option Nat} {v4 : Int32} (hf : f_L_law_b708 D o k23 h v0 v1 v3 v4 = some (r, hz)) (hH : mh_hole h.1 o) : gx_le (mh h.1 o h.2) hz := by
  unfold f_L_law_b708 at hf
  exact le_L_law_b2499 lek23 hf hH
def f_L_law_b777 (D : gx_D) (o : Nat) (k23 : (HX × MS) → Option Nat → Option Nat → Option Nat → Int32 → Option ((Bool) × HX)) (h : (HX × MS)) (v0 : Option Nat) (v1 : Option Nat) (v3 : Option Nat) (v4 : Int32) : Option ((Bool) × HX) :=
  f_L_law_b2499 D o k23 (h.1, h.2) v0 v1 v3 v4
theorem w_L_law_b777 {l : Launch} (hlt : l.stackTraces = false) {p : Program} {e : Env} {R : Room} {s : State} {m : MethodId} {args : Array Value} {below : List Frame} {meth : Method} {c : Code} {D : gx_D} {h0 : HX} {r : Bool} {hz : HX} (C : gx_Ctx p R s m args meth c "ContractMachineLaw" cL_law 9 (some .boolean) 17 396 D h0 hz) (hx : meth.name = "law") {o : Nat}  {k23 : (HX × MS) → Option Nat → Option Nat → Option Nat → Int32 → Option ((Bool) × HX)} (wk23 : ∀ ⦃h : (HX × MS)⦄ ⦃v0 : Option Nat⦄ ⦃v1 : Option Nat⦄ ⦃v3 : Option Nat⦄ ⦃v4 : Int32⦄, k23 h v0 v1 v3 v4 = some (r, hz) → mh_hole h.1 o → gx_G p l e R s m args below meth c D h0 hz 9 (gx_MQ below args s D h0 hz (some (.int (b2i r)))) 23 [(0, (va_rf v0)), (1, (va_rf v1)), (2, (va_rf (some o))), (3, (va_rf v3)), (4, (.int v4))] [] (mh h.1 o h.2)) {h : (HX × MS)} {v0 : Option Nat} {v1 : Option Nat} {v3 : Option Nat} {v4 : Int32} (hf : f_L_law_b777 D o k23 h v0 v1 v3 v4 = some (r, hz)) (hH : mh_hole h.1 o) : gx_G p l e R s m args below meth c D h0 hz 9 (gx_MQ below args s D h0 hz (some (.int (b2i r)))) 777 [(0, (va_rf v0)), (1, (va_rf v1)), (2, (va_rf (some o))), (3, (va_rf v3)), (4, (.int v4))] [] (mh h.1 o h.2) := by
  unfold f_L_law_b777 at hf
  refine gx_goto (tgt := 2499) C dL_law_777 rfl ?_
  refine gx_sub [0, 1, 2, 3, 4] rfl ?_
  exact w_L_law_b2499 hlt C hx wk23 hf hH
theorem le_L_law_b777 {D : gx_D} {o : Nat} {r : Bool} {hz : HX} {k23 : (HX × MS) → Option Nat → Option Nat → Option Nat → Int32 → Option ((Bool) × HX)} (lek23 : ∀ ⦃h : (HX × MS)⦄ ⦃v0 : Option Nat⦄ ⦃v1 : Option Nat⦄ ⦃v3 : Option Nat⦄ ⦃v4 : Int32⦄, k23 h v0 v1 v3 v4 = some (r, hz) → mh_hole h.1 o → gx_le (mh h.1 o h.2) hz) {h : (HX × MS)} {v0 : Option Nat} {v1 : Option Nat} {v3 : Option Nat} {v4 : Int32} (hf : f_L_law_b777 D o k23 h v0 v1 v3 v4 = some (r, hz)) (hH : mh_hole h.1 o) : gx_le (mh h.1 o h.2) hz := by
  unfold f_L_law_b777 at hf
  exact le_L_law_b2499 lek23 hf hH
def f_L_law_b833 (D : gx_D) (o : Nat) (k23 : (HX × MS) → Option Nat → Option Nat → Option Nat → Int32 → Option ((Bool) × HX)) (h : (HX × MS)) (v0 : Option Nat) (v1 : Option Nat) (v3 : Option Nat) (v4 : Int32) : Option ((Bool) × HX) :=
  f_L_law_b2499 D o k23 (h.1, h.2) v0 v1 v3 v4
theorem w_L_law_b833 {l : Launch} (hlt : l.stackTraces = false) {p : Program} {e : Env} {R : Room} {s : State} {m : MethodId} {args : Array Value} {below : List Frame} {meth : Method} {c : Code} {D : gx_D} {h0 : HX} {r : Bool} {hz : HX} (C : gx_Ctx p R s m args meth c "ContractMachineLaw" cL_law 9 (some .boolean) 17 396 D h0 hz) (hx : meth.name = "law") {o : Nat}  {k23 : (HX × MS) → Option Nat → Option Nat → Option Nat → Int32 → Option ((Bool) × HX)} (wk23 : ∀ ⦃h : (HX × MS)⦄ ⦃v0 : Option Nat⦄ ⦃v1 : Option Nat⦄ ⦃v3 : Option Nat⦄ ⦃v4 : Int32⦄, k23 h v0 v1 v3 v4 = some (r, hz) → mh_hole h.1 o → gx_G p l e R s m args below meth c D h0 hz 9 (gx_MQ below args s D h0 hz (some (.int (b2i r)))) 23 [(0, (va_rf v0)), (1, (va_rf v1)), (2, (va_rf (some o))), (3, (va_rf v3)), (4, (.int v4))] [] (mh h.1 o h.2)) {h : (HX × MS)} {v0 : Option Nat} {v1 : Option Nat} {v3 : Option Nat} {v4 : Int32} (hf : f_L_law_b833 D o k23 h v0 v1 v3 v4 = some (r, hz)) (hH : mh_hole h.1 o) : gx_G p l e R s m args below meth c D h0 hz 9 (gx_MQ below args s D h0 hz (some (.int (b2i r)))) 833 [(0, (va_rf v0)), (1, (va_rf v1)), (2, (va_rf (some o))), (3, (va_rf v3)), (4, (.int v4))] [] (mh h.1 o h.2) := by
  unfold f_L_law_b833 at hf
  refine gx_goto (tgt := 2499) C dL_law_833 rfl ?_
  refine gx_sub [0, 1, 2, 3, 4] rfl ?_
  exact w_L_law_b2499 hlt C hx wk23 hf hH
theorem le_L_law_b833 {D : gx_D} {o : Nat} {r : Bool} {hz : HX} {k23 : (HX × MS) → Option Nat → Option Nat → Option Nat → Int32 → Option ((Bool) × HX)} (lek23 : ∀ ⦃h : (HX × MS)⦄ ⦃v0 : Option Nat⦄ ⦃v1 : Option Nat⦄ ⦃v3 : Option Nat⦄ ⦃v4 : Int32⦄, k23 h v0 v1 v3 v4 = some (r, hz) → mh_hole h.1 o → gx_le (mh h.1 o h.2) hz) {h : (HX × MS)} {v0 : Option Nat} {v1 : Option Nat} {v3 : Option Nat} {v4 : Int32} (hf : f_L_law_b833 D o k23 h v0 v1 v3 v4 = some (r, hz)) (hH : mh_hole h.1 o) : gx_le (mh h.1 o h.2) hz := by
  unfold f_L_law_b833 at hf
  exact le_L_law_b2499 lek23 hf hH
def f_L_law_b889 (D : gx_D) (o : Nat) (k23 : (HX × MS) → Option Nat → Option Nat → Option Nat → Int32 → Option ((Bool) × HX)) (h : (HX × MS)) (v0 : Option Nat) (v1 : Option Nat) (v3 : Option Nat) (v4 : Int32) : Option ((Bool) × HX) :=
  f_L_law_b2499 D o k23 (h.1, h.2) v0 v1 v3 v4
theorem w_L_law_b889 {l : Launch} (hlt : l.stackTraces = false) {p : Program} {e : Env} {R : Room} {s : State} {m : MethodId} {args : Array Value} {below : List Frame} {meth : Method} {c : Code} {D : gx_D} {h0 : HX} {r : Bool} {hz : HX} (C : gx_Ctx p R s m args meth c "ContractMachineLaw" cL_law 9 (some .boolean) 17 396 D h0 hz) (hx : meth.name = "law") {o : Nat}  {k23 : (HX × MS) → Option Nat → Option Nat → Option Nat → Int32 → Option ((Bool) × HX)} (wk23 : ∀ ⦃h : (HX × MS)⦄ ⦃v0 : Option Nat⦄ ⦃v1 : Option Nat⦄ ⦃v3 : Option Nat⦄ ⦃v4 : Int32⦄, k23 h v0 v1 v3 v4 = some (r, hz) → mh_hole h.1 o → gx_G p l e R s m args below meth c D h0 hz 9 (gx_MQ below args s D h0 hz (some (.int (b2i r)))) 23 [(0, (va_rf v0)), (1, (va_rf v1)), (2, (va_rf (some o))), (3, (va_rf v3)), (4, (.int v4))] [] (mh h.1 o h.2)) {h : (HX × MS)} {v0 : Option Nat} {v1 : Option Nat} {v3 : Option Nat} {v4 : Int32} (hf : f_L_law_b889 D o k23 h v0 v1 v3 v4 = some (r, hz)) (hH : mh_hole h.1 o) : gx_G p l e R s m args below meth c D h0 hz 9 (gx_MQ below args s D h0 hz (some (.int (b2i r)))) 889 [(0, (va_rf v0)), (1, (va_rf v1)), (2, (va_rf (some o))), (3, (va_rf v3)), (4, (.int v4))] [] (mh h.1 o h.2) := by
  unfold f_L_law_b889 at hf
  refine gx_goto (tgt := 2499) C dL_law_889 rfl ?_
  refine gx_sub [0, 1, 2, 3, 4] rfl ?_
  exact w_L_law_b2499 hlt C hx wk23 hf hH
theorem le_L_law_b889 {D : gx_D} {o : Nat} {r : Bool} {hz : HX} {k23 : (HX × MS) → Option Nat → Option Nat → Option Nat → Int32 → Option ((Bool) × HX)} (lek23 : ∀ ⦃h : (HX × MS)⦄ ⦃v0 : Option Nat⦄ ⦃v1 : Option Nat⦄ ⦃v3 : Option Nat⦄ ⦃v4 : Int32⦄, k23 h v0 v1 v3 v4 = some (r, hz) → mh_hole h.1 o → gx_le (mh h.1 o h.2) hz) {h : (HX × MS)} {v0 : Option Nat} {v1 : Option Nat} {v3 : Option Nat} {v4 : Int32} (hf : f_L_law_b889 D o k23 h v0 v1 v3 v4 = some (r, hz)) (hH : mh_hole h.1 o) : gx_le (mh h.1 o h.2) hz := by
  unfold f_L_law_b889 at hf
  exact le_L_law_b2499 lek23 hf hH
def f_L_law_b945 (D : gx_D) (o : Nat) (k23 : (HX × MS) → Option Nat → Option Nat → Option Nat → Int32 → Option ((Bool) × HX)) (h : (HX × MS)) (v0 : Option Nat) (v1 : Option Nat) (v3 : Option Nat) (v4 : Int32) : Option ((Bool) × HX) :=
  f_L_law_b2499 D o k23 (h.1, h.2) v0 v1 v3 v4
theorem w_L_law_b945 {l : Launch} (hlt : l.stackTraces = false) {p : Program} {e : Env} {R : Room} {s : State} {m : MethodId} {args : Array Value} {below : List Frame} {meth : Method} {c : Code} {D : gx_D} {h0 : HX} {r : Bool} {hz : HX} (C : gx_Ctx p R s m args meth c "ContractMachineLaw" cL_law 9 (some .boolean) 17 396 D h0 hz) (hx : meth.name = "law") {o : Nat}  {k23 : (HX × MS) → Option Nat → Option Nat → Option Nat → Int32 → Option ((Bool) × HX)} (wk23 : ∀ ⦃h : (HX × MS)⦄ ⦃v0 : Option Nat⦄ ⦃v1 : Option Nat⦄ ⦃v3 : Option Nat⦄ ⦃v4 : Int32⦄, k23 h v0 v1 v3 v4 = some (r, hz) → mh_hole h.1 o → gx_G p l e R s m args below meth c D h0 hz 9 (gx_MQ below args s D h0 hz (some (.int (b2i r)))) 23 [(0, (va_rf v0)), (1, (va_rf v1)), (2, (va_rf (some o))), (3, (va_rf v3)), (4, (.int v4))] [] (mh h.1 o h.2)) {h : (HX × MS)} {v0 : Option Nat} {v1 : Option Nat} {v3 : Option Nat} {v4 : Int32} (hf : f_L_law_b945 D o k23 h v0 v1 v3 v4 = some (r, hz)) (hH : mh_hole h.1 o) : gx_G p l e R s m args below meth c D h0 hz 9 (gx_MQ below args s D h0 hz (some (.int (b2i r)))) 945 [(0, (va_rf v0)), (1, (va_rf v1)), (2, (va_rf (some o))), (3, (va_rf v3)), (4, (.int v4))] [] (mh h.1 o h.2) := by
  unfold f_L_law_b945 at hf
  refine gx_goto (tgt := 2499) C dL_law_945 rfl ?_
  refine gx_sub [0, 1, 2, 3, 4] rfl ?_
  exact w_L_law_b2499 hlt C hx wk23 hf hH
theorem le_L_law_b945 {D : gx_D} {o : Nat} {r : Bool} {hz : HX} {k23 : (HX × MS) → Option Nat → Option Nat → Option Nat → Int32 → Option ((Bool) × HX)} (lek23 : ∀ ⦃h : (HX × MS)⦄ ⦃v0 : Option Nat⦄ ⦃v1 : Option Nat⦄ ⦃v3 : Option Nat⦄ ⦃v4 : Int32⦄, k23 h v0 v1 v3 v4 = some (r, hz) → mh_hole h.1 o → gx_le (mh h.1 o h.2) hz) {h : (HX × MS)} {v0 : Option Nat} {v1 : Option Nat} {v3 : Option Nat} {v4 : Int32} (hf : f_L_law_b945 D o k23 h v0 v1 v3 v4 = some (r, hz)) (hH : mh_hole h.1 o) : gx_le (mh h.1 o h.2) hz := by
  unfold f_L_law_b945 at hf
  exact le_L_law_b2499 lek23 hf hH
def f_L_law_b1001 (D : gx_D) (o : Nat) (k23 : (HX × MS) → Option Nat → Option Nat → Option Nat → Int32 → Option ((Bool) × HX)) (h : (HX × MS)) (v0 : Option Nat) (v1 : Option Nat) (v3 : Option Nat) (v4 : Int32) : Option ((Bool) × HX) :=
  f_L_law_b2499 D o k23 (h.1, h.2) v0 v1 v3 v4
theorem w_L_law_b1001 {l : Launch} (hlt : l.stackTraces = false) {p : Program} {e : Env} {R : Room} {s : State} {m : MethodId} {args : Array Value} {below : List Frame} {meth : Method} {c : Code} {D : gx_D} {h0 : HX} {r : Bool} {hz : HX} (C : gx_Ctx p R s m args meth c "ContractMachineLaw" cL_law 9 (some .boolean) 17 396 D h0 hz) (hx : meth.name = "law") {o : Nat}  {k23 : (HX × MS) → Option Nat → Option Nat → Option Nat → Int32 → Option ((Bool) × HX)} (wk23 : ∀ ⦃h : (HX × MS)⦄ ⦃v0 : Option Nat⦄ ⦃v1 : Option Nat⦄ ⦃v3 : Option Nat⦄ ⦃v4 : Int32⦄, k23 h v0 v1 v3 v4 = some (r, hz) → mh_hole h.1 o → gx_G p l e R s m args below meth c D h0 hz 9 (gx_MQ below args s D h0 hz (some (.int (b2i r)))) 23 [(0, (va_rf v0)), (1, (va_rf v1)), (2, (va_rf (some o))), (3, (va_rf v3)), (4, (.int v4))] [] (mh h.1 o h.2)) {h : (HX × MS)} {v0 : Option Nat} {v1 : Option Nat} {v3 : Option Nat} {v4 : Int32} (hf : f_L_law_b1001 D o k23 h v0 v1 v3 v4 = some (r, hz)) (hH : mh_hole h.1 o) : gx_G p l e R s m args below meth c D h0 hz 9 (gx_MQ below args s D h0 hz (some (.int (b2i r)))) 1001 [(0, (va_rf v0)), (1, (va_rf v1)), (2, (va_rf (some o))), (3, (va_rf v3)), (4, (.int v4))] [] (mh h.1 o h.2) := by
  unfold f_L_law_b1001 at hf
  refine gx_goto (tgt := 2499) C dL_law_1001 rfl ?_
  refine gx_sub [0, 1, 2, 3, 4] rfl ?_
  exact w_L_law_b2499 hlt C hx wk23 hf hH
theorem le_L_law_b1001 {D : gx_D} {o : Nat} {r : Bool} {hz : HX} {k23 : (HX × MS) → Option Nat → Option Nat → Option Nat → Int32 → Option ((Bool) × HX)} (lek23 : ∀ ⦃h : (HX × MS)⦄ ⦃v0 : Option Nat⦄ ⦃v1 : Option Nat⦄ ⦃v3 : Option Nat⦄ ⦃v4 : Int32⦄, k23 h v0 v1 v3 v4 = some (r, hz) → mh_hole h.1 o → gx_le (mh h.1 o h.2) hz) {h : (HX × MS)} {v0 : Option Nat} {v1 : Option Nat} {v3 : Option Nat} {v4 : Int32} (hf : f_L_law_b1001 D o k23 h v0 v1 v3 v4 = some (r, hz)) (hH : mh_hole h.1 o) : gx_le (mh h.1 o h.2) hz := by
  unfold f_L_law_b1001 at hf
  exact le_L_law_b2499 lek23 hf hH
def f_L_law_b1064 (D : gx_D) (o : Nat) (k23 : (HX × MS) → Option Nat → Option Nat → Option Nat → Int32 → Option ((Bool) × HX)) (h : (HX × MS)) (v0 : Option Nat) (v1 : Option Nat) (v3 : Option Nat) (v4 : Int32) : Option ((Bool) × HX) :=
  f_L_law_b2499 D o k23 (h.1, h.2) v0 v1 v3 v4
theorem w_L_law_b1064 {l : Launch} (hlt : l.stackTraces = false) {p : Program} {e : Env} {R : Room} {s : State} {m : MethodId} {args : Array Value} {below : List Frame} {meth : Method} {c : Code} {D : gx_D} {h0 : HX} {r : Bool} {hz : HX} (C : gx_Ctx p R s m args meth c "ContractMachineLaw" cL_law 9 (some .boolean) 17 396 D h0 hz) (hx : meth.name = "law") {o : Nat}  {k23 : (HX × MS) → Option Nat → Option Nat → Option Nat → Int32 → Option ((Bool) × HX)} (wk23 : ∀ ⦃h : (HX × MS)⦄ ⦃v0 : Option Nat⦄ ⦃v1 : Option Nat⦄ ⦃v3 : Option Nat⦄ ⦃v4 : Int32⦄, k23 h v0 v1 v3 v4 = some (r, hz) → mh_hole h.1 o → gx_G p l e R s m args below meth c D h0 hz 9 (gx_MQ below args s D h0 hz (some (.int (b2i r)))) 23 [(0, (va_rf v0)), (1, (va_rf v1)), (2, (va_rf (some o))), (3, (va_rf v3)), (4, (.int v4))] [] (mh h.1 o h.2)) {h : (HX × MS)} {v0 : Option Nat} {v1 : Option Nat} {v3 : Option Nat} {v4 : Int32} (hf : f_L_law_b1064 D o k23 h v0 v1 v3 v4 = some (r, hz)) (hH : mh_hole h.1 o) : gx_G p l e R s m args below meth c D h0 hz 9 (gx_MQ below args s D h0 hz (some (.int (b2i r)))) 1064 [(0, (va_rf v0)), (1, (va_rf v1)), (2, (va_rf (some o))), (3, (va_rf v3)), (4, (.int v4))] [] (mh h.1 o h.2) := by
  unfold f_L_law_b1064 at hf
  refine gx_goto (tgt := 2499) C dL_law_1064 rfl ?_
  refine gx_sub [0, 1, 2, 3, 4] rfl ?_
  exact w_L_law_b2499 hlt C hx wk23 hf hH
theorem le_L_law_b1064 {D : gx_D} {o : Nat} {r : Bool} {hz : HX} {k23 : (HX × MS) → Option Nat → Option Nat → Option Nat → Int32 → Option ((Bool) × HX)} (lek23 : ∀ ⦃h : (HX × MS)⦄ ⦃v0 : Option Nat⦄ ⦃v1 : Option Nat⦄ ⦃v3 : Option Nat⦄ ⦃v4 : Int32⦄, k23 h v0 v1 v3 v4 = some (r, hz) → mh_hole h.1 o → gx_le (mh h.1 o h.2) hz) {h : (HX × MS)} {v0 : Option Nat} {v1 : Option Nat} {v3 : Option Nat} {v4 : Int32} (hf : f_L_law_b1064 D o k23 h v0 v1 v3 v4 = some (r, hz)) (hH : mh_hole h.1 o) : gx_le (mh h.1 o h.2) hz := by
  unfold f_L_law_b1064 at hf
  exact le_L_law_b2499 lek23 hf hH
def f_L_law_b1058 (D : gx_D) (o : Nat) (k23 : (HX × MS) → Option Nat → Option Nat → Option Nat → Int32 → Option ((Bool) × HX)) (h : (HX × MS)) (v0 : Option Nat) (v1 : Option Nat) (v3 : Option Nat) (v4 : Int32) (s0 : Int64) (s1 : Int64) : Option ((Bool) × HX) :=
  if (lg_cmp s1 s0) = 0 then
  f_L_law_b1064 D o k23 (h.1, h.2) v0 v1 v3 v4
  else
  some (false, (mh h.1 o h.2))
theorem w_L_law_b1058 {l : Launch} (hlt : l.stackTraces = false) {p : Program} {e : Env} {R : Room} {s : State} {m : MethodId} {args : Array Value} {below : List Frame} {meth : Method} {c : Code} {D : gx_D} {h0 : HX} {r : Bool} {hz : HX} (C : gx_Ctx p R s m args meth c "ContractMachineLaw" cL_law 9 (some .boolean) 17 396 D h0 hz) (hx : meth.name = "law") {o : Nat}  {k23 : (HX × MS) → Option Nat → Option Nat → Option Nat → Int32 → Option ((Bool) × HX)} (wk23 : ∀ ⦃h : (HX × MS)⦄ ⦃v0 : Option Nat⦄ ⦃v1 : Option Nat⦄ ⦃v3 : Option Nat⦄ ⦃v4 : Int32⦄, k23 h v0 v1 v3 v4 = some (r, hz) → mh_hole h.1 o → gx_G p l e R s m args below meth c D h0 hz 9 (gx_MQ below args s D h0 hz (some (.int (b2i r)))) 23 [(0, (va_rf v0)), (1, (va_rf v1)), (2, (va_rf (some o))), (3, (va_rf v3)), (4, (.int v4))] [] (mh h.1 o h.2)) {h : (HX × MS)} {v0 : Option Nat} {v1 : Option Nat} {v3 : Option Nat} {v4 : Int32} {s0 : Int64} {s1 : Int64} (hf : f_L_law_b1058 D o k23 h v0 v1 v3 v4 s0 s1 = some (r, hz)) (hH : mh_hole h.1 o) : gx_G p l e R s m args below meth c D h0 hz 9 (gx_MQ below args s D h0 hz (some (.int (b2i r)))) 1058 [(0, (va_rf v0)), (1, (va_rf v1)), (2, (va_rf (some o))), (3, (va_rf v3)), (4, (.int v4))] [(.long s0), (.long s1)] (mh h.1 o h.2) := by
  unfold f_L_law_b1058 at hf
  refine gx_lcmp C dL_law_1058 ?_
  replace hf := gx_ite hf
  rcases hf with ⟨c321, hf⟩ | ⟨c321, hf⟩
  · refine gx_if_eq_t (tgt := 1064) C dL_law_1059 rfl c321 ?_
    refine gx_sub [0, 1, 2, 3, 4] rfl ?_
    exact w_L_law_b1064 hlt C hx wk23 hf hH
  · refine gx_if_eq_f (tgt := 1064) C dL_law_1059 rfl c321 ?_
    refine gx_iconst (v := 0) C dL_law_1062 rfl ?_
    obtain ⟨rfl, rfl⟩ := Prod.mk.inj (Option.some.inj hf)
    exact gx_zret (b := false) C dL_law_1063
theorem le_L_law_b1058 {D : gx_D} {o : Nat} {r : Bool} {hz : HX} {k23 : (HX × MS) → Option Nat → Option Nat → Option Nat → Int32 → Option ((Bool) × HX)} (lek23 : ∀ ⦃h : (HX × MS)⦄ ⦃v0 : Option Nat⦄ ⦃v1 : Option Nat⦄ ⦃v3 : Option Nat⦄ ⦃v4 : Int32⦄, k23 h v0 v1 v3 v4 = some (r, hz) → mh_hole h.1 o → gx_le (mh h.1 o h.2) hz) {h : (HX × MS)} {v0 : Option Nat} {v1 : Option Nat} {v3 : Option Nat} {v4 : Int32} {s0 : Int64} {s1 : Int64} (hf : f_L_law_b1058 D o k23 h v0 v1 v3 v4 s0 s1 = some (r, hz)) (hH : mh_hole h.1 o) : gx_le (mh h.1 o h.2) hz := by
  unfold f_L_law_b1058 at hf
  replace hf := gx_ite hf
  rcases hf with ⟨c321, hf⟩ | ⟨c321, hf⟩
  · exact le_L_law_b1064 lek23 hf hH
  · obtain ⟨rfl, rfl⟩ := Prod.mk.inj (Option.some.inj hf)
    exact gx_le.rf
def f_L_law_b1127 (D : gx_D) (o : Nat) (k23 : (HX × MS) → Option Nat → Option Nat → Option Nat → Int32 → Option ((Bool) × HX)) (h : (HX × MS)) (v0 : Option Nat) (v1 : Option Nat) (v3 : Option Nat) (v4 : Int32) : Option ((Bool) × HX) :=
  f_L_law_b2499 D o k23 (h.1, h.2) v0 v1 v3 v4
theorem w_L_law_b1127 {l : Launch} (hlt : l.stackTraces = false) {p : Program} {e : Env} {R : Room} {s : State} {m : MethodId} {args : Array Value} {below : List Frame} {meth : Method} {c : Code} {D : gx_D} {h0 : HX} {r : Bool} {hz : HX} (C : gx_Ctx p R s m args meth c "ContractMachineLaw" cL_law 9 (some .boolean) 17 396 D h0 hz) (hx : meth.name = "law") {o : Nat}  {k23 : (HX × MS) → Option Nat → Option Nat → Option Nat → Int32 → Option ((Bool) × HX)} (wk23 : ∀ ⦃h : (HX × MS)⦄ ⦃v0 : Option Nat⦄ ⦃v1 : Option Nat⦄ ⦃v3 : Option Nat⦄ ⦃v4 : Int32⦄, k23 h v0 v1 v3 v4 = some (r, hz) → mh_hole h.1 o → gx_G p l e R s m args below meth c D h0 hz 9 (gx_MQ below args s D h0 hz (some (.int (b2i r)))) 23 [(0, (va_rf v0)), (1, (va_rf v1)), (2, (va_rf (some o))), (3, (va_rf v3)), (4, (.int v4))] [] (mh h.1 o h.2)) {h : (HX × MS)} {v0 : Option Nat} {v1 : Option Nat} {v3 : Option Nat} {v4 : Int32} (hf : f_L_law_b1127 D o k23 h v0 v1 v3 v4 = some (r, hz)) (hH : mh_hole h.1 o) : gx_G p l e R s m args below meth c D h0 hz 9 (gx_MQ below args s D h0 hz (some (.int (b2i r)))) 1127 [(0, (va_rf v0)), (1, (va_rf v1)), (2, (va_rf (some o))), (3, (va_rf v3)), (4, (.int v4))] [] (mh h.1 o h.2) := by
  unfold f_L_law_b1127 at hf
  refine gx_goto (tgt := 2499) C dL_law_1127 rfl ?_
  refine gx_sub [0, 1, 2, 3, 4] rfl ?_
  exact w_L_law_b2499 hlt C hx wk23 hf hH
theorem le_L_law_b1127 {D : gx_D} {o : Nat} {r : Bool} {hz : HX} {k23 : (HX × MS) → Option Nat → Option Nat → Option Nat → Int32 → Option ((Bool) × HX)} (lek23 : ∀ ⦃h : (HX × MS)⦄ ⦃v0 : Option Nat⦄ ⦃v1 : Option Nat⦄ ⦃v3 : Option Nat⦄ ⦃v4 : Int32⦄, k23 h v0 v1 v3 v4 = some (r, hz) → mh_hole h.1 o → gx_le (mh h.1 o h.2) hz) {h : (HX × MS)} {v0 : Option Nat} {v1 : Option Nat} {v3 : Option Nat} {v4 : Int32} (hf : f_L_law_b1127 D o k23 h v0 v1 v3 v4 = some (r, hz)) (hH : mh_hole h.1 o) : gx_le (mh h.1 o h.2) hz := by
  unfold f_L_law_b1127 at hf
  exact le_L_law_b2499 lek23 hf hH
def f_L_law_b1121 (D : gx_D) (o : Nat) (k23 : (HX × MS) → Option Nat → Option Nat → Option Nat → Int32 → Option ((Bool) × HX)) (h : (HX × MS)) (v0 : Option Nat) (v1 : Option Nat) (v3 : Option Nat) (v4 : Int32) (s0 : Int64) (s1 : Int64) : Option ((Bool) × HX) :=
  if (lg_cmp s1 s0) = 0 then
  f_L_law_b1127 D o k23 (h.1, h.2) v0 v1 v3 v4
  else
  some (false, (mh h.1 o h.2))
theorem w_L_law_b1121 {l : Launch} (hlt : l.stackTraces = false) {p : Program} {e : Env} {R : Room} {s : State} {m : MethodId} {args : Array Value} {below : List Frame} {meth : Method} {c : Code} {D : gx_D} {h0 : HX} {r : Bool} {hz : HX} (C : gx_Ctx p R s m args meth c "ContractMachineLaw" cL_law 9 (some .boolean) 17 396 D h0 hz) (hx : meth.name = "law") {o : Nat}  {k23 : (HX × MS) → Option Nat → Option Nat → Option Nat → Int32 → Option ((Bool) × HX)} (wk23 : ∀ ⦃h : (HX × MS)⦄ ⦃v0 : Option Nat⦄ ⦃v1 : Option Nat⦄ ⦃v3 : Option Nat⦄ ⦃v4 : Int32⦄, k23 h v0 v1 v3 v4 = some (r, hz) → mh_hole h.1 o → gx_G p l e R s m args below meth c D h0 hz 9 (gx_MQ below args s D h0 hz (some (.int (b2i r)))) 23 [(0, (va_rf v0)), (1, (va_rf v1)), (2, (va_rf (some o))), (3, (va_rf v3)), (4, (.int v4))] [] (mh h.1 o h.2)) {h : (HX × MS)} {v0 : Option Nat} {v1 : Option Nat} {v3 : Option Nat} {v4 : Int32} {s0 : Int64} {s1 : Int64} (hf : f_L_law_b1121 D o k23 h v0 v1 v3 v4 s0 s1 = some (r, hz)) (hH : mh_hole h.1 o) : gx_G p l e R s m args below meth c D h0 hz 9 (gx_MQ below args s D h0 hz (some (.int (b2i r)))) 1121 [(0, (va_rf v0)), (1, (va_rf v1)), (2, (va_rf (some o))), (3, (va_rf v3)), (4, (.int v4))] [(.long s0), (.long s1)] (mh h.1 o h.2) := by
  unfold f_L_law_b1121 at hf
  refine gx_lcmp C dL_law_1121 ?_
  replace hf := gx_ite hf
  rcases hf with ⟨c341, hf⟩ | ⟨c341, hf⟩
  · refine gx_if_eq_t (tgt := 1127) C dL_law_1122 rfl c341 ?_
    refine gx_sub [0, 1, 2, 3, 4] rfl ?_
    exact w_L_law_b1127 hlt C hx wk23 hf hH
  · refine gx_if_eq_f (tgt := 1127) C dL_law_1122 rfl c341 ?_
    refine gx_iconst (v := 0) C dL_law_1125 rfl ?_
    obtain ⟨rfl, rfl⟩ := Prod.mk.inj (Option.some.inj hf)
    exact gx_zret (b := false) C dL_law_1126
theorem le_L_law_b1121 {D : gx_D} {o : Nat} {r : Bool} {hz : HX} {k23 : (HX × MS) → Option Nat → Option Nat → Option Nat → Int32 → Option ((Bool) × HX)} (lek23 : ∀ ⦃h : (HX × MS)⦄ ⦃v0 : Option Nat⦄ ⦃v1 : Option Nat⦄ ⦃v3 : Option Nat⦄ ⦃v4 : Int32⦄, k23 h v0 v1 v3 v4 = some (r, hz) → mh_hole h.1 o → gx_le (mh h.1 o h.2) hz) {h : (HX × MS)} {v0 : Option Nat} {v1 : Option Nat} {v3 : Option Nat} {v4 : Int32} {s0 : Int64} {s1 : Int64} (hf : f_L_law_b1121 D o k23 h v0 v1 v3 v4 s0 s1 = some (r, hz)) (hH : mh_hole h.1 o) : gx_le (mh h.1 o h.2) hz := by
  unfold f_L_law_b1121 at hf
  replace hf := gx_ite hf
  rcases hf with ⟨c341, hf⟩ | ⟨c341, hf⟩
  · exact le_L_law_b1127 lek23 hf hH
  · obtain ⟨rfl, rfl⟩ := Prod.mk.inj (Option.some.inj hf)
    exact gx_le.rf
def f_L_law_b1183 (D : gx_D) (o : Nat) (k23 : (HX × MS) → Option Nat → Option Nat → Option Nat → Int32 → Option ((Bool) × HX)) (h : (HX × MS)) (v0 : Option Nat) (v1 : Option Nat) (v3 : Option Nat) (v4 : Int32) : Option ((Bool) × HX) :=
  f_L_law_b2499 D o k23 (h.1, h.2) v0 v1 v3 v4
theorem w_L_law_b1183 {l : Launch} (hlt : l.stackTraces = false) {p : Program} {e : Env} {R : Room} {s : State} {m : MethodId} {args : Array Value} {below : List Frame} {meth : Method} {c : Code} {D : gx_D} {h0 : HX} {r : Bool} {hz : HX} (C : gx_Ctx p R s m args meth c "ContractMachineLaw" cL_law 9 (some .boolean) 17 396 D h0 hz) (hx : meth.name = "law") {o : Nat}  {k23 : (HX × MS) → Option Nat → Option Nat → Option Nat → Int32 → Option ((Bool) × HX)} (wk23 : ∀ ⦃h : (HX × MS)⦄ ⦃v0 : Option Nat⦄ ⦃v1 : Option Nat⦄ ⦃v3 : Option Nat⦄ ⦃v4 : Int32⦄, k23 h v0 v1 v3 v4 = some (r, hz) → mh_hole h.1 o → gx_G p l e R s m args below meth c D h0 hz 9 (gx_MQ below args s D h0 hz (some (.int (b2i r)))) 23 [(0, (va_rf v0)), (1, (va_rf v1)), (2, (va_rf (some o))), (3, (va_rf v3)), (4, (.int v4))] [] (mh h.1 o h.2)) {h : (HX × MS)} {v0 : Option Nat} {v1 : Option Nat} {v3 : Option Nat} {v4 : Int32} (hf : f_L_law_b1183 D o k23 h v0 v1 v3 v4 = some (r, hz)) (hH : mh_hole h.1 o) : gx_G p l e R s m args below meth c D h0 hz 9 (gx_MQ below args s D h0 hz (some (.int (b2i r)))) 1183 [(0, (va_rf v0)), (1, (va_rf v1)), (2, (va_rf (some o))), (3, (va_rf v3)), (4, (.int v4))] [] (mh h.1 o h.2) := by
  unfold f_L_law_b1183 at hf
  refine gx_goto (tgt := 2499) C dL_law_1183 rfl ?_
  refine gx_sub [0, 1, 2, 3, 4] rfl ?_
  exact w_L_law_b2499 hlt C hx wk23 hf hH
theorem le_L_law_b1183 {D : gx_D} {o : Nat} {r : Bool} {hz : HX} {k23 : (HX × MS) → Option Nat → Option Nat → Option Nat → Int32 → Option ((Bool) × HX)} (lek23 : ∀ ⦃h : (HX × MS)⦄ ⦃v0 : Option Nat⦄ ⦃v1 : Option Nat⦄ ⦃v3 : Option Nat⦄ ⦃v4 : Int32⦄, k23 h v0 v1 v3 v4 = some (r, hz) → mh_hole h.1 o → gx_le (mh h.1 o h.2) hz) {h : (HX × MS)} {v0 : Option Nat} {v1 : Option Nat} {v3 : Option Nat} {v4 : Int32} (hf : f_L_law_b1183 D o k23 h v0 v1 v3 v4 = some (r, hz)) (hH : mh_hole h.1 o) : gx_le (mh h.1 o h.2) hz := by
  unfold f_L_law_b1183 at hf
  exact le_L_law_b2499 lek23 hf hH
def f_L_law_b1246 (D : gx_D) (o : Nat) (k23 : (HX × MS) → Option Nat → Option Nat → Option Nat → Int32 → Option ((Bool) × HX)) (h : (HX × MS)) (v0 : Option Nat) (v1 : Option Nat) (v3 : Option Nat) (v4 : Int32) : Option ((Bool) × HX) :=
  f_L_law_b2499 D o k23 (h.1, h.2) v0 v1 v3 v4
theorem w_L_law_b1246 {l : Launch} (hlt : l.stackTraces = false) {p : Program} {e : Env} {R : Room} {s : State} {m : MethodId} {args : Array Value} {below : List Frame} {meth : Method} {c : Code} {D : gx_D} {h0 : HX} {r : Bool} {hz : HX} (C : gx_Ctx p R s m args meth c "ContractMachineLaw" cL_law 9 (some .boolean) 17 396 D h0 hz) (hx : meth.name = "law") {o : Nat}  {k23 : (HX × MS) → Option Nat → Option Nat → Option Nat → Int32 → Option ((Bool) × HX)} (wk23 : ∀ ⦃h : (HX × MS)⦄ ⦃v0 : Option Nat⦄ ⦃v1 : Option Nat⦄ ⦃v3 : Option Nat⦄ ⦃v4 : Int32⦄, k23 h v0 v1 v3 v4 = some (r, hz) → mh_hole h.1 o → gx_G p l e R s m args below meth c D h0 hz 9 (gx_MQ below args s D h0 hz (some (.int (b2i r)))) 23 [(0, (va_rf v0)), (1, (va_rf v1)), (2, (va_rf (some o))), (3, (va_rf v3)), (4, (.int v4))] [] (mh h.1 o h.2)) {h : (HX × MS)} {v0 : Option Nat} {v1 : Option Nat} {v3 : Option Nat} {v4 : Int32} (hf : f_L_law_b1246 D o k23 h v0 v1 v3 v4 = some (r, hz)) (hH : mh_hole h.1 o) : gx_G p l e R s m args below meth c D h0 hz 9 (gx_MQ below args s D h0 hz (some (.int (b2i r)))) 1246 [(0, (va_rf v0)), (1, (va_rf v1)), (2, (va_rf (some o))), (3, (va_rf v3)), (4, (.int v4))] [] (mh h.1 o h.2) := by
  unfold f_L_law_b1246 at hf
  refine gx_goto (tgt := 2499) C dL_law_1246 rfl ?_
  refine gx_sub [0, 1, 2, 3, 4] rfl ?_
  exact w_L_law_b2499 hlt C hx wk23 hf hH
theorem le_L_law_b1246 {D : gx_D} {o : Nat} {r : Bool} {hz : HX} {k23 : (HX × MS) → Option Nat → Option Nat → Option Nat → Int32 → Option ((Bool) × HX)} (lek23 : ∀ ⦃h : (HX × MS)⦄ ⦃v0 : Option Nat⦄ ⦃v1 : Option Nat⦄ ⦃v3 : Option Nat⦄ ⦃v4 : Int32⦄, k23 h v0 v1 v3 v4 = some (r, hz) → mh_hole h.1 o → gx_le (mh h.1 o h.2) hz) {h : (HX × MS)} {v0 : Option Nat} {v1 : Option Nat} {v3 : Option Nat} {v4 : Int32} (hf : f_L_law_b1246 D o k23 h v0 v1 v3 v4 = some (r, hz)) (hH : mh_hole h.1 o) : gx_le (mh h.1 o h.2) hz := by
  unfold f_L_law_b1246 at hf
  exact le_L_law_b2499 lek23 hf hH
def f_L_law_b1240 (D : gx_D) (o : Nat) (k23 : (HX × MS) → Option Nat → Option Nat → Option Nat → Int32 → Option ((Bool) × HX)) (h : (HX × MS)) (v0 : Option Nat) (v1 : Option Nat) (v3 : Option Nat) (v4 : Int32) (s0 : Int64) (s1 : Int64) : Option ((Bool) × HX) :=
  if (lg_cmp s1 s0) = 0 then
  f_L_law_b1246 D o k23 (h.1, h.2) v0 v1 v3 v4
  else
  some (false, (mh h.1 o h.2))
theorem w_L_law_b1240 {l : Launch} (hlt : l.stackTraces = false) {p : Program} {e : Env} {R : Room} {s : State} {m : MethodId} {args : Array Value} {below : List Frame} {meth : Method} {c : Code} {D : gx_D} {h0 : HX} {r : Bool} {hz : HX} (C : gx_Ctx p R s m args meth c "ContractMachineLaw" cL_law 9 (some .boolean) 17 396 D h0 hz) (hx : meth.name = "law") {o : Nat}  {k23 : (HX × MS) → Option Nat → Option Nat → Option Nat → Int32 → Option ((Bool) × HX)} (wk23 : ∀ ⦃h : (HX × MS)⦄ ⦃v0 : Option Nat⦄ ⦃v1 : Option Nat⦄ ⦃v3 : Option Nat⦄ ⦃v4 : Int32⦄, k23 h v0 v1 v3 v4 = some (r, hz) → mh_hole h.1 o → gx_G p l e R s m args below meth c D h0 hz 9 (gx_MQ below args s D h0 hz (some (.int (b2i r)))) 23 [(0, (va_rf v0)), (1, (va_rf v1)), (2, (va_rf (some o))), (3, (va_rf v3)), (4, (.int v4))] [] (mh h.1 o h.2)) {h : (HX × MS)} {v0 : Option Nat} {v1 : Option Nat} {v3 : Option Nat} {v4 : Int32} {s0 : Int64} {s1 : Int64} (hf : f_L_law_b1240 D o k23 h v0 v1 v3 v4 s0 s1 = some (r, hz)) (hH : mh_hole h.1 o) : gx_G p l e R s m args below meth c D h0 hz 9 (gx_MQ below args s D h0 hz (some (.int (b2i r)))) 1240 [(0, (va_rf v0)), (1, (va_rf v1)), (2, (va_rf (some o))), (3, (va_rf v3)), (4, (.int v4))] [(.long s0), (.long s1)] (mh h.1 o h.2) := by
  unfold f_L_law_b1240 at hf
  refine gx_lcmp C dL_law_1240 ?_
  replace hf := gx_ite hf
  rcases hf with ⟨c380, hf⟩ | ⟨c380, hf⟩
  · refine gx_if_eq_t (tgt := 1246) C dL_law_1241 rfl c380 ?_
    refine gx_sub [0, 1, 2, 3, 4] rfl ?_
    exact w_L_law_b1246 hlt C hx wk23 hf hH
  · refine gx_if_eq_f (tgt := 1246) C dL_law_1241 rfl c380 ?_
    refine gx_iconst (v := 0) C dL_law_1244 rfl ?_
    obtain ⟨rfl, rfl⟩ := Prod.mk.inj (Option.some.inj hf)
    exact gx_zret (b := false) C dL_law_1245
theorem le_L_law_b1240 {D : gx_D} {o : Nat} {r : Bool} {hz : HX} {k23 : (HX × MS) → Option Nat → Option Nat → Option Nat → Int32 → Option ((Bool) × HX)} (lek23 : ∀ ⦃h : (HX × MS)⦄ ⦃v0 : Option Nat⦄ ⦃v1 : Option Nat⦄ ⦃v3 : Option Nat⦄ ⦃v4 : Int32⦄, k23 h v0 v1 v3 v4 = some (r, hz) → mh_hole h.1 o → gx_le (mh h.1 o h.2) hz) {h : (HX × MS)} {v0 : Option Nat} {v1 : Option Nat} {v3 : Option Nat} {v4 : Int32} {s0 : Int64} {s1 : Int64} (hf : f_L_law_b1240 D o k23 h v0 v1 v3 v4 s0 s1 = some (r, hz)) (hH : mh_hole h.1 o) : gx_le (mh h.1 o h.2) hz := by
  unfold f_L_law_b1240 at hf
  replace hf := gx_ite hf
  rcases hf with ⟨c380, hf⟩ | ⟨c380, hf⟩
  · exact le_L_law_b1246 lek23 hf hH
  · obtain ⟨rfl, rfl⟩ := Prod.mk.inj (Option.some.inj hf)
    exact gx_le.rf
def f_L_law_b1302 (D : gx_D) (o : Nat) (k23 : (HX × MS) → Option Nat → Option Nat → Option Nat → Int32 → Option ((Bool) × HX)) (h : (HX × MS)) (v0 : Option Nat) (v1 : Option Nat) (v3 : Option Nat) (v4 : Int32) : Option ((Bool) × HX) :=
  f_L_law_b2499 D o k23 (h.1, h.2) v0 v1 v3 v4
theorem w_L_law_b1302 {l : Launch} (hlt : l.stackTraces = false) {p : Program} {e : Env} {R : Room} {s : State} {m : MethodId} {args : Array Value} {below : List Frame} {meth : Method} {c : Code} {D : gx_D} {h0 : HX} {r : Bool} {hz : HX} (C : gx_Ctx p R s m args meth c "ContractMachineLaw" cL_law 9 (some .boolean) 17 396 D h0 hz) (hx : meth.name = "law") {o : Nat}  {k23 : (HX × MS) → Option Nat → Option Nat → Option Nat → Int32 → Option ((Bool) × HX)} (wk23 : ∀ ⦃h : (HX × MS)⦄ ⦃v0 : Option Nat⦄ ⦃v1 : Option Nat⦄ ⦃v3 : Option Nat⦄ ⦃v4 : Int32⦄, k23 h v0 v1 v3 v4 = some (r, hz) → mh_hole h.1 o → gx_G p l e R s m args below meth c D h0 hz 9 (gx_MQ below args s D h0 hz (some (.int (b2i r)))) 23 [(0, (va_rf v0)), (1, (va_rf v1)), (2, (va_rf (some o))), (3, (va_rf v3)), (4, (.int v4))] [] (mh h.1 o h.2)) {h : (HX × MS)} {v0 : Option Nat} {v1 : Option Nat} {v3 : Option Nat} {v4 : Int32} (hf : f_L_law_b1302 D o k23 h v0 v1 v3 v4 = some (r, hz)) (hH : mh_hole h.1 o) : gx_G p l e R s m args below meth c D h0 hz 9 (gx_MQ below args s D h0 hz (some (.int (b2i r)))) 1302 [(0, (va_rf v0)), (1, (va_rf v1)), (2, (va_rf (some o))), (3, (va_rf v3)), (4, (.int v4))] [] (mh h.1 o h.2) := by
  unfold f_L_law_b1302 at hf
  refine gx_goto (tgt := 2499) C dL_law_1302 rfl ?_
  refine gx_sub [0, 1, 2, 3, 4] rfl ?_
  exact w_L_law_b2499 hlt C hx wk23 hf hH
theorem le_L_law_b1302 {D : gx_D} {o : Nat} {r : Bool} {hz : HX} {k23 : (HX × MS) → Option Nat → Option Nat → Option Nat → Int32 → Option ((Bool) × HX)} (lek23 : ∀ ⦃h : (HX × MS)⦄ ⦃v0 : Option Nat⦄ ⦃v1 : Option Nat⦄ ⦃v3 : Option Nat⦄ ⦃v4 : Int32⦄, k23 h v0 v1 v3 v4 = some (r, hz) → mh_hole h.1 o → gx_le (mh h.1 o h.2) hz) {h : (HX × MS)} {v0 : Option Nat} {v1 : Option Nat} {v3 : Option Nat} {v4 : Int32} (hf : f_L_law_b1302 D o k23 h v0 v1 v3 v4 = some (r, hz)) (hH : mh_hole h.1 o) : gx_le (mh h.1 o h.2) hz := by
  unfold f_L_law_b1302 at hf
  exact le_L_law_b2499 lek23 hf hH
def f_L_law_b1358 (D : gx_D) (o : Nat) (k23 : (HX × MS) → Option Nat → Option Nat → Option Nat → Int32 → Option ((Bool) × HX)) (h : (HX × MS)) (v0 : Option Nat) (v1 : Option Nat) (v3 : Option Nat) (v4 : Int32) : Option ((Bool) × HX) :=
  f_L_law_b2499 D o k23 (h.1, h.2) v0 v1 v3 v4
theorem w_L_law_b1358 {l : Launch} (hlt : l.stackTraces = false) {p : Program} {e : Env} {R : Room} {s : State} {m : MethodId} {args : Array Value} {below : List Frame} {meth : Method} {c : Code} {D : gx_D} {h0 : HX} {r : Bool} {hz : HX} (C : gx_Ctx p R s m args meth c "ContractMachineLaw" cL_law 9 (some .boolean) 17 396 D h0 hz) (hx : meth.name = "law") {o : Nat}  {k23 : (HX × MS) → Option Nat → Option Nat → Option Nat → Int32 → Option ((Bool) × HX)} (wk23 : ∀ ⦃h : (HX × MS)⦄ ⦃v0 : Option Nat⦄ ⦃v1 : Option Nat⦄ ⦃v3 : Option Nat⦄ ⦃v4 : Int32⦄, k23 h v0 v1 v3 v4 = some (r, hz) → mh_hole h.1 o → gx_G p l e R s m args below meth c D h0 hz 9 (gx_MQ below args s D h0 hz (some (.int (b2i r)))) 23 [(0, (va_rf v0)), (1, (va_rf v1)), (2, (va_rf (some o))), (3, (va_rf v3)), (4, (.int v4))] [] (mh h.1 o h.2)) {h : (HX × MS)} {v0 : Option Nat} {v1 : Option Nat} {v3 : Option Nat} {v4 : Int32} (hf : f_L_law_b1358 D o k23 h v0 v1 v3 v4 = some (r, hz)) (hH : mh_hole h.1 o) : gx_G p l e R s m args below meth c D h0 hz 9 (gx_MQ below args s D h0 hz (some (.int (b2i r)))) 1358 [(0, (va_rf v0)), (1, (va_rf v1)), (2, (va_rf (some o))), (3, (va_rf v3)), (4, (.int v4))] [] (mh h.1 o h.2) := by
  unfold f_L_law_b1358 at hf
  refine gx_goto (tgt := 2499) C dL_law_1358 rfl ?_
  refine gx_sub [0, 1, 2, 3, 4] rfl ?_
  exact w_L_law_b2499 hlt C hx wk23 hf hH
theorem le_L_law_b1358 {D : gx_D} {o : Nat} {r : Bool} {hz : HX} {k23 : (HX × MS) → Option Nat → Option Nat → Option Nat → Int32 → Option ((Bool) × HX)} (lek23 : ∀ ⦃h : (HX × MS)⦄ ⦃v0 : Option Nat⦄ ⦃v1 : Option Nat⦄ ⦃v3 : Option Nat⦄ ⦃v4 : Int32⦄, k23 h v0 v1 v3 v4 = some (r, hz) → mh_hole h.1 o → gx_le (mh h.1 o h.2) hz) {h : (HX × MS)} {v0 : Option Nat} {v1 : Option Nat} {v3 : Option Nat} {v4 : Int32} (hf : f_L_law_b1358 D o k23 h v0 v1 v3 v4 = some (r, hz)) (hH : mh_hole h.1 o) : gx_le (mh h.1 o h.2) hz := by
  unfold f_L_law_b1358 at hf
  exact le_L_law_b2499 lek23 hf hH
def f_L_law_b1414 (D : gx_D) (o : Nat) (k23 : (HX × MS) → Option Nat → Option Nat → Option Nat → Int32 → Option ((Bool) × HX)) (h : (HX × MS)) (v0 : Option Nat) (v1 : Option Nat) (v3 : Option Nat) (v4 : Int32) : Option ((Bool) × HX) :=
  f_L_law_b2499 D o k23 (h.1, h.2) v0 v1 v3 v4
theorem w_L_law_b1414 {l : Launch} (hlt : l.stackTraces = false) {p : Program} {e : Env} {R : Room} {s : State} {m : MethodId} {args : Array Value} {below : List Frame} {meth : Method} {c : Code} {D : gx_D} {h0 : HX} {r : Bool} {hz : HX} (C : gx_Ctx p R s m args meth c "ContractMachineLaw" cL_law 9 (some .boolean) 17 396 D h0 hz) (hx : meth.name = "law") {o : Nat}  {k23 : (HX × MS) → Option Nat → Option Nat → Option Nat → Int32 → Option ((Bool) × HX)} (wk23 : ∀ ⦃h : (HX × MS)⦄ ⦃v0 : Option Nat⦄ ⦃v1 : Option Nat⦄ ⦃v3 : Option Nat⦄ ⦃v4 : Int32⦄, k23 h v0 v1 v3 v4 = some (r, hz) → mh_hole h.1 o → gx_G p l e R s m args below meth c D h0 hz 9 (gx_MQ below args s D h0 hz (some (.int (b2i r)))) 23 [(0, (va_rf v0)), (1, (va_rf v1)), (2, (va_rf (some o))), (3, (va_rf v3)), (4, (.int v4))] [] (mh h.1 o h.2)) {h : (HX × MS)} {v0 : Option Nat} {v1 : Option Nat} {v3 : Option Nat} {v4 : Int32} (hf : f_L_law_b1414 D o k23 h v0 v1 v3 v4 = some (r, hz)) (hH : mh_hole h.1 o) : gx_G p l e R s m args below meth c D h0 hz 9 (gx_MQ below args s D h0 hz (some (.int (b2i r)))) 1414 [(0, (va_rf v0)), (1, (va_rf v1)), (2, (va_rf (some o))), (3, (va_rf v3)), (4, (.int v4))] [] (mh h.1 o h.2) := by
  unfold f_L_law_b1414 at hf
  refine gx_goto (tgt := 2499) C dL_law_1414 rfl ?_
  refine gx_sub [0, 1, 2, 3, 4] rfl ?_
  exact w_L_law_b2499 hlt C hx wk23 hf hH
theorem le_L_law_b1414 {D : gx_D} {o : Nat} {r : Bool} {hz : HX} {k23 : (HX × MS) → Option Nat → Option Nat → Option Nat → Int32 → Option ((Bool) × HX)} (lek23 : ∀ ⦃h : (HX × MS)⦄ ⦃v0 : Option Nat⦄ ⦃v1 : Option Nat⦄ ⦃v3 : Option Nat⦄ ⦃v4 : Int32⦄, k23 h v0 v1 v3 v4 = some (r, hz) → mh_hole h.1 o → gx_le (mh h.1 o h.2) hz) {h : (HX × MS)} {v0 : Option Nat} {v1 : Option Nat} {v3 : Option Nat} {v4 : Int32} (hf : f_L_law_b1414 D o k23 h v0 v1 v3 v4 = some (r, hz)) (hH : mh_hole h.1 o) : gx_le (mh h.1 o h.2) hz := by
  unfold f_L_law_b1414 at hf
  exact le_L_law_b2499 lek23 hf hH
def f_L_law_b1483 (D : gx_D) (o : Nat) (k23 : (HX × MS) → Option Nat → Option Nat → Option Nat → Int32 → Option ((Bool) × HX)) (h : (HX × MS)) (v0 : Option Nat) (v1 : Option Nat) (v3 : Option Nat) (v4 : Int32) : Option ((Bool) × HX) :=
  f_L_law_b2499 D o k23 (h.1, h.2) v0 v1 v3 v4
theorem w_L_law_b1483 {l : Launch} (hlt : l.stackTraces = false) {p : Program} {e : Env} {R : Room} {s : State} {m : MethodId} {args : Array Value} {below : List Frame} {meth : Method} {c : Code} {D : gx_D} {h0 : HX} {r : Bool} {hz : HX} (C : gx_Ctx p R s m args meth c "ContractMachineLaw" cL_law 9 (some .boolean) 17 396 D h0 hz) (hx : meth.name = "law") {o : Nat}  {k23 : (HX × MS) → Option Nat → Option Nat → Option Nat → Int32 → Option ((Bool) × HX)} (wk23 : ∀ ⦃h : (HX × MS)⦄ ⦃v0 : Option Nat⦄ ⦃v1 : Option Nat⦄ ⦃v3 : Option Nat⦄ ⦃v4 : Int32⦄, k23 h v0 v1 v3 v4 = some (r, hz) → mh_hole h.1 o → gx_G p l e R s m args below meth c D h0 hz 9 (gx_MQ below args s D h0 hz (some (.int (b2i r)))) 23 [(0, (va_rf v0)), (1, (va_rf v1)), (2, (va_rf (some o))), (3, (va_rf v3)), (4, (.int v4))] [] (mh h.1 o h.2)) {h : (HX × MS)} {v0 : Option Nat} {v1 : Option Nat} {v3 : Option Nat} {v4 : Int32} (hf : f_L_law_b1483 D o k23 h v0 v1 v3 v4 = some (r, hz)) (hH : mh_hole h.1 o) : gx_G p l e R s m args below meth c D h0 hz 9 (gx_MQ below args s D h0 hz (some (.int (b2i r)))) 1483 [(0, (va_rf v0)), (1, (va_rf v1)), (2, (va_rf (some o))), (3, (va_rf v3)), (4, (.int v4))] [] (mh h.1 o h.2) := by
  unfold f_L_law_b1483 at hf
  refine gx_goto (tgt := 2499) C dL_law_1483 rfl ?_
  refine gx_sub [0, 1, 2, 3, 4] rfl ?_
  exact w_L_law_b2499 hlt C hx wk23 hf hH
theorem le_L_law_b1483 {D : gx_D} {o : Nat} {r : Bool} {hz : HX} {k23 : (HX × MS) → Option Nat → Option Nat → Option Nat → Int32 → Option ((Bool) × HX)} (lek23 : ∀ ⦃h : (HX × MS)⦄ ⦃v0 : Option Nat⦄ ⦃v1 : Option Nat⦄ ⦃v3 : Option Nat⦄ ⦃v4 : Int32⦄, k23 h v0 v1 v3 v4 = some (r, hz) → mh_hole h.1 o → gx_le (mh h.1 o h.2) hz) {h : (HX × MS)} {v0 : Option Nat} {v1 : Option Nat} {v3 : Option Nat} {v4 : Int32} (hf : f_L_law_b1483 D o k23 h v0 v1 v3 v4 = some (r, hz)) (hH : mh_hole h.1 o) : gx_le (mh h.1 o h.2) hz := by
  unfold f_L_law_b1483 at hf
  exact le_L_law_b2499 lek23 hf hH
def f_L_law_b1539 (D : gx_D) (o : Nat) (k23 : (HX × MS) → Option Nat → Option Nat → Option Nat → Int32 → Option ((Bool) × HX)) (h : (HX × MS)) (v0 : Option Nat) (v1 : Option Nat) (v3 : Option Nat) (v4 : Int32) : Option ((Bool) × HX) :=
  f_L_law_b2499 D o k23 (h.1, h.2) v0 v1 v3 v4
theorem w_L_law_b1539 {l : Launch} (hlt : l.stackTraces = false) {p : Program} {e : Env} {R : Room} {s : State} {m : MethodId} {args : Array Value} {below : List Frame} {meth : Method} {c : Code} {D : gx_D} {h0 : HX} {r : Bool} {hz : HX} (C : gx_Ctx p R s m args meth c "ContractMachineLaw" cL_law 9 (some .boolean) 17 396 D h0 hz) (hx : meth.name = "law") {o : Nat}  {k23 : (HX × MS) → Option Nat → Option Nat → Option Nat → Int32 → Option ((Bool) × HX)} (wk23 : ∀ ⦃h : (HX × MS)⦄ ⦃v0 : Option Nat⦄ ⦃v1 : Option Nat⦄ ⦃v3 : Option Nat⦄ ⦃v4 : Int32⦄, k23 h v0 v1 v3 v4 = some (r, hz) → mh_hole h.1 o → gx_G p l e R s m args below meth c D h0 hz 9 (gx_MQ below args s D h0 hz (some (.int (b2i r)))) 23 [(0, (va_rf v0)), (1, (va_rf v1)), (2, (va_rf (some o))), (3, (va_rf v3)), (4, (.int v4))] [] (mh h.1 o h.2)) {h : (HX × MS)} {v0 : Option Nat} {v1 : Option Nat} {v3 : Option Nat} {v4 : Int32} (hf : f_L_law_b1539 D o k23 h v0 v1 v3 v4 = some (r, hz)) (hH : mh_hole h.1 o) : gx_G p l e R s m args below meth c D h0 hz 9 (gx_MQ below args s D h0 hz (some (.int (b2i r)))) 1539 [(0, (va_rf v0)), (1, (va_rf v1)), (2, (va_rf (some o))), (3, (va_rf v3)), (4, (.int v4))] [] (mh h.1 o h.2) := by
  unfold f_L_law_b1539 at hf
  refine gx_goto (tgt := 2499) C dL_law_1539 rfl ?_
  refine gx_sub [0, 1, 2, 3, 4] rfl ?_
  exact w_L_law_b2499 hlt C hx wk23 hf hH
theorem le_L_law_b1539 {D : gx_D} {o : Nat} {r : Bool} {hz : HX} {k23 : (HX × MS) → Option Nat → Option Nat → Option Nat → Int32 → Option ((Bool) × HX)} (lek23 : ∀ ⦃h : (HX × MS)⦄ ⦃v0 : Option Nat⦄ ⦃v1 : Option Nat⦄ ⦃v3 : Option Nat⦄ ⦃v4 : Int32⦄, k23 h v0 v1 v3 v4 = some (r, hz) → mh_hole h.1 o → gx_le (mh h.1 o h.2) hz) {h : (HX × MS)} {v0 : Option Nat} {v1 : Option Nat} {v3 : Option Nat} {v4 : Int32} (hf : f_L_law_b1539 D o k23 h v0 v1 v3 v4 = some (r, hz)) (hH : mh_hole h.1 o) : gx_le (mh h.1 o h.2) hz := by
  unfold f_L_law_b1539 at hf
  exact le_L_law_b2499 lek23 hf hH
def f_L_law_b1621 (D : gx_D) (o : Nat) (k23 : (HX × MS) → Option Nat → Option Nat → Option Nat → Int32 → Option ((Bool) × HX)) (h : (HX × MS)) (v0 : Option Nat) (v1 : Option Nat) (v3 : Option Nat) (v4 : Int32) : Option ((Bool) × HX) :=
  f_L_law_b2499 D o k23 (h.1, h.2) v0 v1 v3 v4
theorem w_L_law_b1621 {l : Launch} (hlt : l.stackTraces = false) {p : Program} {e : Env} {R : Room} {s : State} {m : MethodId} {args : Array Value} {below : List Frame} {meth : Method} {c : Code} {D : gx_D} {h0 : HX} {r : Bool} {hz : HX} (C : gx_Ctx p R s m args meth c "ContractMachineLaw" cL_law 9 (some .boolean) 17 396 D h0 hz) (hx : meth.name = "law") {o : Nat}  {k23 : (HX × MS) → Option Nat → Option Nat → Option Nat → Int32 → Option ((Bool) × HX)} (wk23 : ∀ ⦃h : (HX × MS)⦄ ⦃v0 : Option Nat⦄ ⦃v1 : Option Nat⦄ ⦃v3 : Option Nat⦄ ⦃v4 : Int32⦄, k23 h v0 v1 v3 v4 = some (r, hz) → mh_hole h.1 o → gx_G p l e R s m args below meth c D h0 hz 9 (gx_MQ below args s D h0 hz (some (.int (b2i r)))) 23 [(0, (va_rf v0)), (1, (va_rf v1)), (2, (va_rf (some o))), (3, (va_rf v3)), (4, (.int v4))] [] (mh h.1 o h.2)) {h : (HX × MS)} {v0 : Option Nat} {v1 : Option Nat} {v3 : Option Nat} {v4 : Int32} (hf : f_L_law_b1621 D o k23 h v0 v1 v3 v4 = some (r, hz)) (hH : mh_hole h.1 o) : gx_G p l e R s m args below meth c D h0 hz 9 (gx_MQ below args s D h0 hz (some (.int (b2i r)))) 1621 [(0, (va_rf v0)), (1, (va_rf v1)), (2, (va_rf (some o))), (3, (va_rf v3)), (4, (.int v4))] [] (mh h.1 o h.2) := by
  unfold f_L_law_b1621 at hf
  refine gx_goto (tgt := 2499) C dL_law_1621 rfl ?_
  refine gx_sub [0, 1, 2, 3, 4] rfl ?_
  exact w_L_law_b2499 hlt C hx wk23 hf hH
theorem le_L_law_b1621 {D : gx_D} {o : Nat} {r : Bool} {hz : HX} {k23 : (HX × MS) → Option Nat → Option Nat → Option Nat → Int32 → Option ((Bool) × HX)} (lek23 : ∀ ⦃h : (HX × MS)⦄ ⦃v0 : Option Nat⦄ ⦃v1 : Option Nat⦄ ⦃v3 : Option Nat⦄ ⦃v4 : Int32⦄, k23 h v0 v1 v3 v4 = some (r, hz) → mh_hole h.1 o → gx_le (mh h.1 o h.2) hz) {h : (HX × MS)} {v0 : Option Nat} {v1 : Option Nat} {v3 : Option Nat} {v4 : Int32} (hf : f_L_law_b1621 D o k23 h v0 v1 v3 v4 = some (r, hz)) (hH : mh_hole h.1 o) : gx_le (mh h.1 o h.2) hz := by
  unfold f_L_law_b1621 at hf
  exact le_L_law_b2499 lek23 hf hH
def f_L_law_b1664 (D : gx_D) (o : Nat) (k23 : (HX × MS) → Option Nat → Option Nat → Option Nat → Int32 → Option ((Bool) × HX)) (h : (HX × MS)) (v0 : Option Nat) (v1 : Option Nat) (v3 : Option Nat) (v4 : Int32) : Option ((Bool) × HX) :=
  f_L_law_b2499 D o k23 (h.1, h.2) v0 v1 v3 v4
theorem w_L_law_b1664 {l : Launch} (hlt : l.stackTraces = false) {p : Program} {e : Env} {R : Room} {s : State} {m : MethodId} {args : Array Value} {below : List Frame} {meth : Method} {c : Code} {D : gx_D} {h0 : HX} {r : Bool} {hz : HX} (C : gx_Ctx p R s m args meth c "ContractMachineLaw" cL_law 9 (some .boolean) 17 396 D h0 hz) (hx : meth.name = "law") {o : Nat}  {k23 : (HX × MS) → Option Nat → Option Nat → Option Nat → Int32 → Option ((Bool) × HX)} (wk23 : ∀ ⦃h : (HX × MS)⦄ ⦃v0 : Option Nat⦄ ⦃v1 : Option Nat⦄ ⦃v3 : Option Nat⦄ ⦃v4 : Int32⦄, k23 h v0 v1 v3 v4 = some (r, hz) → mh_hole h.1 o → gx_G p l e R s m args below meth c D h0 hz 9 (gx_MQ below args s D h0 hz (some (.int (b2i r)))) 23 [(0, (va_rf v0)), (1, (va_rf v1)), (2, (va_rf (some o))), (3, (va_rf v3)), (4, (.int v4))] [] (mh h.1 o h.2)) {h : (HX × MS)} {v0 : Option Nat} {v1 : Option Nat} {v3 : Option Nat} {v4 : Int32} (hf : f_L_law_b1664 D o k23 h v0 v1 v3 v4 = some (r, hz)) (hH : mh_hole h.1 o) : gx_G p l e R s m args below meth c D h0 hz 9 (gx_MQ below args s D h0 hz (some (.int (b2i r)))) 1664 [(0, (va_rf v0)), (1, (va_rf v1)), (2, (va_rf (some o))), (3, (va_rf v3)), (4, (.int v4))] [] (mh h.1 o h.2) := by
  unfold f_L_law_b1664 at hf
  refine gx_goto (tgt := 2499) C dL_law_1664 rfl ?_
  refine gx_sub [0, 1, 2, 3, 4] rfl ?_
  exact w_L_law_b2499 hlt C hx wk23 hf hH
theorem le_L_law_b1664 {D : gx_D} {o : Nat} {r : Bool} {hz : HX} {k23 : (HX × MS) → Option Nat → Option Nat → Option Nat → Int32 → Option ((Bool) × HX)} (lek23 : ∀ ⦃h : (HX × MS)⦄ ⦃v0 : Option Nat⦄ ⦃v1 : Option Nat⦄ ⦃v3 : Option Nat⦄ ⦃v4 : Int32⦄, k23 h v0 v1 v3 v4 = some (r, hz) → mh_hole h.1 o → gx_le (mh h.1 o h.2) hz) {h : (HX × MS)} {v0 : Option Nat} {v1 : Option Nat} {v3 : Option Nat} {v4 : Int32} (hf : f_L_law_b1664 D o k23 h v0 v1 v3 v4 = some (r, hz)) (hH : mh_hole h.1 o) : gx_le (mh h.1 o h.2) hz := by
  unfold f_L_law_b1664 at hf
  exact le_L_law_b2499 lek23 hf hH
def f_L_law_b1707 (D : gx_D) (o : Nat) (k23 : (HX × MS) → Option Nat → Option Nat → Option Nat → Int32 → Option ((Bool) × HX)) (h : (HX × MS)) (v0 : Option Nat) (v1 : Option Nat) (v3 : Option Nat) (v4 : Int32) : Option ((Bool) × HX) :=
  f_L_law_b2499 D o k23 (h.1, h.2) v0 v1 v3 v4
theorem w_L_law_b1707 {l : Launch} (hlt : l.stackTraces = false) {p : Program} {e : Env} {R : Room} {s : State} {m : MethodId} {args : Array Value} {below : List Frame} {meth : Method} {c : Code} {D : gx_D} {h0 : HX} {r : Bool} {hz : HX} (C : gx_Ctx p R s m args meth c "ContractMachineLaw" cL_law 9 (some .boolean) 17 396 D h0 hz) (hx : meth.name = "law") {o : Nat}  {k23 : (HX × MS) → Option Nat → Option Nat → Option Nat → Int32 → Option ((Bool) × HX)} (wk23 : ∀ ⦃h : (HX × MS)⦄ ⦃v0 : Option Nat⦄ ⦃v1 : Option Nat⦄ ⦃v3 : Option Nat⦄ ⦃v4 : Int32⦄, k23 h v0 v1 v3 v4 = some (r, hz) → mh_hole h.1 o → gx_G p l e R s m args below meth c D h0 hz 9 (gx_MQ below args s D h0 hz (some (.int (b2i r)))) 23 [(0, (va_rf v0)), (1, (va_rf v1)), (2, (va_rf (some o))), (3, (va_rf v3)), (4, (.int v4))] [] (mh h.1 o h.2)) {h : (HX × MS)} {v0 : Option Nat} {v1 : Option Nat} {v3 : Option Nat} {v4 : Int32} (hf : f_L_law_b1707 D o k23 h v0 v1 v3 v4 = some (r, hz)) (hH : mh_hole h.1 o) : gx_G p l e R s m args below meth c D h0 hz 9 (gx_MQ below args s D h0 hz (some (.int (b2i r)))) 1707 [(0, (va_rf v0)), (1, (va_rf v1)), (2, (va_rf (some o))), (3, (va_rf v3)), (4, (.int v4))] [] (mh h.1 o h.2) := by
  unfold f_L_law_b1707 at hf
  refine gx_goto (tgt := 2499) C dL_law_1707 rfl ?_
  refine gx_sub [0, 1, 2, 3, 4] rfl ?_
  exact w_L_law_b2499 hlt C hx wk23 hf hH
theorem le_L_law_b1707 {D : gx_D} {o : Nat} {r : Bool} {hz : HX} {k23 : (HX × MS) → Option Nat → Option Nat → Option Nat → Int32 → Option ((Bool) × HX)} (lek23 : ∀ ⦃h : (HX × MS)⦄ ⦃v0 : Option Nat⦄ ⦃v1 : Option Nat⦄ ⦃v3 : Option Nat⦄ ⦃v4 : Int32⦄, k23 h v0 v1 v3 v4 = some (r, hz) → mh_hole h.1 o → gx_le (mh h.1 o h.2) hz) {h : (HX × MS)} {v0 : Option Nat} {v1 : Option Nat} {v3 : Option Nat} {v4 : Int32} (hf : f_L_law_b1707 D o k23 h v0 v1 v3 v4 = some (r, hz)) (hH : mh_hole h.1 o) : gx_le (mh h.1 o h.2) hz := by
  unfold f_L_law_b1707 at hf
  exact le_L_law_b2499 lek23 hf hH
def f_L_law_b1872 (D : gx_D) (o : Nat) (k23 : (HX × MS) → Option Nat → Option Nat → Option Nat → Int32 → Option ((Bool) × HX)) (h : (HX × MS)) (v0 : Option Nat) (v1 : Option Nat) (v3 : Option Nat) (v4 : Int32) : Option ((Bool) × HX) :=
  f_L_law_b2499 D o k23 (h.1, h.2) v0 v1 v3 v4
theorem w_L_law_b1872 {l : Launch} (hlt : l.stackTraces = false) {p : Program} {e : Env} {R : Room} {s : State} {m : MethodId} {args : Array Value} {below : List Frame} {meth : Method} {c : Code} {D : gx_D} {h0 : HX} {r : Bool} {hz : HX} (C : gx_Ctx p R s m args meth c "ContractMachineLaw" cL_law 9 (some .boolean) 17 396 D h0 hz) (hx : meth.name = "law") {o : Nat}  {k23 : (HX × MS) → Option Nat → Option Nat → Option Nat → Int32 → Option ((Bool) × HX)} (wk23 : ∀ ⦃h : (HX × MS)⦄ ⦃v0 : Option Nat⦄ ⦃v1 : Option Nat⦄ ⦃v3 : Option Nat⦄ ⦃v4 : Int32⦄, k23 h v0 v1 v3 v4 = some (r, hz) → mh_hole h.1 o → gx_G p l e R s m args below meth c D h0 hz 9 (gx_MQ below args s D h0 hz (some (.int (b2i r)))) 23 [(0, (va_rf v0)), (1, (va_rf v1)), (2, (va_rf (some o))), (3, (va_rf v3)), (4, (.int v4))] [] (mh h.1 o h.2)) {h : (HX × MS)} {v0 : Option Nat} {v1 : Option Nat} {v3 : Option Nat} {v4 : Int32} (hf : f_L_law_b1872 D o k23 h v0 v1 v3 v4 = some (r, hz)) (hH : mh_hole h.1 o) : gx_G p l e R s m args below meth c D h0 hz 9 (gx_MQ below args s D h0 hz (some (.int (b2i r)))) 1872 [(0, (va_rf v0)), (1, (va_rf v1)), (2, (va_rf (some o))), (3, (va_rf v3)), (4, (.int v4))] [] (mh h.1 o h.2) := by
  unfold f_L_law_b1872 at hf
  refine gx_goto (tgt := 2499) C dL_law_1872 rfl ?_
  refine gx_sub [0, 1, 2, 3, 4] rfl ?_
  exact w_L_law_b2499 hlt C hx wk23 hf hH
theorem le_L_law_b1872 {D : gx_D} {o : Nat} {r : Bool} {hz : HX} {k23 : (HX × MS) → Option Nat → Option Nat → Option Nat → Int32 → Option ((Bool) × HX)} (lek23 : ∀ ⦃h : (HX × MS)⦄ ⦃v0 : Option Nat⦄ ⦃v1 : Option Nat⦄ ⦃v3 : Option Nat⦄ ⦃v4 : Int32⦄, k23 h v0 v1 v3 v4 = some (r, hz) → mh_hole h.1 o → gx_le (mh h.1 o h.2) hz) {h : (HX × MS)} {v0 : Option Nat} {v1 : Option Nat} {v3 : Option Nat} {v4 : Int32} (hf : f_L_law_b1872 D o k23 h v0 v1 v3 v4 = some (r, hz)) (hH : mh_hole h.1 o) : gx_le (mh h.1 o h.2) hz := by
  unfold f_L_law_b1872 at hf
  exact le_L_law_b2499 lek23 hf hH
def f_L_law_b1866 (D : gx_D) (o : Nat) (k23 : (HX × MS) → Option Nat → Option Nat → Option Nat → Int32 → Option ((Bool) × HX)) (h : (HX × MS)) (v0 : Option Nat) (v1 : Option Nat) (v3 : Option Nat) (v4 : Int32) (s0 : Int64) (s1 : Int64) : Option ((Bool) × HX) :=
  if (lg_cmp s1 s0) = 0 then
  f_L_law_b1872 D o k23 (h.1, h.2) v0 v1 v3 v4
  else
  some (false, (mh h.1 o h.2))
theorem w_L_law_b1866 {l : Launch} (hlt : l.stackTraces = false) {p : Program} {e : Env} {R : Room} {s : State} {m : MethodId} {args : Array Value} {below : List Frame} {meth : Method} {c : Code} {D : gx_D} {h0 : HX} {r : Bool} {hz : HX} (C : gx_Ctx p R s m args meth c "ContractMachineLaw" cL_law 9 (some .boolean) 17 396 D h0 hz) (hx : meth.name = "law") {o : Nat}  {k23 : (HX × MS) → Option Nat → Option Nat → Option Nat → Int32 → Option ((Bool) × HX)} (wk23 : ∀ ⦃h : (HX × MS)⦄ ⦃v0 : Option Nat⦄ ⦃v1 : Option Nat⦄ ⦃v3 : Option Nat⦄ ⦃v4 : Int32⦄, k23 h v0 v1 v3 v4 = some (r, hz) → mh_hole h.1 o → gx_G p l e R s m args below meth c D h0 hz 9 (gx_MQ below args s D h0 hz (some (.int (b2i r)))) 23 [(0, (va_rf v0)), (1, (va_rf v1)), (2, (va_rf (some o))), (3, (va_rf v3)), (4, (.int v4))] [] (mh h.1 o h.2)) {h : (HX × MS)} {v0 : Option Nat} {v1 : Option Nat} {v3 : Option Nat} {v4 : Int32} {s0 : Int64} {s1 : Int64} (hf : f_L_law_b1866 D o k23 h v0 v1 v3 v4 s0 s1 = some (r, hz)) (hH : mh_hole h.1 o) : gx_G p l e R s m args below meth c D h0 hz 9 (gx_MQ below args s D h0 hz (some (.int (b2i r)))) 1866 [(0, (va_rf v0)), (1, (va_rf v1)), (2, (va_rf (some o))), (3, (va_rf v3)), (4, (.int v4))] [(.long s0), (.long s1)] (mh h.1 o h.2) := by
  unfold f_L_law_b1866 at hf
  refine gx_lcmp C dL_law_1866 ?_
  replace hf := gx_ite hf
  rcases hf with ⟨c619, hf⟩ | ⟨c619, hf⟩
  · refine gx_if_eq_t (tgt := 1872) C dL_law_1867 rfl c619 ?_
    refine gx_sub [0, 1, 2, 3, 4] rfl ?_
    exact w_L_law_b1872 hlt C hx wk23 hf hH
  · refine gx_if_eq_f (tgt := 1872) C dL_law_1867 rfl c619 ?_
    refine gx_iconst (v := 0) C dL_law_1870 rfl ?_
    obtain ⟨rfl, rfl⟩ := Prod.mk.inj (Option.some.inj hf)
    exact gx_zret (b := false) C dL_law_1871
theorem le_L_law_b1866 {D : gx_D} {o : Nat} {r : Bool} {hz : HX} {k23 : (HX × MS) → Option Nat → Option Nat → Option Nat → Int32 → Option ((Bool) × HX)} (lek23 : ∀ ⦃h : (HX × MS)⦄ ⦃v0 : Option Nat⦄ ⦃v1 : Option Nat⦄ ⦃v3 : Option Nat⦄ ⦃v4 : Int32⦄, k23 h v0 v1 v3 v4 = some (r, hz) → mh_hole h.1 o → gx_le (mh h.1 o h.2) hz) {h : (HX × MS)} {v0 : Option Nat} {v1 : Option Nat} {v3 : Option Nat} {v4 : Int32} {s0 : Int64} {s1 : Int64} (hf : f_L_law_b1866 D o k23 h v0 v1 v3 v4 s0 s1 = some (r, hz)) (hH : mh_hole h.1 o) : gx_le (mh h.1 o h.2) hz := by
  unfold f_L_law_b1866 at hf
  replace hf := gx_ite hf
  rcases hf with ⟨c619, hf⟩ | ⟨c619, hf⟩
  · exact le_L_law_b1872 lek23 hf hH
  · obtain ⟨rfl, rfl⟩ := Prod.mk.inj (Option.some.inj hf)
    exact gx_le.rf
def f_L_law_b1935 (D : gx_D) (o : Nat) (k23 : (HX × MS) → Option Nat → Option Nat → Option Nat → Int32 → Option ((Bool) × HX)) (h : (HX × MS)) (v0 : Option Nat) (v1 : Option Nat) (v3 : Option Nat) (v4 : Int32) : Option ((Bool) × HX) :=
  f_L_law_b2499 D o k23 (h.1, h.2) v0 v1 v3 v4
theorem w_L_law_b1935 {l : Launch} (hlt : l.stackTraces = false) {p : Program} {e : Env} {R : Room} {s : State} {m : MethodId} {args : Array Value} {below : List Frame} {meth : Method} {c : Code} {D : gx_D} {h0 : HX} {r : Bool} {hz : HX} (C : gx_Ctx p R s m args meth c "ContractMachineLaw" cL_law 9 (some .boolean) 17 396 D h0 hz) (hx : meth.name = "law") {o : Nat}  {k23 : (HX × MS) → Option Nat → Option Nat → Option Nat → Int32 → Option ((Bool) × HX)} (wk23 : ∀ ⦃h : (HX × MS)⦄ ⦃v0 : Option Nat⦄ ⦃v1 : Option Nat⦄ ⦃v3 : Option Nat⦄ ⦃v4 : Int32⦄, k23 h v0 v1 v3 v4 = some (r, hz) → mh_hole h.1 o → gx_G p l e R s m args below meth c D h0 hz 9 (gx_MQ below args s D h0 hz (some (.int (b2i r)))) 23 [(0, (va_rf v0)), (1, (va_rf v1)), (2, (va_rf (some o))), (3, (va_rf v3)), (4, (.int v4))] [] (mh h.1 o h.2)) {h : (HX × MS)} {v0 : Option Nat} {v1 : Option Nat} {v3 : Option Nat} {v4 : Int32} (hf : f_L_law_b1935 D o k23 h v0 v1 v3 v4 = some (r, hz)) (hH : mh_hole h.1 o) : gx_G p l e R s m args below meth c D h0 hz 9 (gx_MQ below args s D h0 hz (some (.int (b2i r)))) 1935 [(0, (va_rf v0)), (1, (va_rf v1)), (2, (va_rf (some o))), (3, (va_rf v3)), (4, (.int v4))] [] (mh h.1 o h.2) := by
  unfold f_L_law_b1935 at hf
  refine gx_goto (tgt := 2499) C dL_law_1935 rfl ?_
  refine gx_sub [0, 1, 2, 3, 4] rfl ?_
  exact w_L_law_b2499 hlt C hx wk23 hf hH
theorem le_L_law_b1935 {D : gx_D} {o : Nat} {r : Bool} {hz : HX} {k23 : (HX × MS) → Option Nat → Option Nat → Option Nat → Int32 → Option ((Bool) × HX)} (lek23 : ∀ ⦃h : (HX × MS)⦄ ⦃v0 : Option Nat⦄ ⦃v1 : Option Nat⦄ ⦃v3 : Option Nat⦄ ⦃v4 : Int32⦄, k23 h v0 v1 v3 v4 = some (r, hz) → mh_hole h.1 o → gx_le (mh h.1 o h.2) hz) {h : (HX × MS)} {v0 : Option Nat} {v1 : Option Nat} {v3 : Option Nat} {v4 : Int32} (hf : f_L_law_b1935 D o k23 h v0 v1 v3 v4 = some (r, hz)) (hH : mh_hole h.1 o) : gx_le (mh h.1 o h.2) hz := by
  unfold f_L_law_b1935 at hf
  exact le_L_law_b2499 lek23 hf hH
def f_L_law_b1929 (D : gx_D) (o : Nat) (k23 : (HX × MS) → Option Nat → Option Nat → Option Nat → Int32 → Option ((Bool) × HX)) (h : (HX × MS)) (v0 : Option Nat) (v1 : Option Nat) (v3 : Option Nat) (v4 : Int32) (s0 : Int64) (s1 : Int64) : Option ((Bool) × HX) :=
  if (lg_cmp s1 s0) = 0 then
  f_L_law_b1935 D o k23 (h.1, h.2) v0 v1 v3 v4
  else
  some (false, (mh h.1 o h.2))
theorem w_L_law_b1929 {l : Launch} (hlt : l.stackTraces = false) {p : Program} {e : Env} {R : Room} {s : State} {m : MethodId} {args : Array Value} {below : List Frame} {meth : Method} {c : Code} {D : gx_D} {h0 : HX} {r : Bool} {hz : HX} (C : gx_Ctx p R s m args meth c "ContractMachineLaw" cL_law 9 (some .boolean) 17 396 D h0 hz) (hx : meth.name = "law") {o : Nat}  {k23 : (HX × MS) → Option Nat → Option Nat → Option Nat → Int32 → Option ((Bool) × HX)} (wk23 : ∀ ⦃h : (HX × MS)⦄ ⦃v0 : Option Nat⦄ ⦃v1 : Option Nat⦄ ⦃v3 : Option Nat⦄ ⦃v4 : Int32⦄, k23 h v0 v1 v3 v4 = some (r, hz) → mh_hole h.1 o → gx_G p l e R s m args below meth c D h0 hz 9 (gx_MQ below args s D h0 hz (some (.int (b2i r)))) 23 [(0, (va_rf v0)), (1, (va_rf v1)), (2, (va_rf (some o))), (3, (va_rf v3)), (4, (.int v4))] [] (mh h.1 o h.2)) {h : (HX × MS)} {v0 : Option Nat} {v1 : Option Nat} {v3 : Option Nat} {v4 : Int32} {s0 : Int64} {s1 : Int64} (hf : f_L_law_b1929 D o k23 h v0 v1 v3 v4 s0 s1 = some (r, hz)) (hH : mh_hole h.1 o) : gx_G p l e R s m args below meth c D h0 hz 9 (gx_MQ below args s D h0 hz (some (.int (b2i r)))) 1929 [(0, (va_rf v0)), (1, (va_rf v1)), (2, (va_rf (some o))), (3, (va_rf v3)), (4, (.int v4))] [(.long s0), (.long s1)] (mh h.1 o h.2) := by
  unfold f_L_law_b1929 at hf
  refine gx_lcmp C dL_law_1929 ?_
  replace hf := gx_ite hf
  rcases hf with ⟨c639, hf⟩ | ⟨c639, hf⟩
  · refine gx_if_eq_t (tgt := 1935) C dL_law_1930 rfl c639 ?_
    refine gx_sub [0, 1, 2, 3, 4] rfl ?_
    exact w_L_law_b1935 hlt C hx wk23 hf hH
  · refine gx_if_eq_f (tgt := 1935) C dL_law_1930 rfl c639 ?_
    refine gx_iconst (v := 0) C dL_law_1933 rfl ?_
    obtain ⟨rfl, rfl⟩ := Prod.mk.inj (Option.some.inj hf)
    exact gx_zret (b := false) C dL_law_1934
theorem le_L_law_b1929 {D : gx_D} {o : Nat} {r : Bool} {hz : HX} {k23 : (HX × MS) → Option Nat → Option Nat → Option Nat → Int32 → Option ((Bool) × HX)} (lek23 : ∀ ⦃h : (HX × MS)⦄ ⦃v0 : Option Nat⦄ ⦃v1 : Option Nat⦄ ⦃v3 : Option Nat⦄ ⦃v4 : Int32⦄, k23 h v0 v1 v3 v4 = some (r, hz) → mh_hole h.1 o → gx_le (mh h.1 o h.2) hz) {h : (HX × MS)} {v0 : Option Nat} {v1 : Option Nat} {v3 : Option Nat} {v4 : Int32} {s0 : Int64} {s1 : Int64} (hf : f_L_law_b1929 D o k23 h v0 v1 v3 v4 s0 s1 = some (r, hz)) (hH : mh_hole h.1 o) : gx_le (mh h.1 o h.2) hz := by
  unfold f_L_law_b1929 at hf
  replace hf := gx_ite hf
  rcases hf with ⟨c639, hf⟩ | ⟨c639, hf⟩
  · exact le_L_law_b1935 lek23 hf hH
  · obtain ⟨rfl, rfl⟩ := Prod.mk.inj (Option.some.inj hf)
    exact gx_le.rf
def f_L_law_b1991 (D : gx_D) (o : Nat) (k23 : (HX × MS) → Option Nat → Option Nat → Option Nat → Int32 → Option ((Bool) × HX)) (h : (HX × MS)) (v0 : Option Nat) (v1 : Option Nat) (v3 : Option Nat) (v4 : Int32) : Option ((Bool) × HX) :=
  f_L_law_b2499 D o k23 (h.1, h.2) v0 v1 v3 v4
theorem w_L_law_b1991 {l : Launch} (hlt : l.stackTraces = false) {p : Program} {e : Env} {R : Room} {s : State} {m : MethodId} {args : Array Value} {below : List Frame} {meth : Method} {c : Code} {D : gx_D} {h0 : HX} {r : Bool} {hz : HX} (C : gx_Ctx p R s m args meth c "ContractMachineLaw" cL_law 9 (some .boolean) 17 396 D h0 hz) (hx : meth.name = "law") {o : Nat}  {k23 : (HX × MS) → Option Nat → Option Nat → Option Nat → Int32 → Option ((Bool) × HX)} (wk23 : ∀ ⦃h : (HX × MS)⦄ ⦃v0 : Option Nat⦄ ⦃v1 : Option Nat⦄ ⦃v3 : Option Nat⦄ ⦃v4 : Int32⦄, k23 h v0 v1 v3 v4 = some (r, hz) → mh_hole h.1 o → gx_G p l e R s m args below meth c D h0 hz 9 (gx_MQ below args s D h0 hz (some (.int (b2i r)))) 23 [(0, (va_rf v0)), (1, (va_rf v1)), (2, (va_rf (some o))), (3, (va_rf v3)), (4, (.int v4))] [] (mh h.1 o h.2)) {h : (HX × MS)} {v0 : Option Nat} {v1 : Option Nat} {v3 : Option Nat} {v4 : Int32} (hf : f_L_law_b1991 D o k23 h v0 v1 v3 v4 = some (r, hz)) (hH : mh_hole h.1 o) : gx_G p l e R s m args below meth c D h0 hz 9 (gx_MQ below args s D h0 hz (some (.int (b2i r)))) 1991 [(0, (va_rf v0)), (1, (va_rf v1)), (2, (va_rf (some o))), (3, (va_rf v3)), (4, (.int v4))] [] (mh h.1 o h.2) := by
  unfold f_L_law_b1991 at hf
  refine gx_goto (tgt := 2499) C dL_law_1991 rfl ?_
  refine gx_sub [0, 1, 2, 3, 4] rfl ?_
  exact w_L_law_b2499 hlt C hx wk23 hf hH
theorem le_L_law_b1991 {D : gx_D} {o : Nat} {r : Bool} {hz : HX} {k23 : (HX × MS) → Option Nat → Option Nat → Option Nat → Int32 → Option ((Bool) × HX)} (lek23 : ∀ ⦃h : (HX × MS)⦄ ⦃v0 : Option Nat⦄ ⦃v1 : Option Nat⦄ ⦃v3 : Option Nat⦄ ⦃v4 : Int32⦄, k23 h v0 v1 v3 v4 = some (r, hz) → mh_hole h.1 o → gx_le (mh h.1 o h.2) hz) {h : (HX × MS)} {v0 : Option Nat} {v1 : Option Nat} {v3 : Option Nat} {v4 : Int32} (hf : f_L_law_b1991 D o k23 h v0 v1 v3 v4 = some (r, hz)) (hH : mh_hole h.1 o) : gx_le (mh h.1 o h.2) hz := by
  unfold f_L_law_b1991 at hf
  exact le_L_law_b2499 lek23 hf hH
def f_L_law_b2047 (D : gx_D) (o : Nat) (k23 : (HX × MS) → Option Nat → Option Nat → Option Nat → Int32 → Option ((Bool) × HX)) (h : (HX × MS)) (v0 : Option Nat) (v1 : Option Nat) (v3 : Option Nat) (v4 : Int32) : Option ((Bool) × HX) :=
  f_L_law_b2499 D o k23 (h.1, h.2) v0 v1 v3 v4
theorem w_L_law_b2047 {l : Launch} (hlt : l.stackTraces = false) {p : Program} {e : Env} {R : Room} {s : State} {m : MethodId} {args : Array Value} {below : List Frame} {meth : Method} {c : Code} {D : gx_D} {h0 : HX} {r : Bool} {hz : HX} (C : gx_Ctx p R s m args meth c "ContractMachineLaw" cL_law 9 (some .boolean) 17 396 D h0 hz) (hx : meth.name = "law") {o : Nat}  {k23 : (HX × MS) → Option Nat → Option Nat → Option Nat → Int32 → Option ((Bool) × HX)} (wk23 : ∀ ⦃h : (HX × MS)⦄ ⦃v0 : Option Nat⦄ ⦃v1 : Option Nat⦄ ⦃v3 : Option Nat⦄ ⦃v4 : Int32⦄, k23 h v0 v1 v3 v4 = some (r, hz) → mh_hole h.1 o → gx_G p l e R s m args below meth c D h0 hz 9 (gx_MQ below args s D h0 hz (some (.int (b2i r)))) 23 [(0, (va_rf v0)), (1, (va_rf v1)), (2, (va_rf (some o))), (3, (va_rf v3)), (4, (.int v4))] [] (mh h.1 o h.2)) {h : (HX × MS)} {v0 : Option Nat} {v1 : Option Nat} {v3 : Option Nat} {v4 : Int32} (hf : f_L_law_b2047 D o k23 h v0 v1 v3 v4 = some (r, hz)) (hH : mh_hole h.1 o) : gx_G p l e R s m args below meth c D h0 hz 9 (gx_MQ below args s D h0 hz (some (.int (b2i r)))) 2047 [(0, (va_rf v0)), (1, (va_rf v1)), (2, (va_rf (some o))), (3, (va_rf v3)), (4, (.int v4))] [] (mh h.1 o h.2) := by
  unfold f_L_law_b2047 at hf
  refine gx_goto (tgt := 2499) C dL_law_2047 rfl ?_
  refine gx_sub [0, 1, 2, 3, 4] rfl ?_
  exact w_L_law_b2499 hlt C hx wk23 hf hH
theorem le_L_law_b2047 {D : gx_D} {o : Nat} {r : Bool} {hz : HX} {k23 : (HX × MS) → Option Nat → Option Nat → Option Nat → Int32 → Option ((Bool) × HX)} (lek23 : ∀ ⦃h : (HX × MS)⦄ ⦃v0 : Option Nat⦄ ⦃v1 : Option Nat⦄ ⦃v3 : Option Nat⦄ ⦃v4 : Int32⦄, k23 h v0 v1 v3 v4 = some (r, hz) → mh_hole h.1 o → gx_le (mh h.1 o h.2) hz) {h : (HX × MS)} {v0 : Option Nat} {v1 : Option Nat} {v3 : Option Nat} {v4 : Int32} (hf : f_L_law_b2047 D o k23 h v0 v1 v3 v4 = some (r, hz)) (hH : mh_hole h.1 o) : gx_le (mh h.1 o h.2) hz := by
  unfold f_L_law_b2047 at hf
  exact le_L_law_b2499 lek23 hf hH
def f_L_law_b2127 (D : gx_D) (o : Nat) (k23 : (HX × MS) → Option Nat → Option Nat → Option Nat → Int32 → Option ((Bool) × HX)) (h : (HX × MS)) (v0 : Option Nat) (v1 : Option Nat) (v3 : Option Nat) (v4 : Int32) : Option ((Bool) × HX) :=
  f_L_law_b2499 D o k23 (h.1, h.2) v0 v1 v3 v4
theorem w_L_law_b2127 {l : Launch} (hlt : l.stackTraces = false) {p : Program} {e : Env} {R : Room} {s : State} {m : MethodId} {args : Array Value} {below : List Frame} {meth : Method} {c : Code} {D : gx_D} {h0 : HX} {r : Bool} {hz : HX} (C : gx_Ctx p R s m args meth c "ContractMachineLaw" cL_law 9 (some .boolean) 17 396 D h0 hz) (hx : meth.name = "law") {o : Nat}  {k23 : (HX × MS) → Option Nat → Option Nat → Option Nat → Int32 → Option ((Bool) × HX)} (wk23 : ∀ ⦃h : (HX × MS)⦄ ⦃v0 : Option Nat⦄ ⦃v1 : Option Nat⦄ ⦃v3 : Option Nat⦄ ⦃v4 : Int32⦄, k23 h v0 v1 v3 v4 = some (r, hz) → mh_hole h.1 o → gx_G p l e R s m args below meth c D h0 hz 9 (gx_MQ below args s D h0 hz (some (.int (b2i r)))) 23 [(0, (va_rf v0)), (1, (va_rf v1)), (2, (va_rf (some o))), (3, (va_rf v3)), (4, (.int v4))] [] (mh h.1 o h.2)) {h : (HX × MS)} {v0 : Option Nat} {v1 : Option Nat} {v3 : Option Nat} {v4 : Int32} (hf : f_L_law_b2127 D o k23 h v0 v1 v3 v4 = some (r, hz)) (hH : mh_hole h.1 o) : gx_G p l e R s m args below meth c D h0 hz 9 (gx_MQ below args s D h0 hz (some (.int (b2i r)))) 2127 [(0, (va_rf v0)), (1, (va_rf v1)), (2, (va_rf (some o))), (3, (va_rf v3)), (4, (.int v4))] [] (mh h.1 o h.2) := by
  unfold f_L_law_b2127 at hf
  refine gx_goto (tgt := 2499) C dL_law_2127 rfl ?_
  refine gx_sub [0, 1, 2, 3, 4] rfl ?_
  exact w_L_law_b2499 hlt C hx wk23 hf hH
theorem le_L_law_b2127 {D : gx_D} {o : Nat} {r : Bool} {hz : HX} {k23 : (HX × MS) → Option Nat → Option Nat → Option Nat → Int32 → Option ((Bool) × HX)} (lek23 : ∀ ⦃h : (HX × MS)⦄ ⦃v0 : Option Nat⦄ ⦃v1 : Option Nat⦄ ⦃v3 : Option Nat⦄ ⦃v4 : Int32⦄, k23 h v0 v1 v3 v4 = some (r, hz) → mh_hole h.1 o → gx_le (mh h.1 o h.2) hz) {h : (HX × MS)} {v0 : Option Nat} {v1 : Option Nat} {v3 : Option Nat} {v4 : Int32} (hf : f_L_law_b2127 D o k23 h v0 v1 v3 v4 = some (r, hz)) (hH : mh_hole h.1 o) : gx_le (mh h.1 o h.2) hz := by
  unfold f_L_law_b2127 at hf
  exact le_L_law_b2499 lek23 hf hH
def f_L_law_b2183 (D : gx_D) (o : Nat) (k23 : (HX × MS) → Option Nat → Option Nat → Option Nat → Int32 → Option ((Bool) × HX)) (h : (HX × MS)) (v0 : Option Nat) (v1 : Option Nat) (v3 : Option Nat) (v4 : Int32) : Option ((Bool) × HX) :=
  f_L_law_b2499 D o k23 (h.1, h.2) v0 v1 v3 v4
theorem w_L_law_b2183 {l : Launch} (hlt : l.stackTraces = false) {p : Program} {e : Env} {R : Room} {s : State} {m : MethodId} {args : Array Value} {below : List Frame} {meth : Method} {c : Code} {D : gx_D} {h0 : HX} {r : Bool} {hz : HX} (C : gx_Ctx p R s m args meth c "ContractMachineLaw" cL_law 9 (some .boolean) 17 396 D h0 hz) (hx : meth.name = "law") {o : Nat}  {k23 : (HX × MS) → Option Nat → Option Nat → Option Nat → Int32 → Option ((Bool) × HX)} (wk23 : ∀ ⦃h : (HX × MS)⦄ ⦃v0 : Option Nat⦄ ⦃v1 : Option Nat⦄ ⦃v3 : Option Nat⦄ ⦃v4 : Int32⦄, k23 h v0 v1 v3 v4 = some (r, hz) → mh_hole h.1 o → gx_G p l e R s m args below meth c D h0 hz 9 (gx_MQ below args s D h0 hz (some (.int (b2i r)))) 23 [(0, (va_rf v0)), (1, (va_rf v1)), (2, (va_rf (some o))), (3, (va_rf v3)), (4, (.int v4))] [] (mh h.1 o h.2)) {h : (HX × MS)} {v0 : Option Nat} {v1 : Option Nat} {v3 : Option Nat} {v4 : Int32} (hf : f_L_law_b2183 D o k23 h v0 v1 v3 v4 = some (r, hz)) (hH : mh_hole h.1 o) : gx_G p l e R s m args below meth c D h0 hz 9 (gx_MQ below args s D h0 hz (some (.int (b2i r)))) 2183 [(0, (va_rf v0)), (1, (va_rf v1)), (2, (va_rf (some o))), (3, (va_rf v3)), (4, (.int v4))] [] (mh h.1 o h.2) := by
  unfold f_L_law_b2183 at hf
  refine gx_goto (tgt := 2499) C dL_law_2183 rfl ?_
  refine gx_sub [0, 1, 2, 3, 4] rfl ?_
  exact w_L_law_b2499 hlt C hx wk23 hf hH
theorem le_L_law_b2183 {D : gx_D} {o : Nat} {r : Bool} {hz : HX} {k23 : (HX × MS) → Option Nat → Option Nat → Option Nat → Int32 → Option ((Bool) × HX)} (lek23 : ∀ ⦃h : (HX × MS)⦄ ⦃v0 : Option Nat⦄ ⦃v1 : Option Nat⦄ ⦃v3 : Option Nat⦄ ⦃v4 : Int32⦄, k23 h v0 v1 v3 v4 = some (r, hz) → mh_hole h.1 o → gx_le (mh h.1 o h.2) hz) {h : (HX × MS)} {v0 : Option Nat} {v1 : Option Nat} {v3 : Option Nat} {v4 : Int32} (hf : f_L_law_b2183 D o k23 h v0 v1 v3 v4 = some (r, hz)) (hH : mh_hole h.1 o) : gx_le (mh h.1 o h.2) hz := by
  unfold f_L_law_b2183 at hf
  exact le_L_law_b2499 lek23 hf hH
def f_L_law_b2251 (D : gx_D) (o : Nat) (k23 : (HX × MS) → Option Nat → Option Nat → Option Nat → Int32 → Option ((Bool) × HX)) (h : (HX × MS)) (v0 : Option Nat) (v1 : Option Nat) (v3 : Option Nat) (v4 : Int32) : Option ((Bool) × HX) :=
  f_L_law_b2499 D o k23 (h.1, h.2) v0 v1 v3 v4
theorem w_L_law_b2251 {l : Launch} (hlt : l.stackTraces = false) {p : Program} {e : Env} {R : Room} {s : State} {m : MethodId} {args : Array Value} {below : List Frame} {meth : Method} {c : Code} {D : gx_D} {h0 : HX} {r : Bool} {hz : HX} (C : gx_Ctx p R s m args meth c "ContractMachineLaw" cL_law 9 (some .boolean) 17 396 D h0 hz) (hx : meth.name = "law") {o : Nat}  {k23 : (HX × MS) → Option Nat → Option Nat → Option Nat → Int32 → Option ((Bool) × HX)} (wk23 : ∀ ⦃h : (HX × MS)⦄ ⦃v0 : Option Nat⦄ ⦃v1 : Option Nat⦄ ⦃v3 : Option Nat⦄ ⦃v4 : Int32⦄, k23 h v0 v1 v3 v4 = some (r, hz) → mh_hole h.1 o → gx_G p l e R s m args below meth c D h0 hz 9 (gx_MQ below args s D h0 hz (some (.int (b2i r)))) 23 [(0, (va_rf v0)), (1, (va_rf v1)), (2, (va_rf (some o))), (3, (va_rf v3)), (4, (.int v4))] [] (mh h.1 o h.2)) {h : (HX × MS)} {v0 : Option Nat} {v1 : Option Nat} {v3 : Option Nat} {v4 : Int32} (hf : f_L_law_b2251 D o k23 h v0 v1 v3 v4 = some (r, hz)) (hH : mh_hole h.1 o) : gx_G p l e R s m args below meth c D h0 hz 9 (gx_MQ below args s D h0 hz (some (.int (b2i r)))) 2251 [(0, (va_rf v0)), (1, (va_rf v1)), (2, (va_rf (some o))), (3, (va_rf v3)), (4, (.int v4))] [] (mh h.1 o h.2) := by
  unfold f_L_law_b2251 at hf
  refine gx_goto (tgt := 2499) C dL_law_2251 rfl ?_
  refine gx_sub [0, 1, 2, 3, 4] rfl ?_
  exact w_L_law_b2499 hlt C hx wk23 hf hH
theorem le_L_law_b2251 {D : gx_D} {o : Nat} {r : Bool} {hz : HX} {k23 : (HX × MS) → Option Nat → Option Nat → Option Nat → Int32 → Option ((Bool) × HX)} (lek23 : ∀ ⦃h : (HX × MS)⦄ ⦃v0 : Option Nat⦄ ⦃v1 : Option Nat⦄ ⦃v3 : Option Nat⦄ ⦃v4 : Int32⦄, k23 h v0 v1 v3 v4 = some (r, hz) → mh_hole h.1 o → gx_le (mh h.1 o h.2) hz) {h : (HX × MS)} {v0 : Option Nat} {v1 : Option Nat} {v3 : Option Nat} {v4 : Int32} (hf : f_L_law_b2251 D o k23 h v0 v1 v3 v4 = some (r, hz)) (hH : mh_hole h.1 o) : gx_le (mh h.1 o h.2) hz := by
  unfold f_L_law_b2251 at hf
  exact le_L_law_b2499 lek23 hf hH
def f_L_law_b2357 (D : gx_D) (o : Nat) (k23 : (HX × MS) → Option Nat → Option Nat → Option Nat → Int32 → Option ((Bool) × HX)) (h : (HX × MS)) (v0 : Option Nat) (v1 : Option Nat) (v3 : Option Nat) (v4 : Int32) : Option ((Bool) × HX) :=
  f_L_law_b2499 D o k23 (h.1, h.2) v0 v1 v3 v4
theorem w_L_law_b2357 {l : Launch} (hlt : l.stackTraces = false) {p : Program} {e : Env} {R : Room} {s : State} {m : MethodId} {args : Array Value} {below : List Frame} {meth : Method} {c : Code} {D : gx_D} {h0 : HX} {r : Bool} {hz : HX} (C : gx_Ctx p R s m args meth c "ContractMachineLaw" cL_law 9 (some .boolean) 17 396 D h0 hz) (hx : meth.name = "law") {o : Nat}  {k23 : (HX × MS) → Option Nat → Option Nat → Option Nat → Int32 → Option ((Bool) × HX)} (wk23 : ∀ ⦃h : (HX × MS)⦄ ⦃v0 : Option Nat⦄ ⦃v1 : Option Nat⦄ ⦃v3 : Option Nat⦄ ⦃v4 : Int32⦄, k23 h v0 v1 v3 v4 = some (r, hz) → mh_hole h.1 o → gx_G p l e R s m args below meth c D h0 hz 9 (gx_MQ below args s D h0 hz (some (.int (b2i r)))) 23 [(0, (va_rf v0)), (1, (va_rf v1)), (2, (va_rf (some o))), (3, (va_rf v3)), (4, (.int v4))] [] (mh h.1 o h.2)) {h : (HX × MS)} {v0 : Option Nat} {v1 : Option Nat} {v3 : Option Nat} {v4 : Int32} (hf : f_L_law_b2357 D o k23 h v0 v1 v3 v4 = some (r, hz)) (hH : mh_hole h.1 o) : gx_G p l e R s m args below meth c D h0 hz 9 (gx_MQ below args s D h0 hz (some (.int (b2i r)))) 2357 [(0, (va_rf v0)), (1, (va_rf v1)), (2, (va_rf (some o))), (3, (va_rf v3)), (4, (.int v4))] [] (mh h.1 o h.2) := by
  unfold f_L_law_b2357 at hf
  refine gx_goto (tgt := 2499) C dL_law_2357 rfl ?_
  refine gx_sub [0, 1, 2, 3, 4] rfl ?_
  exact w_L_law_b2499 hlt C hx wk23 hf hH
theorem le_L_law_b2357 {D : gx_D} {o : Nat} {r : Bool} {hz : HX} {k23 : (HX × MS) → Option Nat → Option Nat → Option Nat → Int32 → Option ((Bool) × HX)} (lek23 : ∀ ⦃h : (HX × MS)⦄ ⦃v0 : Option Nat⦄ ⦃v1 : Option Nat⦄ ⦃v3 : Option Nat⦄ ⦃v4 : Int32⦄, k23 h v0 v1 v3 v4 = some (r, hz) → mh_hole h.1 o → gx_le (mh h.1 o h.2) hz) {h : (HX × MS)} {v0 : Option Nat} {v1 : Option Nat} {v3 : Option Nat} {v4 : Int32} (hf : f_L_law_b2357 D o k23 h v0 v1 v3 v4 = some (r, hz)) (hH : mh_hole h.1 o) : gx_le (mh h.1 o h.2) hz := by
  unfold f_L_law_b2357 at hf
  exact le_L_law_b2499 lek23 hf hH
def f_L_law_b2401 (D : gx_D) (o : Nat) (k23 : (HX × MS) → Option Nat → Option Nat → Option Nat → Int32 → Option ((Bool) × HX)) (h : (HX × MS)) (v0 : Option Nat) (v1 : Option Nat) (v3 : Option Nat) (v4 : Int32) : Option ((Bool) × HX) :=
  f_L_law_b2499 D o k23 (h.1, h.2) v0 v1 v3 v4
theorem w_L_law_b2401 {l : Launch} (hlt : l.stackTraces = false) {p : Program} {e : Env} {R : Room} {s : State} {m : MethodId} {args : Array Value} {below : List Frame} {meth : Method} {c : Code} {D : gx_D} {h0 : HX} {r : Bool} {hz : HX} (C : gx_Ctx p R s m args meth c "ContractMachineLaw" cL_law 9 (some .boolean) 17 396 D h0 hz) (hx : meth.name = "law") {o : Nat}  {k23 : (HX × MS) → Option Nat → Option Nat → Option Nat → Int32 → Option ((Bool) × HX)} (wk23 : ∀ ⦃h : (HX × MS)⦄ ⦃v0 : Option Nat⦄ ⦃v1 : Option Nat⦄ ⦃v3 : Option Nat⦄ ⦃v4 : Int32⦄, k23 h v0 v1 v3 v4 = some (r, hz) → mh_hole h.1 o → gx_G p l e R s m args below meth c D h0 hz 9 (gx_MQ below args s D h0 hz (some (.int (b2i r)))) 23 [(0, (va_rf v0)), (1, (va_rf v1)), (2, (va_rf (some o))), (3, (va_rf v3)), (4, (.int v4))] [] (mh h.1 o h.2)) {h : (HX × MS)} {v0 : Option Nat} {v1 : Option Nat} {v3 : Option Nat} {v4 : Int32} (hf : f_L_law_b2401 D o k23 h v0 v1 v3 v4 = some (r, hz)) (hH : mh_hole h.1 o) : gx_G p l e R s m args below meth c D h0 hz 9 (gx_MQ below args s D h0 hz (some (.int (b2i r)))) 2401 [(0, (va_rf v0)), (1, (va_rf v1)), (2, (va_rf (some o))), (3, (va_rf v3)), (4, (.int v4))] [] (mh h.1 o h.2) := by
  unfold f_L_law_b2401 at hf
  refine gx_goto (tgt := 2499) C dL_law_2401 rfl ?_
  refine gx_sub [0, 1, 2, 3, 4] rfl ?_
  exact w_L_law_b2499 hlt C hx wk23 hf hH
theorem le_L_law_b2401 {D : gx_D} {o : Nat} {r : Bool} {hz : HX} {k23 : (HX × MS) → Option Nat → Option Nat → Option Nat → Int32 → Option ((Bool) × HX)} (lek23 : ∀ ⦃h : (HX × MS)⦄ ⦃v0 : Option Nat⦄ ⦃v1 : Option Nat⦄ ⦃v3 : Option Nat⦄ ⦃v4 : Int32⦄, k23 h v0 v1 v3 v4 = some (r, hz) → mh_hole h.1 o → gx_le (mh h.1 o h.2) hz) {h : (HX × MS)} {v0 : Option Nat} {v1 : Option Nat} {v3 : Option Nat} {v4 : Int32} (hf : f_L_law_b2401 D o k23 h v0 v1 v3 v4 = some (r, hz)) (hH : mh_hole h.1 o) : gx_le (mh h.1 o h.2) hz := by
  unfold f_L_law_b2401 at hf
  exact le_L_law_b2499 lek23 hf hH
def f_L_law_b2496 (D : gx_D) (o : Nat) (k23 : (HX × MS) → Option Nat → Option Nat → Option Nat → Int32 → Option ((Bool) × HX)) (h : (HX × MS)) (v0 : Option Nat) (v1 : Option Nat) (v3 : Option Nat) (v4 : Int32) : Option ((Bool) × HX) :=
  f_L_law_b2499 D o k23 (h.1, h.2) v0 v1 v3 v4
theorem w_L_law_b2496 {l : Launch} (hlt : l.stackTraces = false) {p : Program} {e : Env} {R : Room} {s : State} {m : MethodId} {args : Array Value} {below : List Frame} {meth : Method} {c : Code} {D : gx_D} {h0 : HX} {r : Bool} {hz : HX} (C : gx_Ctx p R s m args meth c "ContractMachineLaw" cL_law 9 (some .boolean) 17 396 D h0 hz) (hx : meth.name = "law") {o : Nat}  {k23 : (HX × MS) → Option Nat → Option Nat → Option Nat → Int32 → Option ((Bool) × HX)} (wk23 : ∀ ⦃h : (HX × MS)⦄ ⦃v0 : Option Nat⦄ ⦃v1 : Option Nat⦄ ⦃v3 : Option Nat⦄ ⦃v4 : Int32⦄, k23 h v0 v1 v3 v4 = some (r, hz) → mh_hole h.1 o → gx_G p l e R s m args below meth c D h0 hz 9 (gx_MQ below args s D h0 hz (some (.int (b2i r)))) 23 [(0, (va_rf v0)), (1, (va_rf v1)), (2, (va_rf (some o))), (3, (va_rf v3)), (4, (.int v4))] [] (mh h.1 o h.2)) {h : (HX × MS)} {v0 : Option Nat} {v1 : Option Nat} {v3 : Option Nat} {v4 : Int32} (hf : f_L_law_b2496 D o k23 h v0 v1 v3 v4 = some (r, hz)) (hH : mh_hole h.1 o) : gx_G p l e R s m args below meth c D h0 hz 9 (gx_MQ below args s D h0 hz (some (.int (b2i r)))) 2496 [(0, (va_rf v0)), (1, (va_rf v1)), (2, (va_rf (some o))), (3, (va_rf v3)), (4, (.int v4))] [] (mh h.1 o h.2) := by
  unfold f_L_law_b2496 at hf
  refine gx_goto (tgt := 2499) C dL_law_2496 rfl ?_
  refine gx_sub [0, 1, 2, 3, 4] rfl ?_
  exact w_L_law_b2499 hlt C hx wk23 hf hH
theorem le_L_law_b2496 {D : gx_D} {o : Nat} {r : Bool} {hz : HX} {k23 : (HX × MS) → Option Nat → Option Nat → Option Nat → Int32 → Option ((Bool) × HX)} (lek23 : ∀ ⦃h : (HX × MS)⦄ ⦃v0 : Option Nat⦄ ⦃v1 : Option Nat⦄ ⦃v3 : Option Nat⦄ ⦃v4 : Int32⦄, k23 h v0 v1 v3 v4 = some (r, hz) → mh_hole h.1 o → gx_le (mh h.1 o h.2) hz) {h : (HX × MS)} {v0 : Option Nat} {v1 : Option Nat} {v3 : Option Nat} {v4 : Int32} (hf : f_L_law_b2496 D o k23 h v0 v1 v3 v4 = some (r, hz)) (hH : mh_hole h.1 o) : gx_le (mh h.1 o h.2) hz := by
  unfold f_L_law_b2496 at hf
  exact le_L_law_b2499 lek23 hf hH
/-- what calls may write, read off the machine at x; y is the cell of results -/
def law_ref (h : HX) (a k : Nat) : Nat := match h.2.2 a with
  | some (_, .inr (_, fs)) => (match fs[k]? with
    | some (.ref r) => r
    | _ => a)
  | _ => a
def law_W (h : HX) (x y : Nat) : List Nat := [x, y, law_ref h x 1, law_ref h x 8, law_ref h x 9, law_ref h x 10, law_ref h x 11, law_ref h x 14, law_ref h (law_ref h x 8) 0, law_ref h (law_ref h x 14) 0]
def law_F (h : HX) (v1 v3 : Option Nat) (q : Nat) : Bool := match v1, v3 with
  | some x, some y => !decide (q ∈ law_W h x y)
  | _, _ => false
def law_fz (h : HX) (v1 v3 : Option Nat) : HX := hx_frz h (law_F h v1 v3)
def law_P (h : HX) (o : Nat) (v1 v3 : Option Nat) (q : Nat) : Bool := law_F h v1 v3 q && !decide (o ≤ q ∧ q < o + 14)
theorem law_fz_mh {h : HX} {o : Nat} {s : MS} {v1 v3 : Option Nat} : hx_frz (mh h o s) (law_P h o v1 v3) = mh (law_fz h v1 v3) o s := by
  unfold law_fz hx_frz mh
  simp only [Prod.mk.injEq, true_and]
  funext q
  by_cases c1 : q = o
  · subst c1
    simp only [if_true, law_P]
    rw [decide_eq_true (⟨Nat.le_refl _, by omega⟩ : q ≤ q ∧ q < q + 14)]
    simp
  · by_cases c2 : o < q ∧ q < o + 14
    · simp only [if_neg c1, if_pos c2, law_P]
      rw [decide_eq_true (⟨by omega, by omega⟩ : o ≤ q ∧ q < o + 14)]
      simp
    · simp only [if_neg c1, if_neg c2, law_P]
      rw [decide_eq_false (fun h : o ≤ q ∧ q < o + 14 => c2 ⟨by omega, h.2⟩)]
      simp
theorem law_hole {h : HX} {o : Nat} {v1 v3 : Option Nat} (H : mh_hole h o) : mh_hole (law_fz h v1 v3) o := by
  refine ⟨H.1, fun q h1 h2 => ?_⟩
  unfold law_fz hx_frz
  simp only [H.2 q h1 h2]
def f_L_law_it (D : gx_D) (o : Nat) (k23 : (HX × MS) → Option Nat → Option Nat → Option Nat → Int32 → Option ((Bool) × HX)) (h : (HX × MS)) (v0 : Option Nat) (v1 : Option Nat) (v3 : Option Nat) (v4 : Int32) : Option ((Bool) × HX) :=
  v0.bind fun a13 =>
  (hx_len h.1 a13).bind fun x14 =>
  if (x14 - (6 : Int32)) < v4 then
  some (true, (mh h.1 o h.2))
  else
  (hx_ai h.1 a13 0 v4).bind fun x16 =>
  if (x16 &&& (63 : Int32)) = (0 : Int32) then
  (hx_ai h.1 a13 0 (v4 + (1 : Int32))).bind fun x18 =>
  (hx_ai h.1 a13 0 (v4 + (2 : Int32))).bind fun x19 =>
  (hx_ai h.1 a13 0 (v4 + (3 : Int32))).bind fun x20 =>
  (hx_ai h.1 a13 0 (v4 + (4 : Int32))).bind fun x21 =>
  (hx_ai h.1 a13 0 (v4 + (5 : Int32))).bind fun x22 =>
  v1.bind fun a23 =>
  gx_b2 (f_X1_appendInput D h.1 a23 x18 x19 x20 x21 x22) fun x25 h26 =>
  (hx_ai h26 a13 0 (v4 + (1 : Int32))).bind fun x27 =>
  (hx_ai h26 a13 0 (v4 + (2 : Int32))).bind fun x28 =>
  (hx_ai h26 a13 0 (v4 + (3 : Int32))).bind fun x29 =>
  (hx_ai h26 a13 0 (v4 + (4 : Int32))).bind fun x30 =>
  (hx_ai h26 a13 0 (v4 + (5 : Int32))).bind fun x31 =>
  gx_b2 (f_X9_appendInput D h26 o h.2 x27 x28 x29 x30 x31) fun x33 h34 =>
  if x25 = x33 then
  f_L_law_b2499 D o k23 (h26, h34) (some a13) (some a23) v3 v4
  else
  some (false, (mh h26 o h34))
  else
  if (x16 &&& (63 : Int32)) = (1 : Int32) then
  (hx_ai h.1 a13 0 (v4 + (1 : Int32))).bind fun x47 =>
  v1.bind fun a48 =>
  gx_b2 (f_X1_truncateInput D h.1 a48 x47) fun b50 h51 =>
  (hx_ai h51 a13 0 (v4 + (1 : Int32))).bind fun x52 =>
  gx_b2 (f_X9_truncateInput D h51 o h.2 x52) fun b54 h55 =>
  if (b2i b50) = (b2i b54) then
  f_L_law_b2499 D o k23 (h51, h55) (some a13) (some a48) v3 v4
  else
  some (false, (mh h51 o h55))
  else
  if (x16 &&& (63 : Int32)) = (2 : Int32) then
  v1.bind fun a60 =>
  gx_b2 (f_X1_loadMachine D h.1 a60) fun x62 h63 =>
  gx_b2 (f_X9_loadMachine D h63 o h.2) fun x65 h66 =>
  if x62 = x65 then
  f_L_law_b2499 D o k23 (h63, h66) (some a13) (some a60) v3 v4
  else
  some (false, (mh h63 o h66))
  else
  if (x16 &&& (63 : Int32)) = (3 : Int32) then
  v1.bind fun a69 =>
  gx_b2 (f_X1_runScript D h.1 a69) fun x71 h72 =>
  gx_b2 (f_X9_runScript D h72 o h.2) fun x74 h75 =>
  if x71 = x74 then
  f_L_law_b2499 D o k23 (h72, h75) (some a13) (some a69) v3 v4
  else
  some (false, (mh h72 o h75))
  else
  if (x16 &&& (63 : Int32)) = (4 : Int32) then
  v1.bind fun a78 =>
  (f_X1_errorCode D h.1 a78).bind fun x80 =>
  gx_b2 (f_X9_errorCode D h.1 o h.2) fun x82 h83 =>
  if x80 = x82 then
  f_L_law_b2499 D o k23 (h.1, h83) (some a13) (some a78) v3 v4
  else
  some (false, (mh h.1 o h83))
  else
  if (x16 &&& (63 : Int32)) = (5 : Int32) then
  v1.bind fun a86 =>
  (f_X1_errorOffset D h.1 a86).bind fun x88 =>
  gx_b2 (f_X9_errorOffset D h.1 o h.2) fun x90 h91 =>
  if x88 = x90 then
  f_L_law_b2499 D o k23 (h.1, h91) (some a13) (some a86) v3 v4
  else
  some (false, (mh h.1 o h91))
  else
  if (x16 &&& (63 : Int32)) = (6 : Int32) then
  v1.bind fun a94 =>
  (f_X1_stateCount D h.1 a94).bind fun x96 =>
  gx_b2 (f_X9_stateCount D h.1 o h.2) fun x98 h99 =>
  if x96 = x98 then
  f_L_law_b2499 D o k23 (h.1, h99) (some a13) (some a94) v3 v4
  else
  some (false, (mh h.1 o h99))
  else
  if (x16 &&& (63 : Int32)) = (7 : Int32) then
  v1.bind fun a102 =>
  (f_X1_eventCount D h.1 a102).bind fun x104 =>
  gx_b2 (f_X9_eventCount D h.1 o h.2) fun x106 h107 =>
  if x104 = x106 then
  f_L_law_b2499 D o k23 (h.1, h107) (some a13) (some a102) v3 v4
  else
  some (false, (mh h.1 o h107))
  else
  if (x16 &&& (63 : Int32)) = (8 : Int32) then
  v1.bind fun a110 =>
  (f_X1_variableCount D h.1 a110).bind fun x112 =>
  gx_b2 (f_X9_variableCount D h.1 o h.2) fun x114 h115 =>
  if x112 = x114 then
  f_L_law_b2499 D o k23 (h.1, h115) (some a13) (some a110) v3 v4
  else
  some (false, (mh h.1 o h115))
  else
  if (x16 &&& (63 : Int32)) = (9 : Int32) then
  v1.bind fun a118 =>
  (f_X1_transitionCount D h.1 a118).bind fun x120 =>
  gx_b2 (f_X9_transitionCount D h.1 o h.2) fun x122 h123 =>
  if x120 = x122 then
  f_L_law_b2499 D o k23 (h.1, h123) (some a13) (some a118) v3 v4
  else
  some (false, (mh h.1 o h123))
  else
  if (x16 &&& (63 : Int32)) = (10 : Int32) then
  v1.bind fun a126 =>
  (f_X1_invariantCount D h.1 a126).bind fun x128 =>
  gx_b2 (f_X9_invariantCount D h.1 o h.2) fun x130 h131 =>
  if x128 = x130 then
  f_L_law_b2499 D o k23 (h.1, h131) (some a13) (some a126) v3 v4
  else
  some (false, (mh h.1 o h131))
  else
  if (x16 &&& (63 : Int32)) = (11 : Int32) then
  (hx_ai h.1 a13 0 (v4 + (1 : Int32))).bind fun x134 =>
  (hx_ai h.1 a13 0 (v4 + (2 : Int32))).bind fun x135 =>
  gx_b2 (f_X0_stateNameByte D h.1 v1 x134 x135 v3) fun x137 h138 =>
  (hx_ai h138 a13 0 (v4 + (1 : Int32))).bind fun x139 =>
  (hx_ai h138 a13 0 (v4 + (2 : Int32))).bind fun x140 =>
  gx_b2 (f_X9_stateNameByte D h138 o h.2 x139 x140) fun x142 h143 =>
  (f_X9_thrown D h138 o h143).bind fun x145 =>
  if x145 = x137 then
  if x137 = 0 then
  v3.bind fun a148 =>
  (hx_al h138 a148 (0 : Int32)).bind fun x149 =>
  if (lg_cmp x149 (Int32.toInt64 x142)) = 0 then
  f_L_law_b572 D o k23 (h138, h143) (some a13) v1 (some a148) v4
  else
  some (false, (mh h138 o h143))
  else
  f_L_law_b572 D o k23 (h138, h143) (some a13) v1 v3 v4
  else
  some (false, (mh h138 o h143))
  else
  if (x16 &&& (63 : Int32)) = (12 : Int32) then
  (hx_ai h.1 a13 0 (v4 + (1 : Int32))).bind fun x157 =>
  (hx_ai h.1 a13 0 (v4 + (2 : Int32))).bind fun x158 =>
  gx_b2 (f_X0_eventNameByte D h.1 v1 x157 x158 v3) fun x160 h161 =>
  (hx_ai h161 a13 0 (v4 + (1 : Int32))).bind fun x162 =>
  (hx_ai h161 a13 0 (v4 + (2 : Int32))).bind fun x163 =>
  gx_b2 (f_X9_eventNameByte D h161 o h.2 x162 x163) fun x165 h166 =>
  (f_X9_thrown D h161 o h166).bind fun x168 =>
  if x168 = x160 then
  if x160 = 0 then
  v3.bind fun a171 =>
  (hx_al h161 a171 (0 : Int32)).bind fun x172 =>
  if (lg_cmp x172 (Int32.toInt64 x165)) = 0 then
  f_L_law_b640 D o k23 (h161, h166) (some a13) v1 (some a171) v4
  else
  some (false, (mh h161 o h166))
  else
  f_L_law_b640 D o k23 (h161, h166) (some a13) v1 v3 v4
  else
  some (false, (mh h161 o h166))
  else
  if (x16 &&& (63 : Int32)) = (13 : Int32) then
  (hx_ai h.1 a13 0 (v4 + (1 : Int32))).bind fun x180 =>
  (hx_ai h.1 a13 0 (v4 + (2 : Int32))).bind fun x181 =>
  gx_b2 (f_X0_variableNameByte D h.1 v1 x180 x181 v3) fun x183 h184 =>
  (hx_ai h184 a13 0 (v4 + (1 : Int32))).bind fun x185 =>
  (hx_ai h184 a13 0 (v4 + (2 : Int32))).bind fun x186 =>
  gx_b2 (f_X9_variableNameByte D h184 o h.2 x185 x186) fun x188 h189 =>
  (f_X9_thrown D h184 o h189).bind fun x191 =>
  if x191 = x183 then
  if x183 = 0 then
  v3.bind fun a194 =>
  (hx_al h184 a194 (0 : Int32)).bind fun x195 =>
  if (lg_cmp x195 (Int32.toInt64 x188)) = 0 then
  f_L_law_b708 D o k23 (h184, h189) (some a13) v1 (some a194) v4
  else
  some (false, (mh h184 o h189))
  else
  f_L_law_b708 D o k23 (h184, h189) (some a13) v1 v3 v4
  else
  some (false, (mh h184 o h189))
  else
  if (x16 &&& (63 : Int32)) = (14 : Int32) then
  v1.bind fun a203 =>
  (f_X1_currentState D h.1 a203).bind fun x205 =>
  gx_b2 (f_X9_currentState D h.1 o h.2) fun x207 h208 =>
  if x205 = x207 then
  f_L_law_b2499 D o k23 (h.1, h208) (some a13) (some a203) v3 v4
  else
  some (false, (mh h.1 o h208))
  else
  if (x16 &&& (63 : Int32)) = (15 : Int32) then
  (hx_ai h.1 a13 0 (v4 + (1 : Int32))).bind fun x211 =>
  gx_b2 (f_X0_valueOf D h.1 v1 x211 v3) fun x213 h214 =>
  (hx_ai h214 a13 0 (v4 + (1 : Int32))).bind fun x215 =>
  gx_b2 (f_X9_valueOf D h214 o h.2 x215) fun x217 h218 =>
  (f_X9_thrown D h214 o h218).bind fun x220 =>
  if x220 = x213 then
  if x213 = 0 then
  v3.bind fun a223 =>
  (hx_al h214 a223 (0 : Int32)).bind fun x224 =>
  if (lg_cmp x224 (Int32.toInt64 x217)) = 0 then
  f_L_law_b777 D o k23 (h214, h218) (some a13) v1 (some a223) v4
  else
  some (false, (mh h214 o h218))
  else
  f_L_law_b777 D o k23 (h214, h218) (some a13) v1 v3 v4
  else
  some (false, (mh h214 o h218))
  else
  if (x16 &&& (63 : Int32)) = (16 : Int32) then
  (hx_ai h.1 a13 0 (v4 + (1 : Int32))).bind fun x230 =>
  gx_b2 (f_X0_initialValueOf D h.1 v1 x230 v3) fun x232 h233 =>
  (hx_ai h233 a13 0 (v4 + (1 : Int32))).bind fun x234 =>
  gx_b2 (f_X9_initialValueOf D h233 o h.2 x234) fun x236 h237 =>
  (f_X9_thrown D h233 o h237).bind fun x239 =>
  if x239 = x232 then
  if x232 = 0 then
  v3.bind fun a242 =>
  (hx_al h233 a242 (0 : Int32)).bind fun x243 =>
  if (lg_cmp x243 (Int32.toInt64 x236)) = 0 then
  f_L_law_b833 D o k23 (h233, h237) (some a13) v1 (some a242) v4
  else
  some (false, (mh h233 o h237))
  else
  f_L_law_b833 D o k23 (h233, h237) (some a13) v1 v3 v4
  else
  some (false, (mh h233 o h237))
  else
  if (x16 &&& (63 : Int32)) = (17 : Int32) then
  (hx_ai h.1 a13 0 (v4 + (1 : Int32))).bind fun x249 =>
  gx_b2 (f_X0_sourceOf D h.1 v1 x249 v3) fun x251 h252 =>
  (hx_ai h252 a13 0 (v4 + (1 : Int32))).bind fun x253 =>
  gx_b2 (f_X9_sourceOf D h252 o h.2 x253) fun x255 h256 =>
  (f_X9_thrown D h252 o h256).bind fun x258 =>
  if x258 = x251 then
  if x251 = 0 then
  v3.bind fun a261 =>
  (hx_al h252 a261 (0 : Int32)).bind fun x262 =>
  if (lg_cmp x262 (Int32.toInt64 x255)) = 0 then
  f_L_law_b889 D o k23 (h252, h256) (some a13) v1 (some a261) v4
  else
  some (false, (mh h252 o h256))
  else
  f_L_law_b889 D o k23 (h252, h256) (some a13) v1 v3 v4
  else
  some (false, (mh h252 o h256))
  else
  if (x16 &&& (63 : Int32)) = (18 : Int32) then
  (hx_ai h.1 a13 0 (v4 + (1 : Int32))).bind fun x268 =>
  gx_b2 (f_X0_eventOf D h.1 v1 x268 v3) fun x270 h271 =>
  (hx_ai h271 a13 0 (v4 + (1 : Int32))).bind fun x272 =>
  gx_b2 (f_X9_eventOf D h271 o h.2 x272) fun x274 h275 =>
  (f_X9_thrown D h271 o h275).bind fun x277 =>
  if x277 = x270 then
  if x270 = 0 then
  v3.bind fun a280 =>
  (hx_al h271 a280 (0 : Int32)).bind fun x281 =>
  if (lg_cmp x281 (Int32.toInt64 x274)) = 0 then
  f_L_law_b945 D o k23 (h271, h275) (some a13) v1 (some a280) v4
  else
  some (false, (mh h271 o h275))
  else
  f_L_law_b945 D o k23 (h271, h275) (some a13) v1 v3 v4
  else
  some (false, (mh h271 o h275))
  else
  if (x16 &&& (63 : Int32)) = (19 : Int32) then
  (hx_ai h.1 a13 0 (v4 + (1 : Int32))).bind fun x287 =>
  gx_b2 (f_X0_targetOf D h.1 v1 x287 v3) fun x289 h290 =>
  (hx_ai h290 a13 0 (v4 + (1 : Int32))).bind fun x291 =>
  gx_b2 (f_X9_targetOf D h290 o h.2 x291) fun x293 h294 =>
  (f_X9_thrown D h290 o h294).bind fun x296 =>
  if x296 = x289 then
  if x289 = 0 then
  v3.bind fun a299 =>
  (hx_al h290 a299 (0 : Int32)).bind fun x300 =>
  if (lg_cmp x300 (Int32.toInt64 x293)) = 0 then
  f_L_law_b1001 D o k23 (h290, h294) (some a13) v1 (some a299) v4
  else
  some (false, (mh h290 o h294))
  else
  f_L_law_b1001 D o k23 (h290, h294) (some a13) v1 v3 v4
  else
  some (false, (mh h290 o h294))
  else
  if (x16 &&& (63 : Int32)) = (20 : Int32) then
  (hx_ai h.1 a13 0 (v4 + (1 : Int32))).bind fun x306 =>
  gx_b2 (f_X0_hasGuard D h.1 v1 x306 v3) fun x308 h309 =>
  (hx_ai h309 a13 0 (v4 + (1 : Int32))).bind fun x310 =>
  gx_b2 (f_X9_hasGuard D h309 o h.2 x310) fun b312 h313 =>
  (f_X9_thrown D h309 o h313).bind fun x315 =>
  if x315 = x308 then
  if x308 = 0 then
  v3.bind fun a318 =>
  (hx_al h309 a318 (0 : Int32)).bind fun x319 =>
  if b312 = true then
  f_L_law_b1058 D o k23 (h309, h313) (some a13) v1 (some a318) v4 ((1 : Int64)) x319
  else
  f_L_law_b1058 D o k23 (h309, h313) (some a13) v1 (some a318) v4 ((0 : Int64)) x319
  else
  f_L_law_b1064 D o k23 (h309, h313) (some a13) v1 v3 v4
  else
  some (false, (mh h309 o h313))
  else
  if (x16 &&& (63 : Int32)) = (21 : Int32) then
  (hx_ai h.1 a13 0 (v4 + (1 : Int32))).bind fun x326 =>
  gx_b2 (f_X0_guardHolds D h.1 v1 x326 v3) fun x328 h329 =>
  (hx_ai h329 a13 0 (v4 + (1 : Int32))).bind fun x330 =>
  gx_b2 (f_X9_guardHolds D h329 o h.2 x330) fun b332 h333 =>
  (f_X9_thrown D h329 o h333).bind fun x335 =>
  if x335 = x328 then
  if x328 = 0 then
  v3.bind fun a338 =>
  (hx_al h329 a338 (0 : Int32)).bind fun x339 =>
  if b332 = true then
  f_L_law_b1121 D o k23 (h329, h333) (some a13) v1 (some a338) v4 ((1 : Int64)) x339
  else
  f_L_law_b1121 D o k23 (h329, h333) (some a13) v1 (some a338) v4 ((0 : Int64)) x339
  else
  f_L_law_b1127 D o k23 (h329, h333) (some a13) v1 v3 v4
  else
  some (false, (mh h329 o h333))
  else
  if (x16 &&& (63 : Int32)) = (22 : Int32) then
  (hx_ai h.1 a13 0 (v4 + (1 : Int32))).bind fun x346 =>
  gx_b2 (f_X0_stateOfInvariant D h.1 v1 x346 v3) fun x348 h349 =>
  (hx_ai h349 a13 0 (v4 + (1 : Int32))).bind fun x350 =>
  gx_b2 (f_X9_stateOfInvariant D h349 o h.2 x350) fun x352 h353 =>
  (f_X9_thrown D h349 o h353).bind fun x355 =>
  if x355 = x348 then
  if x348 = 0 then
  v3.bind fun a358 =>
  (hx_al h349 a358 (0 : Int32)).bind fun x359 =>
  if (lg_cmp x359 (Int32.toInt64 x352)) = 0 then
  f_L_law_b1183 D o k23 (h349, h353) (some a13) v1 (some a358) v4
  else
  some (false, (mh h349 o h353))
  else
  f_L_law_b1183 D o k23 (h349, h353) (some a13) v1 v3 v4
  else
  some (false, (mh h349 o h353))
  else
  if (x16 &&& (63 : Int32)) = (23 : Int32) then
  (hx_ai h.1 a13 0 (v4 + (1 : Int32))).bind fun x365 =>
  gx_b2 (f_X0_comparisonHolds D h.1 v1 x365 v3) fun x367 h368 =>
  (hx_ai h368 a13 0 (v4 + (1 : Int32))).bind fun x369 =>
  gx_b2 (f_X9_comparisonHolds D h368 o h.2 x369) fun b371 h372 =>
  (f_X9_thrown D h368 o h372).bind fun x374 =>
  if x374 = x367 then
  if x367 = 0 then
  v3.bind fun a377 =>
  (hx_al h368 a377 (0 : Int32)).bind fun x378 =>
  if b371 = true then
  f_L_law_b1240 D o k23 (h368, h372) (some a13) v1 (some a377) v4 ((1 : Int64)) x378
  else
  f_L_law_b1240 D o k23 (h368, h372) (some a13) v1 (some a377) v4 ((0 : Int64)) x378
  else
  f_L_law_b1246 D o k23 (h368, h372) (some a13) v1 v3 v4
  else
  some (false, (mh h368 o h372))
  else
  if (x16 &&& (63 : Int32)) = (24 : Int32) then
  (hx_ai h.1 a13 0 (v4 + (1 : Int32))).bind fun x385 =>
  gx_b2 (f_X0_verdictOf D h.1 v1 x385 v3) fun x387 h388 =>
  (hx_ai h388 a13 0 (v4 + (1 : Int32))).bind fun x389 =>
  gx_b2 (f_X9_verdictOf D h388 o h.2 x389) fun x391 h392 =>
  (f_X9_thrown D h388 o h392).bind fun x394 =>
  if x394 = x387 then
  if x387 = 0 then
  v3.bind fun a397 =>
  (hx_al h388 a397 (0 : Int32)).bind fun x398 =>
  if (lg_cmp x398 (Int32.toInt64 x391)) = 0 then
  f_L_law_b1302 D o k23 (h388, h392) (some a13) v1 (some a397) v4
  else
  some (false, (mh h388 o h392))
  else
  f_L_law_b1302 D o k23 (h388, h392) (some a13) v1 v3 v4
  else
  some (false, (mh h388 o h392))
  else
  if (x16 &&& (63 : Int32)) = (25 : Int32) then
  (hx_ai h.1 a13 0 (v4 + (1 : Int32))).bind fun x404 =>
  gx_b2 (f_X0_chosenTransition D h.1 v1 x404 v3) fun x406 h407 =>
  (hx_ai h407 a13 0 (v4 + (1 : Int32))).bind fun x408 =>
  gx_b2 (f_X9_chosenTransition D h407 o h.2 x408) fun x410 h411 =>
  (f_X9_thrown D h407 o h411).bind fun x413 =>
  if x413 = x406 then
  if x406 = 0 then
  v3.bind fun a416 =>
  (hx_al h407 a416 (0 : Int32)).bind fun x417 =>
  if (lg_cmp x417 (Int32.toInt64 x410)) = 0 then
  f_L_law_b1358 D o k23 (h407, h411) (some a13) v1 (some a416) v4
  else
  some (false, (mh h407 o h411))
  else
  f_L_law_b1358 D o k23 (h407, h411) (some a13) v1 v3 v4
  else
  some (false, (mh h407 o h411))
  else
  if (x16 &&& (63 : Int32)) = (26 : Int32) then
  (hx_ai h.1 a13 0 (v4 + (1 : Int32))).bind fun x423 =>
  gx_b2 (f_X0_brokenInvariant D h.1 v1 x423 v3) fun x425 h426 =>
  (hx_ai h426 a13 0 (v4 + (1 : Int32))).bind fun x427 =>
  gx_b2 (f_X9_brokenInvariant D h426 o h.2 x427) fun x429 h430 =>
  (f_X9_thrown D h426 o h430).bind fun x432 =>
  if x432 = x425 then
  if x425 = 0 then
  v3.bind fun a435 =>
  (hx_al h426 a435 (0 : Int32)).bind fun x436 =>
  if (lg_cmp x436 (Int32.toInt64 x429)) = 0 then
  f_L_law_b1414 D o k23 (h426, h430) (some a13) v1 (some a435) v4
  else
  some (false, (mh h426 o h430))
  else
  f_L_law_b1414 D o k23 (h426, h430) (some a13) v1 v3 v4
  else
  some (false, (mh h426 o h430))
  else
  if (x16 &&& (63 : Int32)) = (27 : Int32) then
  v1.bind fun a442 =>
  (f_X1_isDeadlocked D h.1 a442).bind fun b444 =>
  gx_b2 (f_X9_isDeadlocked D h.1 o h.2) fun b446 h447 =>
  if (b2i b444) = (b2i b446) then
  f_L_law_b2499 D o k23 (h.1, h447) (some a13) (some a442) v3 v4
  else
  some (false, (mh h.1 o h447))
  else
  if (x16 &&& (63 : Int32)) = (28 : Int32) then
  (hx_ai h.1 a13 0 (v4 + (1 : Int32))).bind fun x450 =>
  gx_b2 (f_X0_timesTaken D h.1 v1 x450 v3) fun x452 h453 =>
  (hx_ai h453 a13 0 (v4 + (1 : Int32))).bind fun x454 =>
  gx_b2 (f_X9_timesTaken D h453 o h.2 x454) fun x456 h457 =>
  (f_X9_thrown D h453 o h457).bind fun x459 =>
  if x459 = x452 then
  if x452 = 0 then
  v3.bind fun a462 =>
  (hx_al h453 a462 (0 : Int32)).bind fun x463 =>
  if (lg_cmp x463 (Int32.toInt64 x456)) = 0 then
  f_L_law_b1483 D o k23 (h453, h457) (some a13) v1 (some a462) v4
  else
  some (false, (mh h453 o h457))
  else
  f_L_law_b1483 D o k23 (h453, h457) (some a13) v1 v3 v4
  else
  some (false, (mh h453 o h457))
  else
  if (x16 &&& (63 : Int32)) = (29 : Int32) then
  (hx_ai h.1 a13 0 (v4 + (1 : Int32))).bind fun x469 =>
  gx_b2 (f_X0_visitsOf D h.1 v1 x469 v3) fun x471 h472 =>
  (hx_ai h472 a13 0 (v4 + (1 : Int32))).bind fun x473 =>
  gx_b2 (f_X9_visitsOf D h472 o h.2 x473) fun x475 h476 =>
  (f_X9_thrown D h472 o h476).bind fun x478 =>
  if x478 = x471 then
  if x471 = 0 then
  v3.bind fun a481 =>
  (hx_al h472 a481 (0 : Int32)).bind fun x482 =>
  if (lg_cmp x482 (Int32.toInt64 x475)) = 0 then
  f_L_law_b1539 D o k23 (h472, h476) (some a13) v1 (some a481) v4
  else
  some (false, (mh h472 o h476))
  else
  f_L_law_b1539 D o k23 (h472, h476) (some a13) v1 v3 v4
  else
  some (false, (mh h472 o h476))
  else
  if (x16 &&& (63 : Int32)) = (30 : Int32) then
  v1.bind fun a488 =>
  (f_X1_acceptedCount D h.1 a488).bind fun x490 =>
  gx_b2 (f_X9_acceptedCount D h.1 o h.2) fun x492 h493 =>
  if x490 = x492 then
  f_L_law_b2499 D o k23 (h.1, h493) (some a13) (some a488) v3 v4
  else
  some (false, (mh h.1 o h493))
  else
  if (x16 &&& (63 : Int32)) = (31 : Int32) then
  v1.bind fun a496 =>
  (f_X1_rejectedCount D h.1 a496).bind fun x498 =>
  gx_b2 (f_X9_rejectedCount D h.1 o h.2) fun x500 h501 =>
  if x498 = x500 then
  f_L_law_b2499 D o k23 (h.1, h501) (some a13) (some a496) v3 v4
  else
  some (false, (mh h.1 o h501))
  else
  if (x16 &&& (63 : Int32)) = (32 : Int32) then
  (hx_ai h.1 a13 0 (v4 + (1 : Int32))).bind fun x504 =>
  gx_b2 (f_X0_rejectedWith D h.1 v1 x504 v3) fun x506 h507 =>
  (hx_ai h507 a13 0 (v4 + (1 : Int32))).bind fun x508 =>
  gx_b2 (f_X9_rejectedWith D h507 o h.2 x508) fun x510 h511 =>
  (f_X9_thrown D h507 o h511).bind fun x513 =>
  if x513 = x506 then
  if x506 = 0 then
  v3.bind fun a516 =>
  (hx_al h507 a516 (0 : Int32)).bind fun x517 =>
  if (lg_cmp x517 (Int32.toInt64 x510)) = 0 then
  f_L_law_b1621 D o k23 (h507, h511) (some a13) v1 (some a516) v4
  else
  some (false, (mh h507 o h511))
  else
  f_L_law_b1621 D o k23 (h507, h511) (some a13) v1 v3 v4
  else
  some (false, (mh h507 o h511))
  else
  if (x16 &&& (63 : Int32)) = (33 : Int32) then
  v1.bind fun a523 =>
  (f_X1_stateCoverage D h.1 a523).bind fun x525 =>
  if (FP.f2d x525) &&& 0x7fffffffffffffff ≤ 0x7ff0000000000000 then
  gx_b2 (f_X9_stateCoverage D h.1 o h.2) fun x528 h529 =>
  if (FP.f2d x528) &&& 0x7fffffffffffffff ≤ 0x7ff0000000000000 then
  if (Op.cmpValue (FP.dcmp (FP.f2d x525) (FP.f2d x528)) .l) = 0 then
  f_L_law_b1664 D o k23 (h.1, h529) (some a13) (some a523) v3 v4
  else
  if (Op.cmpValue (FP.dcmp (FP.f2d x525) (FP.f2d x525)) .l) = 0 then
  some (false, (mh h.1 o h529))
  else
  if (Op.cmpValue (FP.dcmp (FP.f2d x528) (FP.f2d x528)) .l) = 0 then
  some (false, (mh h.1 o h529))
  else
  f_L_law_b1664 D o k23 (h.1, h529) (some a13) (some a523) v3 v4
  else none
  else none
  else
  if (x16 &&& (63 : Int32)) = (34 : Int32) then
  v1.bind fun a535 =>
  (f_X1_transitionCoverage D h.1 a535).bind fun x537 =>
  if (FP.f2d x537) &&& 0x7fffffffffffffff ≤ 0x7ff0000000000000 then
  gx_b2 (f_X9_transitionCoverage D h.1 o h.2) fun x540 h541 =>
  if (FP.f2d x540) &&& 0x7fffffffffffffff ≤ 0x7ff0000000000000 then
  if (Op.cmpValue (FP.dcmp (FP.f2d x537) (FP.f2d x540)) .l) = 0 then
  f_L_law_b1707 D o k23 (h.1, h541) (some a13) (some a535) v3 v4
  else
  if (Op.cmpValue (FP.dcmp (FP.f2d x537) (FP.f2d x537)) .l) = 0 then
  some (false, (mh h.1 o h541))
  else
  if (Op.cmpValue (FP.dcmp (FP.f2d x540) (FP.f2d x540)) .l) = 0 then
  some (false, (mh h.1 o h541))
  else
  f_L_law_b1707 D o k23 (h.1, h541) (some a13) (some a535) v3 v4
  else none
  else none
  else
  if (x16 &&& (63 : Int32)) = (35 : Int32) then
  v1.bind fun a547 =>
  (f_X1_firstUncovered D h.1 a547).bind fun x549 =>
  gx_b2 (f_X9_firstUncovered D h.1 o h.2) fun x551 h552 =>
  if x549 = x551 then
  f_L_law_b2499 D o k23 (h.1, h552) (some a13) (some a547) v3 v4
  else
  some (false, (mh h.1 o h552))
  else
  if (x16 &&& (63 : Int32)) = (36 : Int32) then
  v1.bind fun a555 =>
  (f_X1_mostVisitedState D h.1 a555).bind fun x557 =>
  gx_b2 (f_X9_mostVisitedState D h.1 o h.2) fun x559 h560 =>
  if x557 = x559 then
  f_L_law_b2499 D o k23 (h.1, h560) (some a13) (some a555) v3 v4
  else
  some (false, (mh h.1 o h560))
  else
  if (x16 &&& (63 : Int32)) = (37 : Int32) then
  v1.bind fun a563 =>
  (f_X1_traceLength D h.1 a563).bind fun x565 =>
  gx_b2 (f_X9_traceLength D h.1 o h.2) fun x567 h568 =>
  if x565 = x567 then
  f_L_law_b2499 D o k23 (h.1, h568) (some a13) (some a563) v3 v4
  else
  some (false, (mh h.1 o h568))
  else
  if (x16 &&& (63 : Int32)) = (38 : Int32) then
  (hx_ai h.1 a13 0 (v4 + (1 : Int32))).bind fun x571 =>
  v1.bind fun a572 =>
  (f_X1_traceEvent D h.1 a572 x571).bind fun x574 =>
  (hx_ai h.1 a13 0 (v4 + (1 : Int32))).bind fun x575 =>
  gx_b2 (f_X9_traceEvent D h.1 o h.2 x575) fun x577 h578 =>
  if x574 = x577 then
  f_L_law_b2499 D o k23 (h.1, h578) (some a13) (some a572) v3 v4
  else
  some (false, (mh h.1 o h578))
  else
  if (x16 &&& (63 : Int32)) = (39 : Int32) then
  (hx_ai h.1 a13 0 (v4 + (1 : Int32))).bind fun x583 =>
  v1.bind fun a584 =>
  (f_X1_traceTransition D h.1 a584 x583).bind fun x586 =>
  (hx_ai h.1 a13 0 (v4 + (1 : Int32))).bind fun x587 =>
  gx_b2 (f_X9_traceTransition D h.1 o h.2 x587) fun x589 h590 =>
  if x586 = x589 then
  f_L_law_b2499 D o k23 (h.1, h590) (some a13) (some a584) v3 v4
  else
  some (false, (mh h.1 o h590))
  else
  if (x16 &&& (63 : Int32)) = (40 : Int32) then
  v1.bind fun a595 =>
  gx_b2 (f_X1_reachableCount D h.1 a595) fun x597 h598 =>
  gx_b2 (f_X9_reachableCount D h598 o h.2) fun x600 h601 =>
  if x597 = x600 then
  f_L_law_b2499 D o k23 (h598, h601) (some a13) (some a595) v3 v4
  else
  some (false, (mh h598 o h601))
  else
  if (x16 &&& (63 : Int32)) = (41 : Int32) then
  (hx_ai h.1 a13 0 (v4 + (1 : Int32))).bind fun x604 =>
  gx_b2 (f_X0_isReachable D h.1 v1 x604 v3) fun x606 h607 =>
  (hx_ai h607 a13 0 (v4 + (1 : Int32))).bind fun x608 =>
  gx_b2 (f_X9_isReachable D h607 o h.2 x608) fun b610 h611 =>
  (f_X9_thrown D h607 o h611).bind fun x613 =>
  if x613 = x606 then
  if x606 = 0 then
  v3.bind fun a616 =>
  (hx_al h607 a616 (0 : Int32)).bind fun x617 =>
  if b610 = true then
  f_L_law_b1866 D o k23 (h607, h611) (some a13) v1 (some a616) v4 ((1 : Int64)) x617
  else
  f_L_law_b1866 D o k23 (h607, h611) (some a13) v1 (some a616) v4 ((0 : Int64)) x617
  else
  f_L_law_b1872 D o k23 (h607, h611) (some a13) v1 v3 v4
  else
  some (false, (mh h607 o h611))
  else
  if (x16 &&& (63 : Int32)) = (42 : Int32) then
  (hx_ai h.1 a13 0 (v4 + (1 : Int32))).bind fun x624 =>
  gx_b2 (f_X0_canBeTaken D h.1 v1 x624 v3) fun x626 h627 =>
  (hx_ai h627 a13 0 (v4 + (1 : Int32))).bind fun x628 =>
  gx_b2 (f_X9_canBeTaken D h627 o h.2 x628) fun b630 h631 =>
  (f_X9_thrown D h627 o h631).bind fun x633 =>
  if x633 = x626 then
  if x626 = 0 then
  v3.bind fun a636 =>
  (hx_al h627 a636 (0 : Int32)).bind fun x637 =>
  if b630 = true then
  f_L_law_b1929 D o k23 (h627, h631) (some a13) v1 (some a636) v4 ((1 : Int64)) x637
  else
  f_L_law_b1929 D o k23 (h627, h631) (some a13) v1 (some a636) v4 ((0 : Int64)) x637
  else
  f_L_law_b1935 D o k23 (h627, h631) (some a13) v1 v3 v4
  else
  some (false, (mh h627 o h631))
  else
  if (x16 &&& (63 : Int32)) = (43 : Int32) then
  (hx_ai h.1 a13 0 (v4 + (1 : Int32))).bind fun x644 =>
  gx_b2 (f_X0_stepsTo D h.1 v1 x644 v3) fun x646 h647 =>
  (hx_ai h647 a13 0 (v4 + (1 : Int32))).bind fun x648 =>
  gx_b2 (f_X9_stepsTo D h647 o h.2 x648) fun x650 h651 =>
  (f_X9_thrown D h647 o h651).bind fun x653 =>
  if x653 = x646 then
  if x646 = 0 then
  v3.bind fun a656 =>
  (hx_al h647 a656 (0 : Int32)).bind fun x657 =>
  if (lg_cmp x657 (Int32.toInt64 x650)) = 0 then
  f_L_law_b1991 D o k23 (h647, h651) (some a13) v1 (some a656) v4
  else
  some (false, (mh h647 o h651))
  else
  f_L_law_b1991 D o k23 (h647, h651) (some a13) v1 v3 v4
  else
  some (false, (mh h647 o h651))
  else
  if (x16 &&& (63 : Int32)) = (44 : Int32) then
  (hx_ai h.1 a13 0 (v4 + (1 : Int32))).bind fun x663 =>
  gx_b2 (f_X0_firstEventTo D h.1 v1 x663 v3) fun x665 h666 =>
  (hx_ai h666 a13 0 (v4 + (1 : Int32))).bind fun x667 =>
  gx_b2 (f_X9_firstEventTo D h666 o h.2 x667) fun x669 h670 =>
  (f_X9_thrown D h666 o h670).bind fun x672 =>
  if x672 = x665 then
  if x665 = 0 then
  v3.bind fun a675 =>
  (hx_al h666 a675 (0 : Int32)).bind fun x676 =>
  if (lg_cmp x676 (Int32.toInt64 x669)) = 0 then
  f_L_law_b2047 D o k23 (h666, h670) (some a13) v1 (some a675) v4
  else
  some (false, (mh h666 o h670))
  else
  f_L_law_b2047 D o k23 (h666, h670) (some a13) v1 v3 v4
  else
  some (false, (mh h666 o h670))
  else
  if (x16 &&& (63 : Int32)) = (45 : Int32) then
  v1.bind fun a682 =>
  gx_b2 (f_X1_deadlockCount D h.1 a682) fun x684 h685 =>
  gx_b2 (f_X9_deadlockCount D h685 o h.2) fun x687 h688 =>
  if x684 = x687 then
  f_L_law_b2499 D o k23 (h685, h688) (some a13) (some a682) v3 v4
  else
  some (false, (mh h685 o h688))
  else
  if (x16 &&& (63 : Int32)) = (46 : Int32) then
  v1.bind fun a691 =>
  gx_b2 (f_X1_stepsToDeadlock D h.1 a691) fun x693 h694 =>
  gx_b2 (f_X9_stepsToDeadlock D h694 o h.2) fun x696 h697 =>
  if x693 = x696 then
  f_L_law_b2499 D o k23 (h694, h697) (some a13) (some a691) v3 v4
  else
  some (false, (mh h694 o h697))
  else
  if (x16 &&& (63 : Int32)) = (47 : Int32) then
  v1.bind fun a700 =>
  gx_b2 (f_X1_isConsistent D h.1 a700) fun b702 h703 =>
  gx_b2 (f_X9_isConsistent D h703 o h.2) fun b705 h706 =>
  if (b2i b702) = (b2i b705) then
  f_L_law_b2499 D o k23 (h703, h706) (some a13) (some a700) v3 v4
  else
  some (false, (mh h703 o h706))
  else
  if (x16 &&& (63 : Int32)) = (48 : Int32) then
  v1.bind fun a709 =>
  (f_X1_meanValue D h.1 a709).bind fun x711 =>
  gx_b2 (f_X9_meanValue D h.1 o h.2) fun x713 h714 =>
  if (Op.cmpValue (FP.dcmp x711 x713) .l) = 0 then
  f_L_law_b2127 D o k23 (h.1, h714) (some a13) (some a709) v3 v4
  else
  if (Op.cmpValue (FP.dcmp x711 x711) .l) = 0 then
  some (false, (mh h.1 o h714))
  else
  if (Op.cmpValue (FP.dcmp x713 x713) .l) = 0 then
  some (false, (mh h.1 o h714))
  else
  f_L_law_b2127 D o k23 (h.1, h714) (some a13) (some a709) v3 v4
  else
  if (x16 &&& (63 : Int32)) = (49 : Int32) then
  (hx_ai h.1 a13 0 (v4 + (1 : Int32))).bind fun x719 =>
  gx_b2 (f_X0_fire D h.1 v1 x719 v3) fun x721 h722 =>
  (hx_ai h722 a13 0 (v4 + (1 : Int32))).bind fun x723 =>
  gx_b2 (f_X9_fire D h722 o h.2 x723) fun x725 h726 =>
  (f_X9_thrown D h722 o h726).bind fun x728 =>
  if x728 = x721 then
  if x721 = 0 then
  v3.bind fun a731 =>
  (hx_al h722 a731 (0 : Int32)).bind fun x732 =>
  if (lg_cmp x732 (Int32.toInt64 x725)) = 0 then
  f_L_law_b2183 D o k23 (h722, h726) (some a13) v1 (some a731) v4
  else
  some (false, (mh h722 o h726))
  else
  f_L_law_b2183 D o k23 (h722, h726) (some a13) v1 v3 v4
  else
  some (false, (mh h722 o h726))
  else
  if (x16 &&& (63 : Int32)) = (50 : Int32) then
  (hx_ai h.1 a13 0 (v4 + (1 : Int32))).bind fun x738 =>
  (hx_ai h.1 a13 0 (v4 + (2 : Int32))).bind fun x739 =>
  gx_b2 (f_X0_setValue D h.1 v1 x738 x739 v3) fun x741 h742 =>
  (hx_ai h742 a13 0 (v4 + (1 : Int32))).bind fun x743 =>
  (hx_ai h742 a13 0 (v4 + (2 : Int32))).bind fun x744 =>
  gx_b2 (f_X9_setValue D h742 o h.2 x743 x744) fun x746 h747 =>
  (f_X9_thrown D h742 o h747).bind fun x749 =>
  if x749 = x741 then
  if x741 = 0 then
  v3.bind fun a752 =>
  (hx_al h742 a752 (0 : Int32)).bind fun x753 =>
  if (lg_cmp x753 (Int32.toInt64 x746)) = 0 then
  f_L_law_b2251 D o k23 (h742, h747) (some a13) v1 (some a752) v4
  else
  some (false, (mh h742 o h747))
  else
  f_L_law_b2251 D o k23 (h742, h747) (some a13) v1 v3 v4
  else
  some (false, (mh h742 o h747))
  else
  if (x16 &&& (63 : Int32)) = (51 : Int32) then
  v1.bind fun a761 =>
  gx_b2 (f_X1_reset D h.1 a761) fun x763 h764 =>
  gx_b2 (f_X9_reset D h764 o h.2) fun x766 h767 =>
  if x763 = x766 then
  f_L_law_b2499 D o k23 (h764, h767) (some a13) (some a761) v3 v4
  else
  some (false, (mh h764 o h767))
  else
  if (x16 &&& (63 : Int32)) = (52 : Int32) then
  v1.bind fun a770 =>
  gx_b2 (f_X1_clearCoverage D h.1 a770) fun x772 h773 =>
  gx_b2 (f_X9_clearCoverage D h773 o h.2) fun x775 h776 =>
  if x772 = x775 then
  f_L_law_b2499 D o k23 (h773, h776) (some a13) (some a770) v3 v4
  else
  some (false, (mh h773 o h776))
  else
  if (x16 &&& (63 : Int32)) = (53 : Int32) then
  (hx_ai h.1 a13 0 (v4 + (1 : Int32))).bind fun x779 =>
  (hx_ai h.1 a13 0 (v4 + (2 : Int32))).bind fun x780 =>
  (hx_ai h.1 a13 0 (v4 + (3 : Int32))).bind fun x781 =>
  gx_b2 (f_X0_addAlways D h.1 v1 x779 x780 x781 v3) fun x783 h784 =>
  (hx_ai h784 a13 0 (v4 + (1 : Int32))).bind fun x785 =>
  (hx_ai h784 a13 0 (v4 + (2 : Int32))).bind fun x786 =>
  (hx_ai h784 a13 0 (v4 + (3 : Int32))).bind fun x787 =>
  gx_b2 (f_X9_addAlways D h784 o h.2 x785 x786 x787) fun x789 h790 =>
  (f_X9_thrown D h784 o h790).bind fun x792 =>
  if x792 = x783 then
  if x783 = 0 then
  v3.bind fun a795 =>
  (hx_al h784 a795 (0 : Int32)).bind fun x796 =>
  if (lg_cmp x796 (Int32.toInt64 x789)) = 0 then
  f_L_law_b2357 D o k23 (h784, h790) (some a13) v1 (some a795) v4
  else
  some (false, (mh h784 o h790))
  else
  f_L_law_b2357 D o k23 (h784, h790) (some a13) v1 v3 v4
  else
  some (false, (mh h784 o h790))
  else
  if (x16 &&& (63 : Int32)) = (54 : Int32) then
  gx_b2 (f_X0_undo D h.1 v1 v3) fun x807 h808 =>
  gx_b2 (f_X9_undo D h808 o h.2) fun x810 h811 =>
  (f_X9_thrown D h808 o h811).bind fun x813 =>
  if x813 = x807 then
  if x807 = 0 then
  v3.bind fun a816 =>
  (hx_al h808 a816 (0 : Int32)).bind fun x817 =>
  if (lg_cmp x817 (Int32.toInt64 x810)) = 0 then
  f_L_law_b2401 D o k23 (h808, h811) (some a13) v1 (some a816) v4
  else
  some (false, (mh h808 o h811))
  else
  f_L_law_b2401 D o k23 (h808, h811) (some a13) v1 v3 v4
  else
  some (false, (mh h808 o h811))
  else
  if (x16 &&& (63 : Int32)) = (55 : Int32) then
  v1.bind fun a821 =>
  gx_b2 (f_X1_writeConfiguration D h.1 a821) fun x823 h824 =>
  gx_b2 (f_X9_writeConfiguration D h824 o h.2) fun x826 h827 =>
  if x823 = x826 then
  f_L_law_b2499 D o k23 (h824, h827) (some a13) (some a821) v3 v4
  else
  some (false, (mh h824 o h827))
  else
  if (x16 &&& (63 : Int32)) = (56 : Int32) then
  (hx_ai h.1 a13 0 (v4 + (1 : Int32))).bind fun x830 =>
  v1.bind fun a831 =>
  (f_X1_outputByte D h.1 a831 x830).bind fun x833 =>
  (hx_ai h.1 a13 0 (v4 + (1 : Int32))).bind fun x834 =>
  gx_b2 (f_X9_outputByte D h.1 o h.2 x834) fun x836 h837 =>
  if x833 = x836 then
  f_L_law_b2499 D o k23 (h.1, h837) (some a13) (some a831) v3 v4
  else
  some (false, (mh h.1 o h837))
  else
  if (x16 &&& (63 : Int32)) = (57 : Int32) then
  v1.bind fun a842 =>
  gx_b2 (f_X1_saveState D h.1 a842) fun x844 h845 =>
  gx_b2 (f_X9_saveState D h845 o h.2) fun x847 h848 =>
  if x844 = x847 then
  f_L_law_b2499 D o k23 (h845, h848) (some a13) (some a842) v3 v4
  else
  some (false, (mh h845 o h848))
  else
  if (x16 &&& (63 : Int32)) = (58 : Int32) then
  gx_b2 (f_X0_restoreState D h.1 v1 v3) fun x852 h853 =>
  gx_b2 (f_X9_restoreState D h853 o h.2) fun x855 h856 =>
  (f_X9_thrown D h853 o h856).bind fun x858 =>
  if x858 = x852 then
  if x852 = 0 then
  v3.bind fun a861 =>
  (hx_al h853 a861 (0 : Int32)).bind fun x862 =>
  if (lg_cmp x862 (Int32.toInt64 x855)) = 0 then
  f_L_law_b2496 D o k23 (h853, h856) (some a13) v1 (some a861) v4
  else
  some (false, (mh h853 o h856))
  else
  f_L_law_b2496 D o k23 (h853, h856) (some a13) v1 v3 v4
  else
  some (false, (mh h853 o h856))
  else
  if (x16 &&& (63 : Int32)) < (0 : Int32) ∨ (58 : Int32) < (x16 &&& (63 : Int32)) then
  f_L_law_b2499 D o k23 (h.1, h.2) (some a13) v1 v3 v4
  else none
def f_L_law_b23 (D : gx_D) (o : Nat) : Nat → (HX × MS) → Option Nat → Option Nat → Option Nat → Int32 → Option ((Bool) × HX)
  | 0, _, _, _, _, _ => none
  | n + 1, h, v0, v1, v3, v4 => f_L_law_it D o (f_L_law_b23 D o n) (law_fz h.1 v1 v3, h.2) v0 v1 v3 v4
theorem w_L_law_it {l : Launch} (hlt : l.stackTraces = false) {p : Program} {e : Env} {R : Room} {s : State} {m : MethodId} {args : Array Value} {below : List Frame} {meth : Method} {c : Code} {D : gx_D} {h0 : HX} {r : Bool} {hz : HX} (C : gx_Ctx p R s m args meth c "ContractMachineLaw" cL_law 9 (some .boolean) 17 396 D h0 hz) (hx : meth.name = "law") {o : Nat}  {k23 : (HX × MS) → Option Nat → Option Nat → Option Nat → Int32 → Option ((Bool) × HX)} (wk23 : ∀ ⦃h : (HX × MS)⦄ ⦃v0 : Option Nat⦄ ⦃v1 : Option Nat⦄ ⦃v3 : Option Nat⦄ ⦃v4 : Int32⦄, k23 h v0 v1 v3 v4 = some (r, hz) → mh_hole h.1 o → gx_G p l e R s m args below meth c D h0 hz 9 (gx_MQ below args s D h0 hz (some (.int (b2i r)))) 23 [(0, (va_rf v0)), (1, (va_rf v1)), (2, (va_rf (some o))), (3, (va_rf v3)), (4, (.int v4))] [] (mh h.1 o h.2)) {h : (HX × MS)} {v0 : Option Nat} {v1 : Option Nat} {v3 : Option Nat} {v4 : Int32} (hf : f_L_law_it D o k23 h v0 v1 v3 v4 = some (r, hz)) (hH : mh_hole h.1 o) : gx_G p l e R s m args below meth c D h0 hz 9 (gx_MQ below args s D h0 hz (some (.int (b2i r)))) 23 [(0, (va_rf v0)), (1, (va_rf v1)), (2, (va_rf (some o))), (3, (va_rf v3)), (4, (.int v4))] [] (mh h.1 o h.2) := by
  unfold f_L_law_it at hf
  refine gx_iload C dL_law_23 4 rfl ?_
  refine gx_aload_n C dL_law_25 0 rfl ?_
  replace hf := gx_bs hf
  obtain ⟨a13, rfl, hf⟩ := hf
  replace hf := gx_bs hf
  obtain ⟨x14, g867, hf⟩ := hf
  refine gx_alen C (mh_olen hH g867) dL_law_26 ?_
  refine gx_bipush (v := 6) C dL_law_27 rfl ?_
  refine gx_isub C dL_law_29 ?_
  replace hf := gx_ite hf
  rcases hf with ⟨c15, hf⟩ | ⟨c15, hf⟩
  · refine gx_icmp_gt_t (tgt := 2505) C dL_law_30 rfl c15 ?_
    refine gx_iconst (v := 1) C dL_law_2505 rfl ?_
    obtain ⟨rfl, rfl⟩ := Prod.mk.inj (Option.some.inj hf)
    exact gx_zret (b := true) C dL_law_2506
  · refine gx_icmp_gt_f (tgt := 2505) C dL_law_30 rfl c15 ?_
    refine gx_aload_n C dL_law_33 0 rfl ?_
    refine gx_iload C dL_law_34 4 rfl ?_
    replace hf := gx_bs hf
    obtain ⟨x16, g866, hf⟩ := hf
    refine gx_iald C (mh_oai hH g866) dL_law_36 ?_
    refine gx_bipush (v := 63) C dL_law_37 rfl ?_
    refine gx_iand C dL_law_39 ?_
    replace hf := gx_ite hf
    rcases hf with ⟨c17, hf⟩ | ⟨c17, hf⟩
    · refine gx_tswIn (tgt := 292) C dL_law_40 (by rw [c17]; decide) (by rw [c17]; decide) (off := 252) (by rw [c17]; rfl) rfl ?_
      refine gx_aload_n C dL_law_292 1 rfl ?_
      refine gx_aload_n C dL_law_293 0 rfl ?_
      refine gx_iload C dL_law_294 4 rfl ?_
      refine gx_iconst (v := 1) C dL_law_296 rfl ?_
      refine gx_iadd C dL_law_297 ?_
      replace hf := gx_bs hf
      obtain ⟨x18, g45, hf⟩ := hf
      refine gx_iald C (mh_oai hH g45) dL_law_298 ?_
      refine gx_aload_n C dL_law_299 0 rfl ?_
      refine gx_iload C dL_law_300 4 rfl ?_
      refine gx_iconst (v := 2) C dL_law_302 rfl ?_
      refine gx_iadd C dL_law_303 ?_
      replace hf := gx_bs hf
      obtain ⟨x19, g44, hf⟩ := hf
      refine gx_iald C (mh_oai hH g44) dL_law_304 ?_
      refine gx_aload_n C dL_law_305 0 rfl ?_
      refine gx_iload C dL_law_306 4 rfl ?_
      refine gx_iconst (v := 3) C dL_law_308 rfl ?_
      refine gx_iadd C dL_law_309 ?_
      replace hf := gx_bs hf
      obtain ⟨x20, g43, hf⟩ := hf
      refine gx_iald C (mh_oai hH g43) dL_law_310 ?_
      refine gx_aload_n C dL_law_311 0 rfl ?_
      refine gx_iload C dL_law_312 4 rfl ?_
      refine gx_iconst (v := 4) C dL_law_314 rfl ?_
      refine gx_iadd C dL_law_315 ?_
      replace hf := gx_bs hf
      obtain ⟨x21, g42, hf⟩ := hf
      refine gx_iald C (mh_oai hH g42) dL_law_316 ?_
      refine gx_aload_n C dL_law_317 0 rfl ?_
      refine gx_iload C dL_law_318 4 rfl ?_
      refine gx_iconst (v := 5) C dL_law_320 rfl ?_
      refine gx_iadd C dL_law_321 ?_
      replace hf := gx_bs hf
      obtain ⟨x22, g41, hf⟩ := hf
      refine gx_iald C (mh_oai hH g41) dL_law_322 ?_
      replace hf := gx_bs hf
      obtain ⟨a23, rfl, hf⟩ := hf
      replace hf := gx_b2s hf
      obtain ⟨x25, h26, g24, hf⟩ := hf
      refine gx_callV (st := []) C ((w_X1_appendInput hlt g24).over hH) (mh_ois hH (is_X1_appendInput g24)) gz_108 rfl (lw_V q941 q942 q943 q121 q944) gz_635 (by decide) rfl rfl (gx_catn (Nat.le_of_ble_eq_true rfl)) dL_law_323 ?_
      have hH := hH.le (le_X1_appendInput g24)
      refine gx_aload_n C dL_law_326 2 rfl ?_
      refine gx_aload_n C dL_law_327 0 rfl ?_
      refine gx_iload C dL_law_328 4 rfl ?_
      refine gx_iconst (v := 1) C dL_law_330 rfl ?_
      refine gx_iadd C dL_law_331 ?_
      replace hf := gx_bs hf
      obtain ⟨x27, g40, hf⟩ := hf
      refine gx_iald C (mh_oai hH g40) dL_law_332 ?_
      refine gx_aload_n C dL_law_333 0 rfl ?_
      refine gx_iload C dL_law_334 4 rfl ?_
      refine gx_iconst (v := 2) C dL_law_336 rfl ?_
      refine gx_iadd C dL_law_337 ?_
      replace hf := gx_bs hf
      obtain ⟨x28, g39, hf⟩ := hf
      refine gx_iald C (mh_oai hH g39) dL_law_338 ?_
      refine gx_aload_n C dL_law_339 0 rfl ?_
      refine gx_iload C dL_law_340 4 rfl ?_
      refine gx_iconst (v := 3) C dL_law_342 rfl ?_
      refine gx_iadd C dL_law_343 ?_
      replace hf := gx_bs hf
      obtain ⟨x29, g38, hf⟩ := hf
      refine gx_iald C (mh_oai hH g38) dL_law_344 ?_
      refine gx_aload_n C dL_law_345 0 rfl ?_
      refine gx_iload C dL_law_346 4 rfl ?_
      refine gx_iconst (v := 4) C dL_law_348 rfl ?_
      refine gx_iadd C dL_law_349 ?_
      replace hf := gx_bs hf
      obtain ⟨x30, g37, hf⟩ := hf
      refine gx_iald C (mh_oai hH g37) dL_law_350 ?_
      refine gx_aload_n C dL_law_351 0 rfl ?_
      refine gx_iload C dL_law_352 4 rfl ?_
      refine gx_iconst (v := 5) C dL_law_354 rfl ?_
      refine gx_iadd C dL_law_355 ?_
      replace hf := gx_bs hf
      obtain ⟨x31, g36, hf⟩ := hf
      refine gx_iald C (mh_oai hH g36) dL_law_356 ?_
      replace hf := gx_b2s hf
      obtain ⟨x33, h34, g32, hf⟩ := hf
      refine gx_callV (st := [(.int x25)]) C (w_X9_appendInput hlt g32) mh_is gz_497 rfl (lw_V q2733 q2734 q2735 q151 q2736) gz_636 (by decide) rfl rfl (gx_catn (Nat.le_of_ble_eq_true rfl)) dL_law_357 ?_
      replace hf := gx_ite hf
      rcases hf with ⟨c35, hf⟩ | ⟨c35, hf⟩
      · refine gx_icmp_eq_t (tgt := 2499) C dL_law_360 rfl c35 ?_
        refine gx_sub [0, 1, 2, 3, 4] rfl ?_
        exact w_L_law_b2499 hlt C hx wk23 hf hH
      · refine gx_icmp_eq_f (tgt := 2499) C dL_law_360 rfl c35 ?_
        refine gx_iconst (v := 0) C dL_law_363 rfl ?_
        obtain ⟨rfl, rfl⟩ := Prod.mk.inj (Option.some.inj hf)
        exact gx_zret (b := false) C dL_law_364
    replace hf := gx_ite hf
    rcases hf with ⟨c46, hf⟩ | ⟨c46, hf⟩
    · refine gx_tswIn (tgt := 365) C dL_law_40 (by rw [c46]; decide) (by rw [c46]; decide) (off := 325) (by rw [c46]; rfl) rfl ?_
      refine gx_aload_n C dL_law_365 1 rfl ?_
      refine gx_aload_n C dL_law_366 0 rfl ?_
      refine gx_iload C dL_law_367 4 rfl ?_
      refine gx_iconst (v := 1) C dL_law_369 rfl ?_
      refine gx_iadd C dL_law_370 ?_
      replace hf := gx_bs hf
      obtain ⟨x47, g58, hf⟩ := hf
      refine gx_iald C (mh_oai hH g58) dL_law_371 ?_
      replace hf := gx_bs hf
      obtain ⟨a48, rfl, hf⟩ := hf
      replace hf := gx_b2s hf
      obtain ⟨b50, h51, g49, hf⟩ := hf
      refine gx_callV (st := []) C ((w_X1_truncateInput hlt g49).over hH) (mh_ois hH (is_X1_truncateInput g49)) gz_108 rfl (lw_V q949 q950 q951 q121 q952) gz_637 (by decide) rfl rfl (gx_catn (Nat.le_of_ble_eq_true rfl)) dL_law_372 ?_
      have hH := hH.le (le_X1_truncateInput g49)
      refine gx_aload_n C dL_law_375 2 rfl ?_
      refine gx_aload_n C dL_law_376 0 rfl ?_
      refine gx_iload C dL_law_377 4 rfl ?_
      refine gx_iconst (v := 1) C dL_law_379 rfl ?_
      refine gx_iadd C dL_law_380 ?_
      replace hf := gx_bs hf
      obtain ⟨x52, g57, hf⟩ := hf
      refine gx_iald C (mh_oai hH g57) dL_law_381 ?_
      replace hf := gx_b2s hf
      obtain ⟨b54, h55, g53, hf⟩ := hf
      refine gx_callV (st := [(.int (b2i b50))]) C (w_X9_truncateInput hlt g53) mh_is gz_497 rfl (lw_V q2741 q2742 q2743 q151 q2744) gz_638 (by decide) rfl rfl (gx_catn (Nat.le_of_ble_eq_true rfl)) dL_law_382 ?_
      replace hf := gx_ite hf
      rcases hf with ⟨c56, hf⟩ | ⟨c56, hf⟩
      · refine gx_icmp_eq_t (tgt := 2499) C dL_law_385 rfl c56 ?_
        refine gx_sub [0, 1, 2, 3, 4] rfl ?_
        exact w_L_law_b2499 hlt C hx wk23 hf hH
      · refine gx_icmp_eq_f (tgt := 2499) C dL_law_385 rfl c56 ?_
        refine gx_iconst (v := 0) C dL_law_388 rfl ?_
        obtain ⟨rfl, rfl⟩ := Prod.mk.inj (Option.some.inj hf)
        exact gx_zret (b := false) C dL_law_389
    replace hf := gx_ite hf
    rcases hf with ⟨c59, hf⟩ | ⟨c59, hf⟩
    · refine gx_tswIn (tgt := 390) C dL_law_40 (by rw [c59]; decide) (by rw [c59]; decide) (off := 350) (by rw [c59]; rfl) rfl ?_
      refine gx_aload_n C dL_law_390 1 rfl ?_
      replace hf := gx_bs hf
      obtain ⟨a60, rfl, hf⟩ := hf
      replace hf := gx_b2s hf
      obtain ⟨x62, h63, g61, hf⟩ := hf
      refine gx_xcallVW (st := []) C ((w_X1_loadMachine hlt g61).over hH) (mh_ois hH (is_X1_loadMachine g61)) gz_108 rfl (lw_VW q956 q957 q958 q121 q959) gz_639 (by decide) rfl rfl (gx_catn (Nat.le_of_ble_eq_true rfl)) dL_law_391 (gx_k2l ?_)
      have hH := hH.le (le_X1_loadMachine g61)
      refine gx_aload_n C dL_law_394 2 rfl ?_
      replace hf := gx_b2s hf
      obtain ⟨x65, h66, g64, hf⟩ := hf
      refine gx_callV (st := [(.int x62)]) C (w_X9_loadMachine hlt g64) mh_is gz_497 rfl (lw_V q2748 q2749 q2750 q151 q2751) gz_640 (by decide) rfl rfl (gx_catn (Nat.le_of_ble_eq_true rfl)) dL_law_395 ?_
      replace hf := gx_ite hf
      rcases hf with ⟨c67, hf⟩ | ⟨c67, hf⟩
      · refine gx_icmp_eq_t (tgt := 2499) C dL_law_398 rfl c67 ?_
        refine gx_sub [0, 1, 2, 3, 4] rfl ?_
        exact w_L_law_b2499 hlt C hx wk23 hf hH
      · refine gx_icmp_eq_f (tgt := 2499) C dL_law_398 rfl c67 ?_
        refine gx_iconst (v := 0) C dL_law_401 rfl ?_
        obtain ⟨rfl, rfl⟩ := Prod.mk.inj (Option.some.inj hf)
        exact gx_zret (b := false) C dL_law_402
    replace hf := gx_ite hf
    rcases hf with ⟨c68, hf⟩ | ⟨c68, hf⟩
    · refine gx_tswIn (tgt := 403) C dL_law_40 (by rw [c68]; decide) (by rw [c68]; decide) (off := 363) (by rw [c68]; rfl) rfl ?_
      refine gx_aload_n C dL_law_403 1 rfl ?_
      replace hf := gx_bs hf
      obtain ⟨a69, rfl, hf⟩ := hf
      replace hf := gx_b2s hf
      obtain ⟨x71, h72, g70, hf⟩ := hf
      refine gx_xcallVW (st := []) C ((w_X1_runScript hlt g70).over hH) (mh_ois hH (is_X1_runScript g70)) gz_108 rfl (lw_VW q1486 q1487 q1488 q121 q1489) gz_641 (by decide) rfl rfl (gx_catn (Nat.le_of_ble_eq_true rfl)) dL_law_404 (gx_k2l ?_)
      have hH := hH.le (le_X1_runScript g70)
      refine gx_aload_n C dL_law_407 2 rfl ?_
      replace hf := gx_b2s hf
      obtain ⟨x74, h75, g73, hf⟩ := hf
      refine gx_callV (st := [(.int x71)]) C (w_X9_runScript hlt g73) mh_is gz_497 rfl (lw_V q2907 q2908 q2909 q151 q2910) gz_642 (by decide) rfl rfl (gx_catn (Nat.le_of_ble_eq_true rfl)) dL_law_408 ?_
      replace hf := gx_ite hf
      rcases hf with ⟨c76, hf⟩ | ⟨c76, hf⟩
      · refine gx_icmp_eq_t (tgt := 2499) C dL_law_411 rfl c76 ?_
        refine gx_sub [0, 1, 2, 3, 4] rfl ?_
        exact w_L_law_b2499 hlt C hx wk23 hf hH
      · refine gx_icmp_eq_f (tgt := 2499) C dL_law_411 rfl c76 ?_
        refine gx_iconst (v := 0) C dL_law_414 rfl ?_
        obtain ⟨rfl, rfl⟩ := Prod.mk.inj (Option.some.inj hf)
        exact gx_zret (b := false) C dL_law_415
    replace hf := gx_ite hf
    rcases hf with ⟨c77, hf⟩ | ⟨c77, hf⟩
    · refine gx_tswIn (tgt := 416) C dL_law_40 (by rw [c77]; decide) (by rw [c77]; decide) (off := 376) (by rw [c77]; rfl) rfl ?_
      refine gx_aload_n C dL_law_416 1 rfl ?_
      replace hf := gx_bs hf
      obtain ⟨a78, rfl, hf⟩ := hf
      replace hf := gx_bs hf
      obtain ⟨x80, g79, hf⟩ := hf
      refine gx_callV (st := []) C ((w_X1_errorCode hlt g79).over hH) (mh_ois hH (is_X1_errorCode g79)) gz_108 rfl (lw_V q1914 q1915 q1916 q121 q1917) gz_643 (by decide) rfl rfl (gx_catn (Nat.le_of_ble_eq_true rfl)) dL_law_417 ?_
      refine gx_aload_n C dL_law_420 2 rfl ?_
      replace hf := gx_b2s hf
      obtain ⟨x82, h83, g81, hf⟩ := hf
      refine gx_callV (st := [(.int x80)]) C (w_X9_errorCode hlt g81) mh_is gz_497 rfl (lw_V q2985 q2986 q2987 q151 q2988) gz_644 (by decide) rfl rfl (gx_catn (Nat.le_of_ble_eq_true rfl)) dL_law_421 ?_
      replace hf := gx_ite hf
      rcases hf with ⟨c84, hf⟩ | ⟨c84, hf⟩
      · refine gx_icmp_eq_t (tgt := 2499) C dL_law_424 rfl c84 ?_
        refine gx_sub [0, 1, 2, 3, 4] rfl ?_
        exact w_L_law_b2499 hlt C hx wk23 hf hH
      · refine gx_icmp_eq_f (tgt := 2499) C dL_law_424 rfl c84 ?_
        refine gx_iconst (v := 0) C dL_law_427 rfl ?_
        obtain ⟨rfl, rfl⟩ := Prod.mk.inj (Option.some.inj hf)
        exact gx_zret (b := false) C dL_law_428
    replace hf := gx_ite hf
    rcases hf with ⟨c85, hf⟩ | ⟨c85, hf⟩
    · refine gx_tswIn (tgt := 429) C dL_law_40 (by rw [c85]; decide) (by rw [c85]; decide) (off := 389) (by rw [c85]; rfl) rfl ?_
      refine gx_aload_n C dL_law_429 1 rfl ?_
      replace hf := gx_bs hf
      obtain ⟨a86, rfl, hf⟩ := hf
      replace hf := gx_bs hf
      obtain ⟨x88, g87, hf⟩ := hf
      refine gx_callV (st := []) C ((w_X1_errorOffset hlt g87).over hH) (mh_ois hH (is_X1_errorOffset g87)) gz_108 rfl (lw_V q1918 q1919 q1920 q121 q1921) gz_645 (by decide) rfl rfl (gx_catn (Nat.le_of_ble_eq_true rfl)) dL_law_430 ?_
      refine gx_aload_n C dL_law_433 2 rfl ?_
      replace hf := gx_b2s hf
      obtain ⟨x90, h91, g89, hf⟩ := hf
      refine gx_callV (st := [(.int x88)]) C (w_X9_errorOffset hlt g89) mh_is gz_497 rfl (lw_V q2989 q2990 q2991 q151 q2992) gz_646 (by decide) rfl rfl (gx_catn (Nat.le_of_ble_eq_true rfl)) dL_law_434 ?_
      replace hf := gx_ite hf
      rcases hf with ⟨c92, hf⟩ | ⟨c92, hf⟩
      · refine gx_icmp_eq_t (tgt := 2499) C dL_law_437 rfl c92 ?_
        refine gx_sub [0, 1, 2, 3, 4] rfl ?_
        exact w_L_law_b2499 hlt C hx wk23 hf hH
      · refine gx_icmp_eq_f (tgt := 2499) C dL_law_437 rfl c92 ?_
        refine gx_iconst (v := 0) C dL_law_440 rfl ?_
        obtain ⟨rfl, rfl⟩ := Prod.mk.inj (Option.some.inj hf)
        exact gx_zret (b := false) C dL_law_441
    replace hf := gx_ite hf
    rcases hf with ⟨c93, hf⟩ | ⟨c93, hf⟩
    · refine gx_tswIn (tgt := 442) C dL_law_40 (by rw [c93]; decide) (by rw [c93]; decide) (off := 402) (by rw [c93]; rfl) rfl ?_
      refine gx_aload_n C dL_law_442 1 rfl ?_
      replace hf := gx_bs hf
      obtain ⟨a94, rfl, hf⟩ := hf
      replace hf := gx_bs hf
      obtain ⟨x96, g95, hf⟩ := hf
      refine gx_callV (st := []) C ((w_X1_stateCount hlt g95).over hH) (mh_ois hH (is_X1_stateCount g95)) gz_108 rfl (lw_V q1922 q1923 q1924 q121 q1925) gz_647 (by decide) rfl rfl (gx_catn (Nat.le_of_ble_eq_true rfl)) dL_law_443 ?_
      refine gx_aload_n C dL_law_446 2 rfl ?_
      replace hf := gx_b2s hf
      obtain ⟨x98, h99, g97, hf⟩ := hf
      refine gx_callV (st := [(.int x96)]) C (w_X9_stateCount hlt g97) mh_is gz_497 rfl (lw_V q2993 q2994 q2995 q151 q2996) gz_648 (by decide) rfl rfl (gx_catn (Nat.le_of_ble_eq_true rfl)) dL_law_447 ?_
      replace hf := gx_ite hf
      rcases hf with ⟨c100, hf⟩ | ⟨c100, hf⟩
      · refine gx_icmp_eq_t (tgt := 2499) C dL_law_450 rfl c100 ?_
        refine gx_sub [0, 1, 2, 3, 4] rfl ?_
        exact w_L_law_b2499 hlt C hx wk23 hf hH
      · refine gx_icmp_eq_f (tgt := 2499) C dL_law_450 rfl c100 ?_
        refine gx_iconst (v := 0) C dL_law_453 rfl ?_
        obtain ⟨rfl, rfl⟩ := Prod.mk.inj (Option.some.inj hf)
        exact gx_zret (b := false) C dL_law_454
    replace hf := gx_ite hf
    rcases hf with ⟨c101, hf⟩ | ⟨c101, hf⟩
    · refine gx_tswIn (tgt := 455) C dL_law_40 (by rw [c101]; decide) (by rw [c101]; decide) (off := 415) (by rw [c101]; rfl) rfl ?_
      refine gx_aload_n C dL_law_455 1 rfl ?_
      replace hf := gx_bs hf
      obtain ⟨a102, rfl, hf⟩ := hf
      replace hf := gx_bs hf
      obtain ⟨x104, g103, hf⟩ := hf
      refine gx_callV (st := []) C ((w_X1_eventCount hlt g103).over hH) (mh_ois hH (is_X1_eventCount g103)) gz_108 rfl (lw_V q1926 q1927 q1928 q121 q1929) gz_649 (by decide) rfl rfl (gx_catn (Nat.le_of_ble_eq_true rfl)) dL_law_456 ?_
      refine gx_aload_n C dL_law_459 2 rfl ?_
      replace hf := gx_b2s hf
      obtain ⟨x106, h107, g105, hf⟩ := hf
      refine gx_callV (st := [(.int x104)]) C (w_X9_eventCount hlt g105) mh_is gz_497 rfl (lw_V q2997 q2998 q2999 q151 q3000) gz_650 (by decide) rfl rfl (gx_catn (Nat.le_of_ble_eq_true rfl)) dL_law_460 ?_
      replace hf := gx_ite hf
      rcases hf with ⟨c108, hf⟩ | ⟨c108, hf⟩
      · refine gx_icmp_eq_t (tgt := 2499) C dL_law_463 rfl c108 ?_
        refine gx_sub [0, 1, 2, 3, 4] rfl ?_
        exact w_L_law_b2499 hlt C hx wk23 hf hH
      · refine gx_icmp_eq_f (tgt := 2499) C dL_law_463 rfl c108 ?_
        refine gx_iconst (v := 0) C dL_law_466 rfl ?_
        obtain ⟨rfl, rfl⟩ := Prod.mk.inj (Option.some.inj hf)
        exact gx_zret (b := false) C dL_law_467
    replace hf := gx_ite hf
    rcases hf with ⟨c109, hf⟩ | ⟨c109, hf⟩
    · refine gx_tswIn (tgt := 468) C dL_law_40 (by rw [c109]; decide) (by rw [c109]; decide) (off := 428) (by rw [c109]; rfl) rfl ?_
      refine gx_aload_n C dL_law_468 1 rfl ?_
      replace hf := gx_bs hf
      obtain ⟨a110, rfl, hf⟩ := hf
      replace hf := gx_bs hf
      obtain ⟨x112, g111, hf⟩ := hf
      refine gx_callV (st := []) C ((w_X1_variableCount hlt g111).over hH) (mh_ois hH (is_X1_variableCount g111)) gz_108 rfl (lw_V q1930 q1931 q1932 q121 q1933) gz_651 (by decide) rfl rfl (gx_catn (Nat.le_of_ble_eq_true rfl)) dL_law_469 ?_
      refine gx_aload_n C dL_law_472 2 rfl ?_
      replace hf := gx_b2s hf
      obtain ⟨x114, h115, g113, hf⟩ := hf
      refine gx_callV (st := [(.int x112)]) C (w_X9_variableCount hlt g113) mh_is gz_497 rfl (lw_V q3001 q3002 q3003 q151 q3004) gz_652 (by decide) rfl rfl (gx_catn (Nat.le_of_ble_eq_true rfl)) dL_law_473 ?_
      replace hf := gx_ite hf
      rcases hf with ⟨c116, hf⟩ | ⟨c116, hf⟩
      · refine gx_icmp_eq_t (tgt := 2499) C dL_law_476 rfl c116 ?_
        refine gx_sub [0, 1, 2, 3, 4] rfl ?_
        exact w_L_law_b2499 hlt C hx wk23 hf hH
      · refine gx_icmp_eq_f (tgt := 2499) C dL_law_476 rfl c116 ?_
        refine gx_iconst (v := 0) C dL_law_479 rfl ?_
        obtain ⟨rfl, rfl⟩ := Prod.mk.inj (Option.some.inj hf)
        exact gx_zret (b := false) C dL_law_480
    replace hf := gx_ite hf
    rcases hf with ⟨c117, hf⟩ | ⟨c117, hf⟩
    · refine gx_tswIn (tgt := 481) C dL_law_40 (by rw [c117]; decide) (by rw [c117]; decide) (off := 441) (by rw [c117]; rfl) rfl ?_
      refine gx_aload_n C dL_law_481 1 rfl ?_
      replace hf := gx_bs hf
      obtain ⟨a118, rfl, hf⟩ := hf
      replace hf := gx_bs hf
      obtain ⟨x120, g119, hf⟩ := hf
      refine gx_callV (st := []) C ((w_X1_transitionCount hlt g119).over hH) (mh_ois hH (is_X1_transitionCount g119)) gz_108 rfl (lw_V q1934 q1935 q1936 q121 q1937) gz_653 (by decide) rfl rfl (gx_catn (Nat.le_of_ble_eq_true rfl)) dL_law_482 ?_
      refine gx_aload_n C dL_law_485 2 rfl ?_
      replace hf := gx_b2s hf
      obtain ⟨x122, h123, g121, hf⟩ := hf
      refine gx_callV (st := [(.int x120)]) C (w_X9_transitionCount hlt g121) mh_is gz_497 rfl (lw_V q3005 q3006 q3007 q151 q3008) gz_654 (by decide) rfl rfl (gx_catn (Nat.le_of_ble_eq_true rfl)) dL_law_486 ?_
      replace hf := gx_ite hf
      rcases hf with ⟨c124, hf⟩ | ⟨c124, hf⟩
      · refine gx_icmp_eq_t (tgt := 2499) C dL_law_489 rfl c124 ?_
        refine gx_sub [0, 1, 2, 3, 4] rfl ?_
        exact w_L_law_b2499 hlt C hx wk23 hf hH
      · refine gx_icmp_eq_f (tgt := 2499) C dL_law_489 rfl c124 ?_
        refine gx_iconst (v := 0) C dL_law_492 rfl ?_
        obtain ⟨rfl, rfl⟩ := Prod.mk.inj (Option.some.inj hf)
        exact gx_zret (b := false) C dL_law_493
    replace hf := gx_ite hf
    rcases hf with ⟨c125, hf⟩ | ⟨c125, hf⟩
    · refine gx_tswIn (tgt := 494) C dL_law_40 (by rw [c125]; decide) (by rw [c125]; decide) (off := 454) (by rw [c125]; rfl) rfl ?_
      refine gx_aload_n C dL_law_494 1 rfl ?_
      replace hf := gx_bs hf
      obtain ⟨a126, rfl, hf⟩ := hf
      replace hf := gx_bs hf
      obtain ⟨x128, g127, hf⟩ := hf
      refine gx_callV (st := []) C ((w_X1_invariantCount hlt g127).over hH) (mh_ois hH (is_X1_invariantCount g127)) gz_108 rfl (lw_V q1938 q1939 q1940 q121 q1941) gz_655 (by decide) rfl rfl (gx_catn (Nat.le_of_ble_eq_true rfl)) dL_law_495 ?_
      refine gx_aload_n C dL_law_498 2 rfl ?_
      replace hf := gx_b2s hf
      obtain ⟨x130, h131, g129, hf⟩ := hf
      refine gx_callV (st := [(.int x128)]) C (w_X9_invariantCount hlt g129) mh_is gz_497 rfl (lw_V q3009 q3010 q3011 q151 q3012) gz_656 (by decide) rfl rfl (gx_catn (Nat.le_of_ble_eq_true rfl)) dL_law_499 ?_
      replace hf := gx_ite hf
      rcases hf with ⟨c132, hf⟩ | ⟨c132, hf⟩
      · refine gx_icmp_eq_t (tgt := 2499) C dL_law_502 rfl c132 ?_
        refine gx_sub [0, 1, 2, 3, 4] rfl ?_
        exact w_L_law_b2499 hlt C hx wk23 hf hH
      · refine gx_icmp_eq_f (tgt := 2499) C dL_law_502 rfl c132 ?_
        refine gx_iconst (v := 0) C dL_law_505 rfl ?_
        obtain ⟨rfl, rfl⟩ := Prod.mk.inj (Option.some.inj hf)
        exact gx_zret (b := false) C dL_law_506
    replace hf := gx_ite hf
    rcases hf with ⟨c133, hf⟩ | ⟨c133, hf⟩
    · refine gx_tswIn (tgt := 507) C dL_law_40 (by rw [c133]; decide) (by rw [c133]; decide) (off := 467) (by rw [c133]; rfl) rfl ?_
      refine gx_aload_n C dL_law_507 1 rfl ?_
      refine gx_aload_n C dL_law_508 0 rfl ?_
      refine gx_iload C dL_law_509 4 rfl ?_
      refine gx_iconst (v := 1) C dL_law_511 rfl ?_
      refine gx_iadd C dL_law_512 ?_
      replace hf := gx_bs hf
      obtain ⟨x134, g155, hf⟩ := hf
      refine gx_iald C (mh_oai hH g155) dL_law_513 ?_
      refine gx_aload_n C dL_law_514 0 rfl ?_
      refine gx_iload C dL_law_515 4 rfl ?_
      refine gx_iconst (v := 2) C dL_law_517 rfl ?_
      refine gx_iadd C dL_law_518 ?_
      replace hf := gx_bs hf
      obtain ⟨x135, g154, hf⟩ := hf
      refine gx_iald C (mh_oai hH g154) dL_law_519 ?_
      refine gx_aload_n C dL_law_520 3 rfl ?_
      replace hf := gx_b2s hf
      obtain ⟨x137, h138, g136, hf⟩ := hf
      refine gx_xcallSW (st := []) C ((w_X0_stateNameByte hlt g136).over hH) (lw_SW q2255 q2256 q120 q2257) gz_659 (by decide) rfl rfl (gx_catn (Nat.le_of_ble_eq_true rfl)) dL_law_521 (gx_k2l ?_)
      have hH := hH.le (le_X0_stateNameByte g136)
      refine gx_ist C dL_law_524 (by decide) [0, 1, 2, 3, 4]  rfl (gx_okn rfl rfl (gx_okn rfl rfl (gx_okn rfl rfl (gx_okn rfl rfl (gx_okr rfl gx_catv_i gx_ok0))))) ?_
      refine gx_aload_n C dL_law_526 3 rfl ?_
      refine gx_aload_n C dL_law_527 1 rfl ?_
      refine gx_iload C dL_law_528 5 rfl ?_
      refine gx_iconst (v := 1) C dL_law_530 rfl ?_
      refine gx_iadd C dL_law_531 ?_
      replace hf := gx_bs hf
      obtain ⟨x139, g153, hf⟩ := hf
      refine gx_iald C (mh_oai hH g153) dL_law_532 ?_
      refine gx_aload_n C dL_law_533 1 rfl ?_
      refine gx_iload C dL_law_534 5 rfl ?_
      refine gx_iconst (v := 2) C dL_law_536 rfl ?_
      refine gx_iadd C dL_law_537 ?_
      replace hf := gx_bs hf
      obtain ⟨x140, g152, hf⟩ := hf
      refine gx_iald C (mh_oai hH g152) dL_law_538 ?_
      replace hf := gx_b2s hf
      obtain ⟨x142, h143, g141, hf⟩ := hf
      refine gx_callV (st := []) C (w_X9_stateNameByte hlt g141) mh_is gz_497 rfl (lw_V q3029 q3030 q3031 q151 q3032) gz_657 (by decide) rfl rfl (gx_catn (Nat.le_of_ble_eq_true rfl)) dL_law_539 ?_
      refine gx_ist C dL_law_542 (by decide) [0, 1, 2, 3, 4, 5]  rfl (gx_okr rfl gx_catv_i (gx_okn rfl rfl (gx_okn rfl rfl (gx_okn rfl rfl (gx_okn rfl rfl (gx_okn rfl rfl gx_ok0)))))) ?_
      refine gx_aload_n C dL_law_544 4 rfl ?_
      replace hf := gx_bs hf
      obtain ⟨x145, g144, hf⟩ := hf
      refine gx_callV (st := []) C (w_X9_thrown hlt g144) mh_is gz_497 rfl (lw_V q2729 q2730 q2731 q151 q2732) gz_658 (by decide) rfl rfl (gx_catn (Nat.le_of_ble_eq_true rfl)) dL_law_545 ?_
      refine gx_iload C dL_law_548 1 rfl ?_
      replace hf := gx_ite hf
      rcases hf with ⟨c146, hf⟩ | ⟨c146, hf⟩
      · refine gx_icmp_eq_t (tgt := 555) C dL_law_550 rfl c146 ?_
        refine gx_iload C dL_law_555 1 rfl ?_
        replace hf := gx_ite hf
        rcases hf with ⟨c147, hf⟩ | ⟨c147, hf⟩
        · refine gx_if_ne_f (tgt := 572) C dL_law_557 rfl c147 ?_
          refine gx_aload_n C dL_law_560 5 rfl ?_
          refine gx_iconst (v := 0) C dL_law_561 rfl ?_
          replace hf := gx_bs hf
          obtain ⟨a148, rfl, hf⟩ := hf
          replace hf := gx_bs hf
          obtain ⟨x149, g151, hf⟩ := hf
          refine gx_lald C (mh_oal hH g151) dL_law_562 ?_
          refine gx_iload C dL_law_563 0 rfl ?_
          refine gx_i2l C dL_law_565 ?_
          refine gx_lcmp C dL_law_566 ?_
          replace hf := gx_ite hf
          rcases hf with ⟨c150, hf⟩ | ⟨c150, hf⟩
          · refine gx_if_eq_t (tgt := 572) C dL_law_567 rfl c150 ?_
            refine gx_sub [2, 3, 4, 5, 6] rfl ?_
            exact w_L_law_b572 hlt C hx wk23 hf hH
          · refine gx_if_eq_f (tgt := 572) C dL_law_567 rfl c150 ?_
            refine gx_iconst (v := 0) C dL_law_570 rfl ?_
            obtain ⟨rfl, rfl⟩ := Prod.mk.inj (Option.some.inj hf)
            exact gx_zret (b := false) C dL_law_571
        · refine gx_if_ne_t (tgt := 572) C dL_law_557 rfl c147 ?_
          refine gx_sub [2, 3, 4, 5, 6] rfl ?_
          exact w_L_law_b572 hlt C hx wk23 hf hH
      · refine gx_icmp_eq_f (tgt := 555) C dL_law_550 rfl c146 ?_
        refine gx_iconst (v := 0) C dL_law_553 rfl ?_
        obtain ⟨rfl, rfl⟩ := Prod.mk.inj (Option.some.inj hf)
        exact gx_zret (b := false) C dL_law_554
    replace hf := gx_ite hf
    rcases hf with ⟨c156, hf⟩ | ⟨c156, hf⟩
    · refine gx_tswIn (tgt := 575) C dL_law_40 (by rw [c156]; decide) (by rw [c156]; decide) (off := 535) (by rw [c156]; rfl) rfl ?_
      refine gx_aload_n C dL_law_575 1 rfl ?_
      refine gx_aload_n C dL_law_576 0 rfl ?_
      refine gx_iload C dL_law_577 4 rfl ?_
      refine gx_iconst (v := 1) C dL_law_579 rfl ?_
      refine gx_iadd C dL_law_580 ?_
      replace hf := gx_bs hf
      obtain ⟨x157, g178, hf⟩ := hf
      refine gx_iald C (mh_oai hH g178) dL_law_581 ?_
      refine gx_aload_n C dL_law_582 0 rfl ?_
      refine gx_iload C dL_law_583 4 rfl ?_
      refine gx_iconst (v := 2) C dL_law_585 rfl ?_
      refine gx_iadd C dL_law_586 ?_
      replace hf := gx_bs hf
      obtain ⟨x158, g177, hf⟩ := hf
      refine gx_iald C (mh_oai hH g177) dL_law_587 ?_
      refine gx_aload_n C dL_law_588 3 rfl ?_
      replace hf := gx_b2s hf
      obtain ⟨x160, h161, g159, hf⟩ := hf
      refine gx_xcallSW (st := []) C ((w_X0_eventNameByte hlt g159).over hH) (lw_SW q2291 q2292 q120 q2293) gz_661 (by decide) rfl rfl (gx_catn (Nat.le_of_ble_eq_true rfl)) dL_law_589 (gx_k2l ?_)
      have hH := hH.le (le_X0_eventNameByte g159)
      refine gx_ist C dL_law_592 (by decide) [0, 1, 2, 3, 4]  rfl (gx_okn rfl rfl (gx_okn rfl rfl (gx_okn rfl rfl (gx_okn rfl rfl (gx_okr rfl gx_catv_i gx_ok0))))) ?_
      refine gx_aload_n C dL_law_594 3 rfl ?_
      refine gx_aload_n C dL_law_595 1 rfl ?_
      refine gx_iload C dL_law_596 5 rfl ?_
      refine gx_iconst (v := 1) C dL_law_598 rfl ?_
      refine gx_iadd C dL_law_599 ?_
      replace hf := gx_bs hf
      obtain ⟨x162, g176, hf⟩ := hf
      refine gx_iald C (mh_oai hH g176) dL_law_600 ?_
      refine gx_aload_n C dL_law_601 1 rfl ?_
      refine gx_iload C dL_law_602 5 rfl ?_
      refine gx_iconst (v := 2) C dL_law_604 rfl ?_
      refine gx_iadd C dL_law_605 ?_
      replace hf := gx_bs hf
      obtain ⟨x163, g175, hf⟩ := hf
      refine gx_iald C (mh_oai hH g175) dL_law_606 ?_
      replace hf := gx_b2s hf
      obtain ⟨x165, h166, g164, hf⟩ := hf
      refine gx_callV (st := []) C (w_X9_eventNameByte hlt g164) mh_is gz_497 rfl (lw_V q3045 q3046 q3047 q151 q3048) gz_660 (by decide) rfl rfl (gx_catn (Nat.le_of_ble_eq_true rfl)) dL_law_607 ?_
      refine gx_ist C dL_law_610 (by decide) [0, 1, 2, 3, 4, 5]  rfl (gx_okr rfl gx_catv_i (gx_okn rfl rfl (gx_okn rfl rfl (gx_okn rfl rfl (gx_okn rfl rfl (gx_okn rfl rfl gx_ok0)))))) ?_
      refine gx_aload_n C dL_law_612 4 rfl ?_
      replace hf := gx_bs hf
      obtain ⟨x168, g167, hf⟩ := hf
      refine gx_callV (st := []) C (w_X9_thrown hlt g167) mh_is gz_497 rfl (lw_V q2729 q2730 q2731 q151 q2732) gz_658 (by decide) rfl rfl (gx_catn (Nat.le_of_ble_eq_true rfl)) dL_law_613 ?_
      refine gx_iload C dL_law_616 1 rfl ?_
      replace hf := gx_ite hf
      rcases hf with ⟨c169, hf⟩ | ⟨c169, hf⟩
      · refine gx_icmp_eq_t (tgt := 623) C dL_law_618 rfl c169 ?_
        refine gx_iload C dL_law_623 1 rfl ?_
        replace hf := gx_ite hf
        rcases hf with ⟨c170, hf⟩ | ⟨c170, hf⟩
        · refine gx_if_ne_f (tgt := 640) C dL_law_625 rfl c170 ?_
          refine gx_aload_n C dL_law_628 5 rfl ?_
          refine gx_iconst (v := 0) C dL_law_629 rfl ?_
          replace hf := gx_bs hf
          obtain ⟨a171, rfl, hf⟩ := hf
          replace hf := gx_bs hf
          obtain ⟨x172, g174, hf⟩ := hf
          refine gx_lald C (mh_oal hH g174) dL_law_630 ?_
          refine gx_iload C dL_law_631 0 rfl ?_
          refine gx_i2l C dL_law_633 ?_
          refine gx_lcmp C dL_law_634 ?_
          replace hf := gx_ite hf
          rcases hf with ⟨c173, hf⟩ | ⟨c173, hf⟩
          · refine gx_if_eq_t (tgt := 640) C dL_law_635 rfl c173 ?_
            refine gx_sub [2, 3, 4, 5, 6] rfl ?_
            exact w_L_law_b640 hlt C hx wk23 hf hH
          · refine gx_if_eq_f (tgt := 640) C dL_law_635 rfl c173 ?_
            refine gx_iconst (v := 0) C dL_law_638 rfl ?_
            obtain ⟨rfl, rfl⟩ := Prod.mk.inj (Option.some.inj hf)
            exact gx_zret (b := false) C dL_law_639
        · refine gx_if_ne_t (tgt := 640) C dL_law_625 rfl c170 ?_
          refine gx_sub [2, 3, 4, 5, 6] rfl ?_
          exact w_L_law_b640 hlt C hx wk23 hf hH
      · refine gx_icmp_eq_f (tgt := 623) C dL_law_618 rfl c169 ?_
        refine gx_iconst (v := 0) C dL_law_621 rfl ?_
        obtain ⟨rfl, rfl⟩ := Prod.mk.inj (Option.some.inj hf)
        exact gx_zret (b := false) C dL_law_622
    replace hf := gx_ite hf
    rcases hf with ⟨c179, hf⟩ | ⟨c179, hf⟩
    · refine gx_tswIn (tgt := 643) C dL_law_40 (by rw [c179]; decide) (by rw [c179]; decide) (off := 603) (by rw [c179]; rfl) rfl ?_
      refine gx_aload_n C dL_law_643 1 rfl ?_
      refine gx_aload_n C dL_law_644 0 rfl ?_
      refine gx_iload C dL_law_645 4 rfl ?_
      refine gx_iconst (v := 1) C dL_law_647 rfl ?_
      refine gx_iadd C dL_law_648 ?_
      replace hf := gx_bs hf
      obtain ⟨x180, g201, hf⟩ := hf
      refine gx_iald C (mh_oai hH g201) dL_law_649 ?_
      refine gx_aload_n C dL_law_650 0 rfl ?_
      refine gx_iload C dL_law_651 4 rfl ?_
      refine gx_iconst (v := 2) C dL_law_653 rfl ?_
      refine gx_iadd C dL_law_654 ?_
      replace hf := gx_bs hf
      obtain ⟨x181, g200, hf⟩ := hf
      refine gx_iald C (mh_oai hH g200) dL_law_655 ?_
      refine gx_aload_n C dL_law_656 3 rfl ?_
      replace hf := gx_b2s hf
      obtain ⟨x183, h184, g182, hf⟩ := hf
      refine gx_xcallSW (st := []) C ((w_X0_variableNameByte hlt g182).over hH) (lw_SW q2298 q2299 q120 q2300) gz_663 (by decide) rfl rfl (gx_catn (Nat.le_of_ble_eq_true rfl)) dL_law_657 (gx_k2l ?_)
      have hH := hH.le (le_X0_variableNameByte g182)
      refine gx_ist C dL_law_660 (by decide) [0, 1, 2, 3, 4]  rfl (gx_okn rfl rfl (gx_okn rfl rfl (gx_okn rfl rfl (gx_okn rfl rfl (gx_okr rfl gx_catv_i gx_ok0))))) ?_
      refine gx_aload_n C dL_law_662 3 rfl ?_
      refine gx_aload_n C dL_law_663 1 rfl ?_
      refine gx_iload C dL_law_664 5 rfl ?_
      refine gx_iconst (v := 1) C dL_law_666 rfl ?_
      refine gx_iadd C dL_law_667 ?_
      replace hf := gx_bs hf
      obtain ⟨x185, g199, hf⟩ := hf
      refine gx_iald C (mh_oai hH g199) dL_law_668 ?_
      refine gx_aload_n C dL_law_669 1 rfl ?_
      refine gx_iload C dL_law_670 5 rfl ?_
      refine gx_iconst (v := 2) C dL_law_672 rfl ?_
      refine gx_iadd C dL_law_673 ?_
      replace hf := gx_bs hf
      obtain ⟨x186, g198, hf⟩ := hf
      refine gx_iald C (mh_oai hH g198) dL_law_674 ?_
      replace hf := gx_b2s hf
      obtain ⟨x188, h189, g187, hf⟩ := hf
      refine gx_callV (st := []) C (w_X9_variableNameByte hlt g187) mh_is gz_497 rfl (lw_V q3049 q3050 q3051 q151 q3052) gz_662 (by decide) rfl rfl (gx_catn (Nat.le_of_ble_eq_true rfl)) dL_law_675 ?_
      refine gx_ist C dL_law_678 (by decide) [0, 1, 2, 3, 4, 5]  rfl (gx_okr rfl gx_catv_i (gx_okn rfl rfl (gx_okn rfl rfl (gx_okn rfl rfl (gx_okn rfl rfl (gx_okn rfl rfl gx_ok0)))))) ?_
      refine gx_aload_n C dL_law_680 4 rfl ?_
      replace hf := gx_bs hf
      obtain ⟨x191, g190, hf⟩ := hf
      refine gx_callV (st := []) C (w_X9_thrown hlt g190) mh_is gz_497 rfl (lw_V q2729 q2730 q2731 q151 q2732) gz_658 (by decide) rfl rfl (gx_catn (Nat.le_of_ble_eq_true rfl)) dL_law_681 ?_
      refine gx_iload C dL_law_684 1 rfl ?_
      replace hf := gx_ite hf
      rcases hf with ⟨c192, hf⟩ | ⟨c192, hf⟩
      · refine gx_icmp_eq_t (tgt := 691) C dL_law_686 rfl c192 ?_
        refine gx_iload C dL_law_691 1 rfl ?_
        replace hf := gx_ite hf
        rcases hf with ⟨c193, hf⟩ | ⟨c193, hf⟩
        · refine gx_if_ne_f (tgt := 708) C dL_law_693 rfl c193 ?_
          refine gx_aload_n C dL_law_696 5 rfl ?_
          refine gx_iconst (v := 0) C dL_law_697 rfl ?_
          replace hf := gx_bs hf
          obtain ⟨a194, rfl, hf⟩ := hf
          replace hf := gx_bs hf
          obtain ⟨x195, g197, hf⟩ := hf
          refine gx_lald C (mh_oal hH g197) dL_law_698 ?_
          refine gx_iload C dL_law_699 0 rfl ?_
          refine gx_i2l C dL_law_701 ?_
          refine gx_lcmp C dL_law_702 ?_
          replace hf := gx_ite hf
          rcases hf with ⟨c196, hf⟩ | ⟨c196, hf⟩
          · refine gx_if_eq_t (tgt := 708) C dL_law_703 rfl c196 ?_
            refine gx_sub [2, 3, 4, 5, 6] rfl ?_
            exact w_L_law_b708 hlt C hx wk23 hf hH
          · refine gx_if_eq_f (tgt := 708) C dL_law_703 rfl c196 ?_
            refine gx_iconst (v := 0) C dL_law_706 rfl ?_
            obtain ⟨rfl, rfl⟩ := Prod.mk.inj (Option.some.inj hf)
            exact gx_zret (b := false) C dL_law_707
        · refine gx_if_ne_t (tgt := 708) C dL_law_693 rfl c193 ?_
          refine gx_sub [2, 3, 4, 5, 6] rfl ?_
          exact w_L_law_b708 hlt C hx wk23 hf hH
      · refine gx_icmp_eq_f (tgt := 691) C dL_law_686 rfl c192 ?_
        refine gx_iconst (v := 0) C dL_law_689 rfl ?_
        obtain ⟨rfl, rfl⟩ := Prod.mk.inj (Option.some.inj hf)
        exact gx_zret (b := false) C dL_law_690
    replace hf := gx_ite hf
    rcases hf with ⟨c202, hf⟩ | ⟨c202, hf⟩
    · refine gx_tswIn (tgt := 711) C dL_law_40 (by rw [c202]; decide) (by rw [c202]; decide) (off := 671) (by rw [c202]; rfl) rfl ?_
      refine gx_aload_n C dL_law_711 1 rfl ?_
      replace hf := gx_bs hf
      obtain ⟨a203, rfl, hf⟩ := hf
      replace hf := gx_bs hf
      obtain ⟨x205, g204, hf⟩ := hf
      refine gx_callV (st := []) C ((w_X1_currentState hlt g204).over hH) (mh_ois hH (is_X1_currentState g204)) gz_108 rfl (lw_V q1942 q1943 q1944 q121 q1945) gz_664 (by decide) rfl rfl (gx_catn (Nat.le_of_ble_eq_true rfl)) dL_law_712 ?_
      refine gx_aload_n C dL_law_715 2 rfl ?_
      replace hf := gx_b2s hf
      obtain ⟨x207, h208, g206, hf⟩ := hf
      refine gx_callV (st := [(.int x205)]) C (w_X9_currentState hlt g206) mh_is gz_497 rfl (lw_V q3013 q3014 q3015 q151 q3016) gz_665 (by decide) rfl rfl (gx_catn (Nat.le_of_ble_eq_true rfl)) dL_law_716 ?_
      replace hf := gx_ite hf
      rcases hf with ⟨c209, hf⟩ | ⟨c209, hf⟩
      · refine gx_icmp_eq_t (tgt := 2499) C dL_law_719 rfl c209 ?_
        refine gx_sub [0, 1, 2, 3, 4] rfl ?_
        exact w_L_law_b2499 hlt C hx wk23 hf hH
      · refine gx_icmp_eq_f (tgt := 2499) C dL_law_719 rfl c209 ?_
        refine gx_iconst (v := 0) C dL_law_722 rfl ?_
        obtain ⟨rfl, rfl⟩ := Prod.mk.inj (Option.some.inj hf)
        exact gx_zret (b := false) C dL_law_723
    replace hf := gx_ite hf
    rcases hf with ⟨c210, hf⟩ | ⟨c210, hf⟩
    · refine gx_tswIn (tgt := 724) C dL_law_40 (by rw [c210]; decide) (by rw [c210]; decide) (off := 684) (by rw [c210]; rfl) rfl ?_
      refine gx_aload_n C dL_law_724 1 rfl ?_
      refine gx_aload_n C dL_law_725 0 rfl ?_
      refine gx_iload C dL_law_726 4 rfl ?_
      refine gx_iconst (v := 1) C dL_law_728 rfl ?_
      refine gx_iadd C dL_law_729 ?_
      replace hf := gx_bs hf
      obtain ⟨x211, g228, hf⟩ := hf
      refine gx_iald C (mh_oai hH g228) dL_law_730 ?_
      refine gx_aload_n C dL_law_731 3 rfl ?_
      replace hf := gx_b2s hf
      obtain ⟨x213, h214, g212, hf⟩ := hf
      refine gx_xcallSW (st := []) C ((w_X0_valueOf hlt g212).over hH) (lw_SW q2305 q2306 q120 q2307) gz_667 (by decide) rfl rfl (gx_catn (Nat.le_of_ble_eq_true rfl)) dL_law_732 (gx_k2l ?_)
      have hH := hH.le (le_X0_valueOf g212)
      refine gx_ist C dL_law_735 (by decide) [0, 1, 2, 3, 4]  rfl (gx_okn rfl rfl (gx_okn rfl rfl (gx_okn rfl rfl (gx_okn rfl rfl (gx_okr rfl gx_catv_i gx_ok0))))) ?_
      refine gx_aload_n C dL_law_737 3 rfl ?_
      refine gx_aload_n C dL_law_738 1 rfl ?_
      refine gx_iload C dL_law_739 5 rfl ?_
      refine gx_iconst (v := 1) C dL_law_741 rfl ?_
      refine gx_iadd C dL_law_742 ?_
      replace hf := gx_bs hf
      obtain ⟨x215, g227, hf⟩ := hf
      refine gx_iald C (mh_oai hH g227) dL_law_743 ?_
      replace hf := gx_b2s hf
      obtain ⟨x217, h218, g216, hf⟩ := hf
      refine gx_callV (st := []) C (w_X9_valueOf hlt g216) mh_is gz_497 rfl (lw_V q3069 q3070 q3071 q151 q3072) gz_666 (by decide) rfl rfl (gx_catn (Nat.le_of_ble_eq_true rfl)) dL_law_744 ?_
      refine gx_ist C dL_law_747 (by decide) [0, 1, 2, 3, 4, 5]  rfl (gx_okr rfl gx_catv_i (gx_okn rfl rfl (gx_okn rfl rfl (gx_okn rfl rfl (gx_okn rfl rfl (gx_okn rfl rfl gx_ok0)))))) ?_
      refine gx_aload_n C dL_law_749 4 rfl ?_
      replace hf := gx_bs hf
      obtain ⟨x220, g219, hf⟩ := hf
      refine gx_callV (st := []) C (w_X9_thrown hlt g219) mh_is gz_497 rfl (lw_V q2729 q2730 q2731 q151 q2732) gz_658 (by decide) rfl rfl (gx_catn (Nat.le_of_ble_eq_true rfl)) dL_law_750 ?_
      refine gx_iload C dL_law_753 1 rfl ?_
      replace hf := gx_ite hf
      rcases hf with ⟨c221, hf⟩ | ⟨c221, hf⟩
      · refine gx_icmp_eq_t (tgt := 760) C dL_law_755 rfl c221 ?_
        refine gx_iload C dL_law_760 1 rfl ?_
        replace hf := gx_ite hf
        rcases hf with ⟨c222, hf⟩ | ⟨c222, hf⟩
        · refine gx_if_ne_f (tgt := 777) C dL_law_762 rfl c222 ?_
          refine gx_aload_n C dL_law_765 5 rfl ?_
          refine gx_iconst (v := 0) C dL_law_766 rfl ?_
          replace hf := gx_bs hf
          obtain ⟨a223, rfl, hf⟩ := hf
          replace hf := gx_bs hf
          obtain ⟨x224, g226, hf⟩ := hf
          refine gx_lald C (mh_oal hH g226) dL_law_767 ?_
          refine gx_iload C dL_law_768 0 rfl ?_
          refine gx_i2l C dL_law_770 ?_
          refine gx_lcmp C dL_law_771 ?_
          replace hf := gx_ite hf
          rcases hf with ⟨c225, hf⟩ | ⟨c225, hf⟩
          · refine gx_if_eq_t (tgt := 777) C dL_law_772 rfl c225 ?_
            refine gx_sub [2, 3, 4, 5, 6] rfl ?_
            exact w_L_law_b777 hlt C hx wk23 hf hH
          · refine gx_if_eq_f (tgt := 777) C dL_law_772 rfl c225 ?_
            refine gx_iconst (v := 0) C dL_law_775 rfl ?_
            obtain ⟨rfl, rfl⟩ := Prod.mk.inj (Option.some.inj hf)
            exact gx_zret (b := false) C dL_law_776
        · refine gx_if_ne_t (tgt := 777) C dL_law_762 rfl c222 ?_
          refine gx_sub [2, 3, 4, 5, 6] rfl ?_
          exact w_L_law_b777 hlt C hx wk23 hf hH
      · refine gx_icmp_eq_f (tgt := 760) C dL_law_755 rfl c221 ?_
        refine gx_iconst (v := 0) C dL_law_758 rfl ?_
        obtain ⟨rfl, rfl⟩ := Prod.mk.inj (Option.some.inj hf)
        exact gx_zret (b := false) C dL_law_759
    replace hf := gx_ite hf
    rcases hf with ⟨c229, hf⟩ | ⟨c229, hf⟩
    · refine gx_tswIn (tgt := 780) C dL_law_40 (by rw [c229]; decide) (by rw [c229]; decide) (off := 740) (by rw [c229]; rfl) rfl ?_
      refine gx_aload_n C dL_law_780 1 rfl ?_
      refine gx_aload_n C dL_law_781 0 rfl ?_
      refine gx_iload C dL_law_782 4 rfl ?_
      refine gx_iconst (v := 1) C dL_law_784 rfl ?_
      refine gx_iadd C dL_law_785 ?_
      replace hf := gx_bs hf
      obtain ⟨x230, g247, hf⟩ := hf
      refine gx_iald C (mh_oai hH g247) dL_law_786 ?_
      refine gx_aload_n C dL_law_787 3 rfl ?_
      replace hf := gx_b2s hf
      obtain ⟨x232, h233, g231, hf⟩ := hf
      refine gx_xcallSW (st := []) C ((w_X0_initialValueOf hlt g231).over hH) (lw_SW q2316 q2317 q120 q2318) gz_669 (by decide) rfl rfl (gx_catn (Nat.le_of_ble_eq_true rfl)) dL_law_788 (gx_k2l ?_)
      have hH := hH.le (le_X0_initialValueOf g231)
      refine gx_ist C dL_law_791 (by decide) [0, 1, 2, 3, 4]  rfl (gx_okn rfl rfl (gx_okn rfl rfl (gx_okn rfl rfl (gx_okn rfl rfl (gx_okr rfl gx_catv_i gx_ok0))))) ?_
      refine gx_aload_n C dL_law_793 3 rfl ?_
      refine gx_aload_n C dL_law_794 1 rfl ?_
      refine gx_iload C dL_law_795 5 rfl ?_
      refine gx_iconst (v := 1) C dL_law_797 rfl ?_
      refine gx_iadd C dL_law_798 ?_
      replace hf := gx_bs hf
      obtain ⟨x234, g246, hf⟩ := hf
      refine gx_iald C (mh_oai hH g246) dL_law_799 ?_
      replace hf := gx_b2s hf
      obtain ⟨x236, h237, g235, hf⟩ := hf
      refine gx_callV (st := []) C (w_X9_initialValueOf hlt g235) mh_is gz_497 rfl (lw_V q3073 q3074 q3075 q151 q3076) gz_668 (by decide) rfl rfl (gx_catn (Nat.le_of_ble_eq_true rfl)) dL_law_800 ?_
      refine gx_ist C dL_law_803 (by decide) [0, 1, 2, 3, 4, 5]  rfl (gx_okr rfl gx_catv_i (gx_okn rfl rfl (gx_okn rfl rfl (gx_okn rfl rfl (gx_okn rfl rfl (gx_okn rfl rfl gx_ok0)))))) ?_
      refine gx_aload_n C dL_law_805 4 rfl ?_
      replace hf := gx_bs hf
      obtain ⟨x239, g238, hf⟩ := hf
      refine gx_callV (st := []) C (w_X9_thrown hlt g238) mh_is gz_497 rfl (lw_V q2729 q2730 q2731 q151 q2732) gz_658 (by decide) rfl rfl (gx_catn (Nat.le_of_ble_eq_true rfl)) dL_law_806 ?_
      refine gx_iload C dL_law_809 1 rfl ?_
      replace hf := gx_ite hf
      rcases hf with ⟨c240, hf⟩ | ⟨c240, hf⟩
      · refine gx_icmp_eq_t (tgt := 816) C dL_law_811 rfl c240 ?_
        refine gx_iload C dL_law_816 1 rfl ?_
        replace hf := gx_ite hf
        rcases hf with ⟨c241, hf⟩ | ⟨c241, hf⟩
        · refine gx_if_ne_f (tgt := 833) C dL_law_818 rfl c241 ?_
          refine gx_aload_n C dL_law_821 5 rfl ?_
          refine gx_iconst (v := 0) C dL_law_822 rfl ?_
          replace hf := gx_bs hf
          obtain ⟨a242, rfl, hf⟩ := hf
          replace hf := gx_bs hf
          obtain ⟨x243, g245, hf⟩ := hf
          refine gx_lald C (mh_oal hH g245) dL_law_823 ?_
          refine gx_iload C dL_law_824 0 rfl ?_
          refine gx_i2l C dL_law_826 ?_
          refine gx_lcmp C dL_law_827 ?_
          replace hf := gx_ite hf
          rcases hf with ⟨c244, hf⟩ | ⟨c244, hf⟩
          · refine gx_if_eq_t (tgt := 833) C dL_law_828 rfl c244 ?_
            refine gx_sub [2, 3, 4, 5, 6] rfl ?_
            exact w_L_law_b833 hlt C hx wk23 hf hH
          · refine gx_if_eq_f (tgt := 833) C dL_law_828 rfl c244 ?_
            refine gx_iconst (v := 0) C dL_law_831 rfl ?_
            obtain ⟨rfl, rfl⟩ := Prod.mk.inj (Option.some.inj hf)
            exact gx_zret (b := false) C dL_law_832
        · refine gx_if_ne_t (tgt := 833) C dL_law_818 rfl c241 ?_
          refine gx_sub [2, 3, 4, 5, 6] rfl ?_
          exact w_L_law_b833 hlt C hx wk23 hf hH
      · refine gx_icmp_eq_f (tgt := 816) C dL_law_811 rfl c240 ?_
        refine gx_iconst (v := 0) C dL_law_814 rfl ?_
        obtain ⟨rfl, rfl⟩ := Prod.mk.inj (Option.some.inj hf)
        exact gx_zret (b := false) C dL_law_815
    replace hf := gx_ite hf
    rcases hf with ⟨c248, hf⟩ | ⟨c248, hf⟩
    · refine gx_tswIn (tgt := 836) C dL_law_40 (by rw [c248]; decide) (by rw [c248]; decide) (off := 796) (by rw [c248]; rfl) rfl ?_
      refine gx_aload_n C dL_law_836 1 rfl ?_
      refine gx_aload_n C dL_law_837 0 rfl ?_
      refine gx_iload C dL_law_838 4 rfl ?_
      refine gx_iconst (v := 1) C dL_law_840 rfl ?_
      refine gx_iadd C dL_law_841 ?_
      replace hf := gx_bs hf
      obtain ⟨x249, g266, hf⟩ := hf
      refine gx_iald C (mh_oai hH g266) dL_law_842 ?_
      refine gx_aload_n C dL_law_843 3 rfl ?_
      replace hf := gx_b2s hf
      obtain ⟨x251, h252, g250, hf⟩ := hf
      refine gx_xcallSW (st := []) C ((w_X0_sourceOf hlt g250).over hH) (lw_SW q2323 q2324 q120 q2325) gz_671 (by decide) rfl rfl (gx_catn (Nat.le_of_ble_eq_true rfl)) dL_law_844 (gx_k2l ?_)
      have hH := hH.le (le_X0_sourceOf g250)
      refine gx_ist C dL_law_847 (by decide) [0, 1, 2, 3, 4]  rfl (gx_okn rfl rfl (gx_okn rfl rfl (gx_okn rfl rfl (gx_okn rfl rfl (gx_okr rfl gx_catv_i gx_ok0))))) ?_
      refine gx_aload_n C dL_law_849 3 rfl ?_
      refine gx_aload_n C dL_law_850 1 rfl ?_
      refine gx_iload C dL_law_851 5 rfl ?_
      refine gx_iconst (v := 1) C dL_law_853 rfl ?_
      refine gx_iadd C dL_law_854 ?_
      replace hf := gx_bs hf
      obtain ⟨x253, g265, hf⟩ := hf
      refine gx_iald C (mh_oai hH g265) dL_law_855 ?_
      replace hf := gx_b2s hf
      obtain ⟨x255, h256, g254, hf⟩ := hf
      refine gx_callV (st := []) C (w_X9_sourceOf hlt g254) mh_is gz_497 rfl (lw_V q3053 q3054 q3055 q151 q3056) gz_670 (by decide) rfl rfl (gx_catn (Nat.le_of_ble_eq_true rfl)) dL_law_856 ?_
      refine gx_ist C dL_law_859 (by decide) [0, 1, 2, 3, 4, 5]  rfl (gx_okr rfl gx_catv_i (gx_okn rfl rfl (gx_okn rfl rfl (gx_okn rfl rfl (gx_okn rfl rfl (gx_okn rfl rfl gx_ok0)))))) ?_
      refine gx_aload_n C dL_law_861 4 rfl ?_
      replace hf := gx_bs hf
      obtain ⟨x258, g257, hf⟩ := hf
      refine gx_callV (st := []) C (w_X9_thrown hlt g257) mh_is gz_497 rfl (lw_V q2729 q2730 q2731 q151 q2732) gz_658 (by decide) rfl rfl (gx_catn (Nat.le_of_ble_eq_true rfl)) dL_law_862 ?_
      refine gx_iload C dL_law_865 1 rfl ?_
      replace hf := gx_ite hf
      rcases hf with ⟨c259, hf⟩ | ⟨c259, hf⟩
      · refine gx_icmp_eq_t (tgt := 872) C dL_law_867 rfl c259 ?_
        refine gx_iload C dL_law_872 1 rfl ?_
        replace hf := gx_ite hf
        rcases hf with ⟨c260, hf⟩ | ⟨c260, hf⟩
        · refine gx_if_ne_f (tgt := 889) C dL_law_874 rfl c260 ?_
          refine gx_aload_n C dL_law_877 5 rfl ?_
          refine gx_iconst (v := 0) C dL_law_878 rfl ?_
          replace hf := gx_bs hf
          obtain ⟨a261, rfl, hf⟩ := hf
          replace hf := gx_bs hf
          obtain ⟨x262, g264, hf⟩ := hf
          refine gx_lald C (mh_oal hH g264) dL_law_879 ?_
          refine gx_iload C dL_law_880 0 rfl ?_
          refine gx_i2l C dL_law_882 ?_
          refine gx_lcmp C dL_law_883 ?_
          replace hf := gx_ite hf
          rcases hf with ⟨c263, hf⟩ | ⟨c263, hf⟩
          · refine gx_if_eq_t (tgt := 889) C dL_law_884 rfl c263 ?_
            refine gx_sub [2, 3, 4, 5, 6] rfl ?_
            exact w_L_law_b889 hlt C hx wk23 hf hH
          · refine gx_if_eq_f (tgt := 889) C dL_law_884 rfl c263 ?_
            refine gx_iconst (v := 0) C dL_law_887 rfl ?_
            obtain ⟨rfl, rfl⟩ := Prod.mk.inj (Option.some.inj hf)
            exact gx_zret (b := false) C dL_law_888
        · refine gx_if_ne_t (tgt := 889) C dL_law_874 rfl c260 ?_
          refine gx_sub [2, 3, 4, 5, 6] rfl ?_
          exact w_L_law_b889 hlt C hx wk23 hf hH
      · refine gx_icmp_eq_f (tgt := 872) C dL_law_867 rfl c259 ?_
        refine gx_iconst (v := 0) C dL_law_870 rfl ?_
        obtain ⟨rfl, rfl⟩ := Prod.mk.inj (Option.some.inj hf)
        exact gx_zret (b := false) C dL_law_871
    replace hf := gx_ite hf
    rcases hf with ⟨c267, hf⟩ | ⟨c267, hf⟩
    · refine gx_tswIn (tgt := 892) C dL_law_40 (by rw [c267]; decide) (by rw [c267]; decide) (off := 852) (by rw [c267]; rfl) rfl ?_
      refine gx_aload_n C dL_law_892 1 rfl ?_
      refine gx_aload_n C dL_law_893 0 rfl ?_
      refine gx_iload C dL_law_894 4 rfl ?_
      refine gx_iconst (v := 1) C dL_law_896 rfl ?_
      refine gx_iadd C dL_law_897 ?_
      replace hf := gx_bs hf
      obtain ⟨x268, g285, hf⟩ := hf
      refine gx_iald C (mh_oai hH g285) dL_law_898 ?_
      refine gx_aload_n C dL_law_899 3 rfl ?_
      replace hf := gx_b2s hf
      obtain ⟨x270, h271, g269, hf⟩ := hf
      refine gx_xcallSW (st := []) C ((w_X0_eventOf hlt g269).over hH) (lw_SW q2334 q2335 q120 q2336) gz_673 (by decide) rfl rfl (gx_catn (Nat.le_of_ble_eq_true rfl)) dL_law_900 (gx_k2l ?_)
      have hH := hH.le (le_X0_eventOf g269)
      refine gx_ist C dL_law_903 (by decide) [0, 1, 2, 3, 4]  rfl (gx_okn rfl rfl (gx_okn rfl rfl (gx_okn rfl rfl (gx_okn rfl rfl (gx_okr rfl gx_catv_i gx_ok0))))) ?_
      refine gx_aload_n C dL_law_905 3 rfl ?_
      refine gx_aload_n C dL_law_906 1 rfl ?_
      refine gx_iload C dL_law_907 5 rfl ?_
      refine gx_iconst (v := 1) C dL_law_909 rfl ?_
      refine gx_iadd C dL_law_910 ?_
      replace hf := gx_bs hf
      obtain ⟨x272, g284, hf⟩ := hf
      refine gx_iald C (mh_oai hH g284) dL_law_911 ?_
      replace hf := gx_b2s hf
      obtain ⟨x274, h275, g273, hf⟩ := hf
      refine gx_callV (st := []) C (w_X9_eventOf hlt g273) mh_is gz_497 rfl (lw_V q3057 q3058 q3059 q151 q3060) gz_672 (by decide) rfl rfl (gx_catn (Nat.le_of_ble_eq_true rfl)) dL_law_912 ?_
      refine gx_ist C dL_law_915 (by decide) [0, 1, 2, 3, 4, 5]  rfl (gx_okr rfl gx_catv_i (gx_okn rfl rfl (gx_okn rfl rfl (gx_okn rfl rfl (gx_okn rfl rfl (gx_okn rfl rfl gx_ok0)))))) ?_
      refine gx_aload_n C dL_law_917 4 rfl ?_
      replace hf := gx_bs hf
      obtain ⟨x277, g276, hf⟩ := hf
      refine gx_callV (st := []) C (w_X9_thrown hlt g276) mh_is gz_497 rfl (lw_V q2729 q2730 q2731 q151 q2732) gz_658 (by decide) rfl rfl (gx_catn (Nat.le_of_ble_eq_true rfl)) dL_law_918 ?_
      refine gx_iload C dL_law_921 1 rfl ?_
      replace hf := gx_ite hf
      rcases hf with ⟨c278, hf⟩ | ⟨c278, hf⟩
      · refine gx_icmp_eq_t (tgt := 928) C dL_law_923 rfl c278 ?_
        refine gx_iload C dL_law_928 1 rfl ?_
        replace hf := gx_ite hf
        rcases hf with ⟨c279, hf⟩ | ⟨c279, hf⟩
        · refine gx_if_ne_f (tgt := 945) C dL_law_930 rfl c279 ?_
          refine gx_aload_n C dL_law_933 5 rfl ?_
          refine gx_iconst (v := 0) C dL_law_934 rfl ?_
          replace hf := gx_bs hf
          obtain ⟨a280, rfl, hf⟩ := hf
          replace hf := gx_bs hf
          obtain ⟨x281, g283, hf⟩ := hf
          refine gx_lald C (mh_oal hH g283) dL_law_935 ?_
          refine gx_iload C dL_law_936 0 rfl ?_
          refine gx_i2l C dL_law_938 ?_
          refine gx_lcmp C dL_law_939 ?_
          replace hf := gx_ite hf
          rcases hf with ⟨c282, hf⟩ | ⟨c282, hf⟩
          · refine gx_if_eq_t (tgt := 945) C dL_law_940 rfl c282 ?_
            refine gx_sub [2, 3, 4, 5, 6] rfl ?_
            exact w_L_law_b945 hlt C hx wk23 hf hH
          · refine gx_if_eq_f (tgt := 945) C dL_law_940 rfl c282 ?_
            refine gx_iconst (v := 0) C dL_law_943 rfl ?_
            obtain ⟨rfl, rfl⟩ := Prod.mk.inj (Option.some.inj hf)
            exact gx_zret (b := false) C dL_law_944
        · refine gx_if_ne_t (tgt := 945) C dL_law_930 rfl c279 ?_
          refine gx_sub [2, 3, 4, 5, 6] rfl ?_
          exact w_L_law_b945 hlt C hx wk23 hf hH
      · refine gx_icmp_eq_f (tgt := 928) C dL_law_923 rfl c278 ?_
        refine gx_iconst (v := 0) C dL_law_926 rfl ?_
        obtain ⟨rfl, rfl⟩ := Prod.mk.inj (Option.some.inj hf)
        exact gx_zret (b := false) C dL_law_927
    replace hf := gx_ite hf
    rcases hf with ⟨c286, hf⟩ | ⟨c286, hf⟩
    · refine gx_tswIn (tgt := 948) C dL_law_40 (by rw [c286]; decide) (by rw [c286]; decide) (off := 908) (by rw [c286]; rfl) rfl ?_
      refine gx_aload_n C dL_law_948 1 rfl ?_
      refine gx_aload_n C dL_law_949 0 rfl ?_
      refine gx_iload C dL_law_950 4 rfl ?_
      refine gx_iconst (v := 1) C dL_law_952 rfl ?_
      refine gx_iadd C dL_law_953 ?_
      replace hf := gx_bs hf
      obtain ⟨x287, g304, hf⟩ := hf
      refine gx_iald C (mh_oai hH g304) dL_law_954 ?_
      refine gx_aload_n C dL_law_955 3 rfl ?_
      replace hf := gx_b2s hf
      obtain ⟨x289, h290, g288, hf⟩ := hf
      refine gx_xcallSW (st := []) C ((w_X0_targetOf hlt g288).over hH) (lw_SW q2341 q2342 q120 q2343) gz_675 (by decide) rfl rfl (gx_catn (Nat.le_of_ble_eq_true rfl)) dL_law_956 (gx_k2l ?_)
      have hH := hH.le (le_X0_targetOf g288)
      refine gx_ist C dL_law_959 (by decide) [0, 1, 2, 3, 4]  rfl (gx_okn rfl rfl (gx_okn rfl rfl (gx_okn rfl rfl (gx_okn rfl rfl (gx_okr rfl gx_catv_i gx_ok0))))) ?_
      refine gx_aload_n C dL_law_961 3 rfl ?_
      refine gx_aload_n C dL_law_962 1 rfl ?_
      refine gx_iload C dL_law_963 5 rfl ?_
      refine gx_iconst (v := 1) C dL_law_965 rfl ?_
      refine gx_iadd C dL_law_966 ?_
      replace hf := gx_bs hf
      obtain ⟨x291, g303, hf⟩ := hf
      refine gx_iald C (mh_oai hH g303) dL_law_967 ?_
      replace hf := gx_b2s hf
      obtain ⟨x293, h294, g292, hf⟩ := hf
      refine gx_callV (st := []) C (w_X9_targetOf hlt g292) mh_is gz_497 rfl (lw_V q3061 q3062 q3063 q151 q3064) gz_674 (by decide) rfl rfl (gx_catn (Nat.le_of_ble_eq_true rfl)) dL_law_968 ?_
      refine gx_ist C dL_law_971 (by decide) [0, 1, 2, 3, 4, 5]  rfl (gx_okr rfl gx_catv_i (gx_okn rfl rfl (gx_okn rfl rfl (gx_okn rfl rfl (gx_okn rfl rfl (gx_okn rfl rfl gx_ok0)))))) ?_
      refine gx_aload_n C dL_law_973 4 rfl ?_
      replace hf := gx_bs hf
      obtain ⟨x296, g295, hf⟩ := hf
      refine gx_callV (st := []) C (w_X9_thrown hlt g295) mh_is gz_497 rfl (lw_V q2729 q2730 q2731 q151 q2732) gz_658 (by decide) rfl rfl (gx_catn (Nat.le_of_ble_eq_true rfl)) dL_law_974 ?_
      refine gx_iload C dL_law_977 1 rfl ?_
      replace hf := gx_ite hf
      rcases hf with ⟨c297, hf⟩ | ⟨c297, hf⟩
      · refine gx_icmp_eq_t (tgt := 984) C dL_law_979 rfl c297 ?_
        refine gx_iload C dL_law_984 1 rfl ?_
        replace hf := gx_ite hf
        rcases hf with ⟨c298, hf⟩ | ⟨c298, hf⟩
        · refine gx_if_ne_f (tgt := 1001) C dL_law_986 rfl c298 ?_
          refine gx_aload_n C dL_law_989 5 rfl ?_
          refine gx_iconst (v := 0) C dL_law_990 rfl ?_
          replace hf := gx_bs hf
          obtain ⟨a299, rfl, hf⟩ := hf
          replace hf := gx_bs hf
          obtain ⟨x300, g302, hf⟩ := hf
          refine gx_lald C (mh_oal hH g302) dL_law_991 ?_
          refine gx_iload C dL_law_992 0 rfl ?_
          refine gx_i2l C dL_law_994 ?_
          refine gx_lcmp C dL_law_995 ?_
          replace hf := gx_ite hf
          rcases hf with ⟨c301, hf⟩ | ⟨c301, hf⟩
          · refine gx_if_eq_t (tgt := 1001) C dL_law_996 rfl c301 ?_
            refine gx_sub [2, 3, 4, 5, 6] rfl ?_
            exact w_L_law_b1001 hlt C hx wk23 hf hH
          · refine gx_if_eq_f (tgt := 1001) C dL_law_996 rfl c301 ?_
            refine gx_iconst (v := 0) C dL_law_999 rfl ?_
            obtain ⟨rfl, rfl⟩ := Prod.mk.inj (Option.some.inj hf)
            exact gx_zret (b := false) C dL_law_1000
        · refine gx_if_ne_t (tgt := 1001) C dL_law_986 rfl c298 ?_
          refine gx_sub [2, 3, 4, 5, 6] rfl ?_
          exact w_L_law_b1001 hlt C hx wk23 hf hH
      · refine gx_icmp_eq_f (tgt := 984) C dL_law_979 rfl c297 ?_
        refine gx_iconst (v := 0) C dL_law_982 rfl ?_
        obtain ⟨rfl, rfl⟩ := Prod.mk.inj (Option.some.inj hf)
        exact gx_zret (b := false) C dL_law_983
    replace hf := gx_ite hf
    rcases hf with ⟨c305, hf⟩ | ⟨c305, hf⟩
    · refine gx_tswIn (tgt := 1004) C dL_law_40 (by rw [c305]; decide) (by rw [c305]; decide) (off := 964) (by rw [c305]; rfl) rfl ?_
      refine gx_aload_n C dL_law_1004 1 rfl ?_
      refine gx_aload_n C dL_law_1005 0 rfl ?_
      refine gx_iload C dL_law_1006 4 rfl ?_
      refine gx_iconst (v := 1) C dL_law_1008 rfl ?_
      refine gx_iadd C dL_law_1009 ?_
      replace hf := gx_bs hf
      obtain ⟨x306, g324, hf⟩ := hf
      refine gx_iald C (mh_oai hH g324) dL_law_1010 ?_
      refine gx_aload_n C dL_law_1011 3 rfl ?_
      replace hf := gx_b2s hf
      obtain ⟨x308, h309, g307, hf⟩ := hf
      refine gx_xcallSW (st := []) C ((w_X0_hasGuard hlt g307).over hH) (lw_SW q2348 q2349 q120 q2350) gz_677 (by decide) rfl rfl (gx_catn (Nat.le_of_ble_eq_true rfl)) dL_law_1012 (gx_k2l ?_)
      have hH := hH.le (le_X0_hasGuard g307)
      refine gx_ist C dL_law_1015 (by decide) [0, 1, 2, 3, 4]  rfl (gx_okn rfl rfl (gx_okn rfl rfl (gx_okn rfl rfl (gx_okn rfl rfl (gx_okr rfl gx_catv_i gx_ok0))))) ?_
      refine gx_aload_n C dL_law_1017 3 rfl ?_
      refine gx_aload_n C dL_law_1018 1 rfl ?_
      refine gx_iload C dL_law_1019 5 rfl ?_
      refine gx_iconst (v := 1) C dL_law_1021 rfl ?_
      refine gx_iadd C dL_law_1022 ?_
      replace hf := gx_bs hf
      obtain ⟨x310, g323, hf⟩ := hf
      refine gx_iald C (mh_oai hH g323) dL_law_1023 ?_
      replace hf := gx_b2s hf
      obtain ⟨b312, h313, g311, hf⟩ := hf
      refine gx_callV (st := []) C (w_X9_hasGuard hlt g311) mh_is gz_497 rfl (lw_V q3077 q3078 q3079 q151 q3080) gz_676 (by decide) rfl rfl (gx_catn (Nat.le_of_ble_eq_true rfl)) dL_law_1024 ?_
      refine gx_ist C dL_law_1027 (by decide) [0, 1, 2, 3, 4, 5]  rfl (gx_okr rfl gx_catv_i (gx_okn rfl rfl (gx_okn rfl rfl (gx_okn rfl rfl (gx_okn rfl rfl (gx_okn rfl rfl gx_ok0)))))) ?_
      refine gx_aload_n C dL_law_1029 4 rfl ?_
      replace hf := gx_bs hf
      obtain ⟨x315, g314, hf⟩ := hf
      refine gx_callV (st := []) C (w_X9_thrown hlt g314) mh_is gz_497 rfl (lw_V q2729 q2730 q2731 q151 q2732) gz_658 (by decide) rfl rfl (gx_catn (Nat.le_of_ble_eq_true rfl)) dL_law_1030 ?_
      refine gx_iload C dL_law_1033 1 rfl ?_
      replace hf := gx_ite hf
      rcases hf with ⟨c316, hf⟩ | ⟨c316, hf⟩
      · refine gx_icmp_eq_t (tgt := 1040) C dL_law_1035 rfl c316 ?_
        refine gx_iload C dL_law_1040 1 rfl ?_
        replace hf := gx_ite hf
        rcases hf with ⟨c317, hf⟩ | ⟨c317, hf⟩
        · refine gx_if_ne_f (tgt := 1064) C dL_law_1042 rfl c317 ?_
          refine gx_aload_n C dL_law_1045 5 rfl ?_
          refine gx_iconst (v := 0) C dL_law_1046 rfl ?_
          replace hf := gx_bs hf
          obtain ⟨a318, rfl, hf⟩ := hf
          replace hf := gx_bs hf
          obtain ⟨x319, g322, hf⟩ := hf
          refine gx_lald C (mh_oal hH g322) dL_law_1047 ?_
          refine gx_iload C dL_law_1048 0 rfl ?_
          replace hf := gx_ite hf
          rcases hf with ⟨c320, hf⟩ | ⟨c320, hf⟩
          · refine gx_ifz_eq_f (tgt := 1057) C dL_law_1050 rfl c320 ?_
            refine gx_lconst (v := 1) C dL_law_1053 rfl ?_
            refine gx_goto (tgt := 1058) C dL_law_1054 rfl ?_
            refine gx_sub [2, 3, 4, 5, 6] rfl ?_
            exact w_L_law_b1058 hlt C hx wk23 hf hH
          · refine gx_ifz_eq_t (tgt := 1057) C dL_law_1050 rfl c320 ?_
            refine gx_lconst (v := 0) C dL_law_1057 rfl ?_
            refine gx_sub [2, 3, 4, 5, 6] rfl ?_
            exact w_L_law_b1058 hlt C hx wk23 hf hH
        · refine gx_if_ne_t (tgt := 1064) C dL_law_1042 rfl c317 ?_
          refine gx_sub [2, 3, 4, 5, 6] rfl ?_
          exact w_L_law_b1064 hlt C hx wk23 hf hH
      · refine gx_icmp_eq_f (tgt := 1040) C dL_law_1035 rfl c316 ?_
        refine gx_iconst (v := 0) C dL_law_1038 rfl ?_
        obtain ⟨rfl, rfl⟩ := Prod.mk.inj (Option.some.inj hf)
        exact gx_zret (b := false) C dL_law_1039
    replace hf := gx_ite hf
    rcases hf with ⟨c325, hf⟩ | ⟨c325, hf⟩
    · refine gx_tswIn (tgt := 1067) C dL_law_40 (by rw [c325]; decide) (by rw [c325]; decide) (off := 1027) (by rw [c325]; rfl) rfl ?_
      refine gx_aload_n C dL_law_1067 1 rfl ?_
      refine gx_aload_n C dL_law_1068 0 rfl ?_
      refine gx_iload C dL_law_1069 4 rfl ?_
      refine gx_iconst (v := 1) C dL_law_1071 rfl ?_
      refine gx_iadd C dL_law_1072 ?_
      replace hf := gx_bs hf
      obtain ⟨x326, g344, hf⟩ := hf
      refine gx_iald C (mh_oai hH g344) dL_law_1073 ?_
      refine gx_aload_n C dL_law_1074 3 rfl ?_
      replace hf := gx_b2s hf
      obtain ⟨x328, h329, g327, hf⟩ := hf
      refine gx_xcallSW (st := []) C ((w_X0_guardHolds hlt g327).over hH) (lw_SW q2355 q2356 q120 q2357) gz_679 (by decide) rfl rfl (gx_catn (Nat.le_of_ble_eq_true rfl)) dL_law_1075 (gx_k2l ?_)
      have hH := hH.le (le_X0_guardHolds g327)
      refine gx_ist C dL_law_1078 (by decide) [0, 1, 2, 3, 4]  rfl (gx_okn rfl rfl (gx_okn rfl rfl (gx_okn rfl rfl (gx_okn rfl rfl (gx_okr rfl gx_catv_i gx_ok0))))) ?_
      refine gx_aload_n C dL_law_1080 3 rfl ?_
      refine gx_aload_n C dL_law_1081 1 rfl ?_
      refine gx_iload C dL_law_1082 5 rfl ?_
      refine gx_iconst (v := 1) C dL_law_1084 rfl ?_
      refine gx_iadd C dL_law_1085 ?_
      replace hf := gx_bs hf
      obtain ⟨x330, g343, hf⟩ := hf
      refine gx_iald C (mh_oai hH g343) dL_law_1086 ?_
      replace hf := gx_b2s hf
      obtain ⟨b332, h333, g331, hf⟩ := hf
      refine gx_callV (st := []) C (w_X9_guardHolds hlt g331) mh_is gz_497 rfl (lw_V q3081 q3082 q3083 q151 q3084) gz_678 (by decide) rfl rfl (gx_catn (Nat.le_of_ble_eq_true rfl)) dL_law_1087 ?_
      refine gx_ist C dL_law_1090 (by decide) [0, 1, 2, 3, 4, 5]  rfl (gx_okr rfl gx_catv_i (gx_okn rfl rfl (gx_okn rfl rfl (gx_okn rfl rfl (gx_okn rfl rfl (gx_okn rfl rfl gx_ok0)))))) ?_
      refine gx_aload_n C dL_law_1092 4 rfl ?_
      replace hf := gx_bs hf
      obtain ⟨x335, g334, hf⟩ := hf
      refine gx_callV (st := []) C (w_X9_thrown hlt g334) mh_is gz_497 rfl (lw_V q2729 q2730 q2731 q151 q2732) gz_658 (by decide) rfl rfl (gx_catn (Nat.le_of_ble_eq_true rfl)) dL_law_1093 ?_
      refine gx_iload C dL_law_1096 1 rfl ?_
      replace hf := gx_ite hf
      rcases hf with ⟨c336, hf⟩ | ⟨c336, hf⟩
      · refine gx_icmp_eq_t (tgt := 1103) C dL_law_1098 rfl c336 ?_
        refine gx_iload C dL_law_1103 1 rfl ?_
        replace hf := gx_ite hf
        rcases hf with ⟨c337, hf⟩ | ⟨c337, hf⟩
        · refine gx_if_ne_f (tgt := 1127) C dL_law_1105 rfl c337 ?_
          refine gx_aload_n C dL_law_1108 5 rfl ?_
          refine gx_iconst (v := 0) C dL_law_1109 rfl ?_
          replace hf := gx_bs hf
          obtain ⟨a338, rfl, hf⟩ := hf
          replace hf := gx_bs hf
          obtain ⟨x339, g342, hf⟩ := hf
          refine gx_lald C (mh_oal hH g342) dL_law_1110 ?_
          refine gx_iload C dL_law_1111 0 rfl ?_
          replace hf := gx_ite hf
          rcases hf with ⟨c340, hf⟩ | ⟨c340, hf⟩
          · refine gx_ifz_eq_f (tgt := 1120) C dL_law_1113 rfl c340 ?_
            refine gx_lconst (v := 1) C dL_law_1116 rfl ?_
            refine gx_goto (tgt := 1121) C dL_law_1117 rfl ?_
            refine gx_sub [2, 3, 4, 5, 6] rfl ?_
            exact w_L_law_b1121 hlt C hx wk23 hf hH
          · refine gx_ifz_eq_t (tgt := 1120) C dL_law_1113 rfl c340 ?_
            refine gx_lconst (v := 0) C dL_law_1120 rfl ?_
            refine gx_sub [2, 3, 4, 5, 6] rfl ?_
            exact w_L_law_b1121 hlt C hx wk23 hf hH
        · refine gx_if_ne_t (tgt := 1127) C dL_law_1105 rfl c337 ?_
          refine gx_sub [2, 3, 4, 5, 6] rfl ?_
          exact w_L_law_b1127 hlt C hx wk23 hf hH
      · refine gx_icmp_eq_f (tgt := 1103) C dL_law_1098 rfl c336 ?_
        refine gx_iconst (v := 0) C dL_law_1101 rfl ?_
        obtain ⟨rfl, rfl⟩ := Prod.mk.inj (Option.some.inj hf)
        exact gx_zret (b := false) C dL_law_1102
    replace hf := gx_ite hf
    rcases hf with ⟨c345, hf⟩ | ⟨c345, hf⟩
    · refine gx_tswIn (tgt := 1130) C dL_law_40 (by rw [c345]; decide) (by rw [c345]; decide) (off := 1090) (by rw [c345]; rfl) rfl ?_
      refine gx_aload_n C dL_law_1130 1 rfl ?_
      refine gx_aload_n C dL_law_1131 0 rfl ?_
      refine gx_iload C dL_law_1132 4 rfl ?_
      refine gx_iconst (v := 1) C dL_law_1134 rfl ?_
      refine gx_iadd C dL_law_1135 ?_
      replace hf := gx_bs hf
      obtain ⟨x346, g363, hf⟩ := hf
      refine gx_iald C (mh_oai hH g363) dL_law_1136 ?_
      refine gx_aload_n C dL_law_1137 3 rfl ?_
      replace hf := gx_b2s hf
      obtain ⟨x348, h349, g347, hf⟩ := hf
      refine gx_xcallSW (st := []) C ((w_X0_stateOfInvariant hlt g347).over hH) (lw_SW q2363 q2364 q120 q2365) gz_681 (by decide) rfl rfl (gx_catn (Nat.le_of_ble_eq_true rfl)) dL_law_1138 (gx_k2l ?_)
      have hH := hH.le (le_X0_stateOfInvariant g347)
      refine gx_ist C dL_law_1141 (by decide) [0, 1, 2, 3, 4]  rfl (gx_okn rfl rfl (gx_okn rfl rfl (gx_okn rfl rfl (gx_okn rfl rfl (gx_okr rfl gx_catv_i gx_ok0))))) ?_
      refine gx_aload_n C dL_law_1143 3 rfl ?_
      refine gx_aload_n C dL_law_1144 1 rfl ?_
      refine gx_iload C dL_law_1145 5 rfl ?_
      refine gx_iconst (v := 1) C dL_law_1147 rfl ?_
      refine gx_iadd C dL_law_1148 ?_
      replace hf := gx_bs hf
      obtain ⟨x350, g362, hf⟩ := hf
      refine gx_iald C (mh_oai hH g362) dL_law_1149 ?_
      replace hf := gx_b2s hf
      obtain ⟨x352, h353, g351, hf⟩ := hf
      refine gx_callV (st := []) C (w_X9_stateOfInvariant hlt g351) mh_is gz_497 rfl (lw_V q3085 q3086 q3087 q151 q3088) gz_680 (by decide) rfl rfl (gx_catn (Nat.le_of_ble_eq_true rfl)) dL_law_1150 ?_
      refine gx_ist C dL_law_1153 (by decide) [0, 1, 2, 3, 4, 5]  rfl (gx_okr rfl gx_catv_i (gx_okn rfl rfl (gx_okn rfl rfl (gx_okn rfl rfl (gx_okn rfl rfl (gx_okn rfl rfl gx_ok0)))))) ?_
      refine gx_aload_n C dL_law_1155 4 rfl ?_
      replace hf := gx_bs hf
      obtain ⟨x355, g354, hf⟩ := hf
      refine gx_callV (st := []) C (w_X9_thrown hlt g354) mh_is gz_497 rfl (lw_V q2729 q2730 q2731 q151 q2732) gz_658 (by decide) rfl rfl (gx_catn (Nat.le_of_ble_eq_true rfl)) dL_law_1156 ?_
      refine gx_iload C dL_law_1159 1 rfl ?_
      replace hf := gx_ite hf
      rcases hf with ⟨c356, hf⟩ | ⟨c356, hf⟩
      · refine gx_icmp_eq_t (tgt := 1166) C dL_law_1161 rfl c356 ?_
        refine gx_iload C dL_law_1166 1 rfl ?_
        replace hf := gx_ite hf
        rcases hf with ⟨c357, hf⟩ | ⟨c357, hf⟩
        · refine gx_if_ne_f (tgt := 1183) C dL_law_1168 rfl c357 ?_
          refine gx_aload_n C dL_law_1171 5 rfl ?_
          refine gx_iconst (v := 0) C dL_law_1172 rfl ?_
          replace hf := gx_bs hf
          obtain ⟨a358, rfl, hf⟩ := hf
          replace hf := gx_bs hf
          obtain ⟨x359, g361, hf⟩ := hf
          refine gx_lald C (mh_oal hH g361) dL_law_1173 ?_
          refine gx_iload C dL_law_1174 0 rfl ?_
          refine gx_i2l C dL_law_1176 ?_
          refine gx_lcmp C dL_law_1177 ?_
          replace hf := gx_ite hf
          rcases hf with ⟨c360, hf⟩ | ⟨c360, hf⟩
          · refine gx_if_eq_t (tgt := 1183) C dL_law_1178 rfl c360 ?_
            refine gx_sub [2, 3, 4, 5, 6] rfl ?_
            exact w_L_law_b1183 hlt C hx wk23 hf hH
          · refine gx_if_eq_f (tgt := 1183) C dL_law_1178 rfl c360 ?_
            refine gx_iconst (v := 0) C dL_law_1181 rfl ?_
            obtain ⟨rfl, rfl⟩ := Prod.mk.inj (Option.some.inj hf)
            exact gx_zret (b := false) C dL_law_1182
        · refine gx_if_ne_t (tgt := 1183) C dL_law_1168 rfl c357 ?_
          refine gx_sub [2, 3, 4, 5, 6] rfl ?_
          exact w_L_law_b1183 hlt C hx wk23 hf hH
      · refine gx_icmp_eq_f (tgt := 1166) C dL_law_1161 rfl c356 ?_
        refine gx_iconst (v := 0) C dL_law_1164 rfl ?_
        obtain ⟨rfl, rfl⟩ := Prod.mk.inj (Option.some.inj hf)
        exact gx_zret (b := false) C dL_law_1165
    replace hf := gx_ite hf
    rcases hf with ⟨c364, hf⟩ | ⟨c364, hf⟩
    · refine gx_tswIn (tgt := 1186) C dL_law_40 (by rw [c364]; decide) (by rw [c364]; decide) (off := 1146) (by rw [c364]; rfl) rfl ?_
      refine gx_aload_n C dL_law_1186 1 rfl ?_
      refine gx_aload_n C dL_law_1187 0 rfl ?_
      refine gx_iload C dL_law_1188 4 rfl ?_
      refine gx_iconst (v := 1) C dL_law_1190 rfl ?_
      refine gx_iadd C dL_law_1191 ?_
      replace hf := gx_bs hf
      obtain ⟨x365, g383, hf⟩ := hf
      refine gx_iald C (mh_oai hH g383) dL_law_1192 ?_
      refine gx_aload_n C dL_law_1193 3 rfl ?_
      replace hf := gx_b2s hf
      obtain ⟨x367, h368, g366, hf⟩ := hf
      refine gx_xcallSW (st := []) C ((w_X0_comparisonHolds hlt g366).over hH) (lw_SW q2374 q2375 q120 q2376) gz_683 (by decide) rfl rfl (gx_catn (Nat.le_of_ble_eq_true rfl)) dL_law_1194 (gx_k2l ?_)
      have hH := hH.le (le_X0_comparisonHolds g366)
      refine gx_ist C dL_law_1197 (by decide) [0, 1, 2, 3, 4]  rfl (gx_okn rfl rfl (gx_okn rfl rfl (gx_okn rfl rfl (gx_okn rfl rfl (gx_okr rfl gx_catv_i gx_ok0))))) ?_
      refine gx_aload_n C dL_law_1199 3 rfl ?_
      refine gx_aload_n C dL_law_1200 1 rfl ?_
      refine gx_iload C dL_law_1201 5 rfl ?_
      refine gx_iconst (v := 1) C dL_law_1203 rfl ?_
      refine gx_iadd C dL_law_1204 ?_
      replace hf := gx_bs hf
      obtain ⟨x369, g382, hf⟩ := hf
      refine gx_iald C (mh_oai hH g382) dL_law_1205 ?_
      replace hf := gx_b2s hf
      obtain ⟨b371, h372, g370, hf⟩ := hf
      refine gx_callV (st := []) C (w_X9_comparisonHolds hlt g370) mh_is gz_497 rfl (lw_V q3089 q3090 q3091 q151 q3092) gz_682 (by decide) rfl rfl (gx_catn (Nat.le_of_ble_eq_true rfl)) dL_law_1206 ?_
      refine gx_ist C dL_law_1209 (by decide) [0, 1, 2, 3, 4, 5]  rfl (gx_okr rfl gx_catv_i (gx_okn rfl rfl (gx_okn rfl rfl (gx_okn rfl rfl (gx_okn rfl rfl (gx_okn rfl rfl gx_ok0)))))) ?_
      refine gx_aload_n C dL_law_1211 4 rfl ?_
      replace hf := gx_bs hf
      obtain ⟨x374, g373, hf⟩ := hf
      refine gx_callV (st := []) C (w_X9_thrown hlt g373) mh_is gz_497 rfl (lw_V q2729 q2730 q2731 q151 q2732) gz_658 (by decide) rfl rfl (gx_catn (Nat.le_of_ble_eq_true rfl)) dL_law_1212 ?_
      refine gx_iload C dL_law_1215 1 rfl ?_
      replace hf := gx_ite hf
      rcases hf with ⟨c375, hf⟩ | ⟨c375, hf⟩
      · refine gx_icmp_eq_t (tgt := 1222) C dL_law_1217 rfl c375 ?_
        refine gx_iload C dL_law_1222 1 rfl ?_
        replace hf := gx_ite hf
        rcases hf with ⟨c376, hf⟩ | ⟨c376, hf⟩
        · refine gx_if_ne_f (tgt := 1246) C dL_law_1224 rfl c376 ?_
          refine gx_aload_n C dL_law_1227 5 rfl ?_
          refine gx_iconst (v := 0) C dL_law_1228 rfl ?_
          replace hf := gx_bs hf
          obtain ⟨a377, rfl, hf⟩ := hf
          replace hf := gx_bs hf
          obtain ⟨x378, g381, hf⟩ := hf
          refine gx_lald C (mh_oal hH g381) dL_law_1229 ?_
          refine gx_iload C dL_law_1230 0 rfl ?_
          replace hf := gx_ite hf
          rcases hf with ⟨c379, hf⟩ | ⟨c379, hf⟩
          · refine gx_ifz_eq_f (tgt := 1239) C dL_law_1232 rfl c379 ?_
            refine gx_lconst (v := 1) C dL_law_1235 rfl ?_
            refine gx_goto (tgt := 1240) C dL_law_1236 rfl ?_
            refine gx_sub [2, 3, 4, 5, 6] rfl ?_
            exact w_L_law_b1240 hlt C hx wk23 hf hH
          · refine gx_ifz_eq_t (tgt := 1239) C dL_law_1232 rfl c379 ?_
            refine gx_lconst (v := 0) C dL_law_1239 rfl ?_
            refine gx_sub [2, 3, 4, 5, 6] rfl ?_
            exact w_L_law_b1240 hlt C hx wk23 hf hH
        · refine gx_if_ne_t (tgt := 1246) C dL_law_1224 rfl c376 ?_
          refine gx_sub [2, 3, 4, 5, 6] rfl ?_
          exact w_L_law_b1246 hlt C hx wk23 hf hH
      · refine gx_icmp_eq_f (tgt := 1222) C dL_law_1217 rfl c375 ?_
        refine gx_iconst (v := 0) C dL_law_1220 rfl ?_
        obtain ⟨rfl, rfl⟩ := Prod.mk.inj (Option.some.inj hf)
        exact gx_zret (b := false) C dL_law_1221
    replace hf := gx_ite hf
    rcases hf with ⟨c384, hf⟩ | ⟨c384, hf⟩
    · refine gx_tswIn (tgt := 1249) C dL_law_40 (by rw [c384]; decide) (by rw [c384]; decide) (off := 1209) (by rw [c384]; rfl) rfl ?_
      refine gx_aload_n C dL_law_1249 1 rfl ?_
      refine gx_aload_n C dL_law_1250 0 rfl ?_
      refine gx_iload C dL_law_1251 4 rfl ?_
      refine gx_iconst (v := 1) C dL_law_1253 rfl ?_
      refine gx_iadd C dL_law_1254 ?_
      replace hf := gx_bs hf
      obtain ⟨x385, g402, hf⟩ := hf
      refine gx_iald C (mh_oai hH g402) dL_law_1255 ?_
      refine gx_aload_n C dL_law_1256 3 rfl ?_
      replace hf := gx_b2s hf
      obtain ⟨x387, h388, g386, hf⟩ := hf
      refine gx_xcallSW (st := []) C ((w_X0_verdictOf hlt g386).over hH) (lw_SW q2382 q2383 q120 q2384) gz_685 (by decide) rfl rfl (gx_catn (Nat.le_of_ble_eq_true rfl)) dL_law_1257 (gx_k2l ?_)
      have hH := hH.le (le_X0_verdictOf g386)
      refine gx_ist C dL_law_1260 (by decide) [0, 1, 2, 3, 4]  rfl (gx_okn rfl rfl (gx_okn rfl rfl (gx_okn rfl rfl (gx_okn rfl rfl (gx_okr rfl gx_catv_i gx_ok0))))) ?_
      refine gx_aload_n C dL_law_1262 3 rfl ?_
      refine gx_aload_n C dL_law_1263 1 rfl ?_
      refine gx_iload C dL_law_1264 5 rfl ?_
      refine gx_iconst (v := 1) C dL_law_1266 rfl ?_
      refine gx_iadd C dL_law_1267 ?_
      replace hf := gx_bs hf
      obtain ⟨x389, g401, hf⟩ := hf
      refine gx_iald C (mh_oai hH g401) dL_law_1268 ?_
      replace hf := gx_b2s hf
      obtain ⟨x391, h392, g390, hf⟩ := hf
      refine gx_callV (st := []) C (w_X9_verdictOf hlt g390) mh_is gz_497 rfl (lw_V q3093 q3094 q3095 q151 q3096) gz_684 (by decide) rfl rfl (gx_catn (Nat.le_of_ble_eq_true rfl)) dL_law_1269 ?_
      refine gx_ist C dL_law_1272 (by decide) [0, 1, 2, 3, 4, 5]  rfl (gx_okr rfl gx_catv_i (gx_okn rfl rfl (gx_okn rfl rfl (gx_okn rfl rfl (gx_okn rfl rfl (gx_okn rfl rfl gx_ok0)))))) ?_
      refine gx_aload_n C dL_law_1274 4 rfl ?_
      replace hf := gx_bs hf
      obtain ⟨x394, g393, hf⟩ := hf
      refine gx_callV (st := []) C (w_X9_thrown hlt g393) mh_is gz_497 rfl (lw_V q2729 q2730 q2731 q151 q2732) gz_658 (by decide) rfl rfl (gx_catn (Nat.le_of_ble_eq_true rfl)) dL_law_1275 ?_
      refine gx_iload C dL_law_1278 1 rfl ?_
      replace hf := gx_ite hf
      rcases hf with ⟨c395, hf⟩ | ⟨c395, hf⟩
      · refine gx_icmp_eq_t (tgt := 1285) C dL_law_1280 rfl c395 ?_
        refine gx_iload C dL_law_1285 1 rfl ?_
        replace hf := gx_ite hf
        rcases hf with ⟨c396, hf⟩ | ⟨c396, hf⟩
        · refine gx_if_ne_f (tgt := 1302) C dL_law_1287 rfl c396 ?_
          refine gx_aload_n C dL_law_1290 5 rfl ?_
          refine gx_iconst (v := 0) C dL_law_1291 rfl ?_
          replace hf := gx_bs hf
          obtain ⟨a397, rfl, hf⟩ := hf
          replace hf := gx_bs hf
          obtain ⟨x398, g400, hf⟩ := hf
          refine gx_lald C (mh_oal hH g400) dL_law_1292 ?_
          refine gx_iload C dL_law_1293 0 rfl ?_
          refine gx_i2l C dL_law_1295 ?_
          refine gx_lcmp C dL_law_1296 ?_
          replace hf := gx_ite hf
          rcases hf with ⟨c399, hf⟩ | ⟨c399, hf⟩
          · refine gx_if_eq_t (tgt := 1302) C dL_law_1297 rfl c399 ?_
            refine gx_sub [2, 3, 4, 5, 6] rfl ?_
            exact w_L_law_b1302 hlt C hx wk23 hf hH
          · refine gx_if_eq_f (tgt := 1302) C dL_law_1297 rfl c399 ?_
            refine gx_iconst (v := 0) C dL_law_1300 rfl ?_
            obtain ⟨rfl, rfl⟩ := Prod.mk.inj (Option.some.inj hf)
            exact gx_zret (b := false) C dL_law_1301
        · refine gx_if_ne_t (tgt := 1302) C dL_law_1287 rfl c396 ?_
          refine gx_sub [2, 3, 4, 5, 6] rfl ?_
          exact w_L_law_b1302 hlt C hx wk23 hf hH
      · refine gx_icmp_eq_f (tgt := 1285) C dL_law_1280 rfl c395 ?_
        refine gx_iconst (v := 0) C dL_law_1283 rfl ?_
        obtain ⟨rfl, rfl⟩ := Prod.mk.inj (Option.some.inj hf)
        exact gx_zret (b := false) C dL_law_1284
    replace hf := gx_ite hf
    rcases hf with ⟨c403, hf⟩ | ⟨c403, hf⟩
    · refine gx_tswIn (tgt := 1305) C dL_law_40 (by rw [c403]; decide) (by rw [c403]; decide) (off := 1265) (by rw [c403]; rfl) rfl ?_
      refine gx_aload_n C dL_law_1305 1 rfl ?_
      refine gx_aload_n C dL_law_1306 0 rfl ?_
      refine gx_iload C dL_law_1307 4 rfl ?_
      refine gx_iconst (v := 1) C dL_law_1309 rfl ?_
      refine gx_iadd C dL_law_1310 ?_
      replace hf := gx_bs hf
      obtain ⟨x404, g421, hf⟩ := hf
      refine gx_iald C (mh_oai hH g421) dL_law_1311 ?_
      refine gx_aload_n C dL_law_1312 3 rfl ?_
      replace hf := gx_b2s hf
      obtain ⟨x406, h407, g405, hf⟩ := hf
      refine gx_xcallSW (st := []) C ((w_X0_chosenTransition hlt g405).over hH) (lw_SW q2393 q2394 q120 q2395) gz_687 (by decide) rfl rfl (gx_catn (Nat.le_of_ble_eq_true rfl)) dL_law_1313 (gx_k2l ?_)
      have hH := hH.le (le_X0_chosenTransition g405)
      refine gx_ist C dL_law_1316 (by decide) [0, 1, 2, 3, 4]  rfl (gx_okn rfl rfl (gx_okn rfl rfl (gx_okn rfl rfl (gx_okn rfl rfl (gx_okr rfl gx_catv_i gx_ok0))))) ?_
      refine gx_aload_n C dL_law_1318 3 rfl ?_
      refine gx_aload_n C dL_law_1319 1 rfl ?_
      refine gx_iload C dL_law_1320 5 rfl ?_
      refine gx_iconst (v := 1) C dL_law_1322 rfl ?_
      refine gx_iadd C dL_law_1323 ?_
      replace hf := gx_bs hf
      obtain ⟨x408, g420, hf⟩ := hf
      refine gx_iald C (mh_oai hH g420) dL_law_1324 ?_
      replace hf := gx_b2s hf
      obtain ⟨x410, h411, g409, hf⟩ := hf
      refine gx_callV (st := []) C (w_X9_chosenTransition hlt g409) mh_is gz_497 rfl (lw_V q3097 q3098 q3099 q151 q3100) gz_686 (by decide) rfl rfl (gx_catn (Nat.le_of_ble_eq_true rfl)) dL_law_1325 ?_
      refine gx_ist C dL_law_1328 (by decide) [0, 1, 2, 3, 4, 5]  rfl (gx_okr rfl gx_catv_i (gx_okn rfl rfl (gx_okn rfl rfl (gx_okn rfl rfl (gx_okn rfl rfl (gx_okn rfl rfl gx_ok0)))))) ?_
      refine gx_aload_n C dL_law_1330 4 rfl ?_
      replace hf := gx_bs hf
      obtain ⟨x413, g412, hf⟩ := hf
      refine gx_callV (st := []) C (w_X9_thrown hlt g412) mh_is gz_497 rfl (lw_V q2729 q2730 q2731 q151 q2732) gz_658 (by decide) rfl rfl (gx_catn (Nat.le_of_ble_eq_true rfl)) dL_law_1331 ?_
      refine gx_iload C dL_law_1334 1 rfl ?_
      replace hf := gx_ite hf
      rcases hf with ⟨c414, hf⟩ | ⟨c414, hf⟩
      · refine gx_icmp_eq_t (tgt := 1341) C dL_law_1336 rfl c414 ?_
        refine gx_iload C dL_law_1341 1 rfl ?_
        replace hf := gx_ite hf
        rcases hf with ⟨c415, hf⟩ | ⟨c415, hf⟩
        · refine gx_if_ne_f (tgt := 1358) C dL_law_1343 rfl c415 ?_
          refine gx_aload_n C dL_law_1346 5 rfl ?_
          refine gx_iconst (v := 0) C dL_law_1347 rfl ?_
          replace hf := gx_bs hf
          obtain ⟨a416, rfl, hf⟩ := hf
          replace hf := gx_bs hf
          obtain ⟨x417, g419, hf⟩ := hf
          refine gx_lald C (mh_oal hH g419) dL_law_1348 ?_
          refine gx_iload C dL_law_1349 0 rfl ?_
          refine gx_i2l C dL_law_1351 ?_
          refine gx_lcmp C dL_law_1352 ?_
          replace hf := gx_ite hf
          rcases hf with ⟨c418, hf⟩ | ⟨c418, hf⟩
          · refine gx_if_eq_t (tgt := 1358) C dL_law_1353 rfl c418 ?_
            refine gx_sub [2, 3, 4, 5, 6] rfl ?_
            exact w_L_law_b1358 hlt C hx wk23 hf hH
          · refine gx_if_eq_f (tgt := 1358) C dL_law_1353 rfl c418 ?_
            refine gx_iconst (v := 0) C dL_law_1356 rfl ?_
            obtain ⟨rfl, rfl⟩ := Prod.mk.inj (Option.some.inj hf)
            exact gx_zret (b := false) C dL_law_1357
        · refine gx_if_ne_t (tgt := 1358) C dL_law_1343 rfl c415 ?_
          refine gx_sub [2, 3, 4, 5, 6] rfl ?_
          exact w_L_law_b1358 hlt C hx wk23 hf hH
      · refine gx_icmp_eq_f (tgt := 1341) C dL_law_1336 rfl c414 ?_
        refine gx_iconst (v := 0) C dL_law_1339 rfl ?_
        obtain ⟨rfl, rfl⟩ := Prod.mk.inj (Option.some.inj hf)
        exact gx_zret (b := false) C dL_law_1340
    replace hf := gx_ite hf
    rcases hf with ⟨c422, hf⟩ | ⟨c422, hf⟩
    · refine gx_tswIn (tgt := 1361) C dL_law_40 (by rw [c422]; decide) (by rw [c422]; decide) (off := 1321) (by rw [c422]; rfl) rfl ?_
      refine gx_aload_n C dL_law_1361 1 rfl ?_
      refine gx_aload_n C dL_law_1362 0 rfl ?_
      refine gx_iload C dL_law_1363 4 rfl ?_
      refine gx_iconst (v := 1) C dL_law_1365 rfl ?_
      refine gx_iadd C dL_law_1366 ?_
      replace hf := gx_bs hf
      obtain ⟨x423, g440, hf⟩ := hf
      refine gx_iald C (mh_oai hH g440) dL_law_1367 ?_
      refine gx_aload_n C dL_law_1368 3 rfl ?_
      replace hf := gx_b2s hf
      obtain ⟨x425, h426, g424, hf⟩ := hf
      refine gx_xcallSW (st := []) C ((w_X0_brokenInvariant hlt g424).over hH) (lw_SW q2400 q2401 q120 q2402) gz_689 (by decide) rfl rfl (gx_catn (Nat.le_of_ble_eq_true rfl)) dL_law_1369 (gx_k2l ?_)
      have hH := hH.le (le_X0_brokenInvariant g424)
      refine gx_ist C dL_law_1372 (by decide) [0, 1, 2, 3, 4]  rfl (gx_okn rfl rfl (gx_okn rfl rfl (gx_okn rfl rfl (gx_okn rfl rfl (gx_okr rfl gx_catv_i gx_ok0))))) ?_
      refine gx_aload_n C dL_law_1374 3 rfl ?_
      refine gx_aload_n C dL_law_1375 1 rfl ?_
      refine gx_iload C dL_law_1376 5 rfl ?_
      refine gx_iconst (v := 1) C dL_law_1378 rfl ?_
      refine gx_iadd C dL_law_1379 ?_
      replace hf := gx_bs hf
      obtain ⟨x427, g439, hf⟩ := hf
      refine gx_iald C (mh_oai hH g439) dL_law_1380 ?_
      replace hf := gx_b2s hf
      obtain ⟨x429, h430, g428, hf⟩ := hf
      refine gx_callV (st := []) C (w_X9_brokenInvariant hlt g428) mh_is gz_497 rfl (lw_V q3101 q3102 q3103 q151 q3104) gz_688 (by decide) rfl rfl (gx_catn (Nat.le_of_ble_eq_true rfl)) dL_law_1381 ?_
      refine gx_ist C dL_law_1384 (by decide) [0, 1, 2, 3, 4, 5]  rfl (gx_okr rfl gx_catv_i (gx_okn rfl rfl (gx_okn rfl rfl (gx_okn rfl rfl (gx_okn rfl rfl (gx_okn rfl rfl gx_ok0)))))) ?_
      refine gx_aload_n C dL_law_1386 4 rfl ?_
      replace hf := gx_bs hf
      obtain ⟨x432, g431, hf⟩ := hf
      refine gx_callV (st := []) C (w_X9_thrown hlt g431) mh_is gz_497 rfl (lw_V q2729 q2730 q2731 q151 q2732) gz_658 (by decide) rfl rfl (gx_catn (Nat.le_of_ble_eq_true rfl)) dL_law_1387 ?_
      refine gx_iload C dL_law_1390 1 rfl ?_
      replace hf := gx_ite hf
      rcases hf with ⟨c433, hf⟩ | ⟨c433, hf⟩
      · refine gx_icmp_eq_t (tgt := 1397) C dL_law_1392 rfl c433 ?_
        refine gx_iload C dL_law_1397 1 rfl ?_
        replace hf := gx_ite hf
        rcases hf with ⟨c434, hf⟩ | ⟨c434, hf⟩
        · refine gx_if_ne_f (tgt := 1414) C dL_law_1399 rfl c434 ?_
          refine gx_aload_n C dL_law_1402 5 rfl ?_
          refine gx_iconst (v := 0) C dL_law_1403 rfl ?_
          replace hf := gx_bs hf
          obtain ⟨a435, rfl, hf⟩ := hf
          replace hf := gx_bs hf
          obtain ⟨x436, g438, hf⟩ := hf
          refine gx_lald C (mh_oal hH g438) dL_law_1404 ?_
          refine gx_iload C dL_law_1405 0 rfl ?_
          refine gx_i2l C dL_law_1407 ?_
          refine gx_lcmp C dL_law_1408 ?_
          replace hf := gx_ite hf
          rcases hf with ⟨c437, hf⟩ | ⟨c437, hf⟩
          · refine gx_if_eq_t (tgt := 1414) C dL_law_1409 rfl c437 ?_
            refine gx_sub [2, 3, 4, 5, 6] rfl ?_
            exact w_L_law_b1414 hlt C hx wk23 hf hH
          · refine gx_if_eq_f (tgt := 1414) C dL_law_1409 rfl c437 ?_
            refine gx_iconst (v := 0) C dL_law_1412 rfl ?_
            obtain ⟨rfl, rfl⟩ := Prod.mk.inj (Option.some.inj hf)
            exact gx_zret (b := false) C dL_law_1413
        · refine gx_if_ne_t (tgt := 1414) C dL_law_1399 rfl c434 ?_
          refine gx_sub [2, 3, 4, 5, 6] rfl ?_
          exact w_L_law_b1414 hlt C hx wk23 hf hH
      · refine gx_icmp_eq_f (tgt := 1397) C dL_law_1392 rfl c433 ?_
        refine gx_iconst (v := 0) C dL_law_1395 rfl ?_
        obtain ⟨rfl, rfl⟩ := Prod.mk.inj (Option.some.inj hf)
        exact gx_zret (b := false) C dL_law_1396
    replace hf := gx_ite hf
    rcases hf with ⟨c441, hf⟩ | ⟨c441, hf⟩
    · refine gx_tswIn (tgt := 1417) C dL_law_40 (by rw [c441]; decide) (by rw [c441]; decide) (off := 1377) (by rw [c441]; rfl) rfl ?_
      refine gx_aload_n C dL_law_1417 1 rfl ?_
      replace hf := gx_bs hf
      obtain ⟨a442, rfl, hf⟩ := hf
      replace hf := gx_bs hf
      obtain ⟨b444, g443, hf⟩ := hf
      refine gx_callV (st := []) C ((w_X1_isDeadlocked hlt g443).over hH) (mh_ois hH (is_X1_isDeadlocked g443)) gz_108 rfl (lw_V q1946 q1947 q1948 q121 q1949) gz_690 (by decide) rfl rfl (gx_catn (Nat.le_of_ble_eq_true rfl)) dL_law_1418 ?_
      refine gx_aload_n C dL_law_1421 2 rfl ?_
      replace hf := gx_b2s hf
      obtain ⟨b446, h447, g445, hf⟩ := hf
      refine gx_callV (st := [(.int (b2i b444))]) C (w_X9_isDeadlocked hlt g445) mh_is gz_497 rfl (lw_V q3105 q3106 q3107 q151 q3108) gz_691 (by decide) rfl rfl (gx_catn (Nat.le_of_ble_eq_true rfl)) dL_law_1422 ?_
      replace hf := gx_ite hf
      rcases hf with ⟨c448, hf⟩ | ⟨c448, hf⟩
      · refine gx_icmp_eq_t (tgt := 2499) C dL_law_1425 rfl c448 ?_
        refine gx_sub [0, 1, 2, 3, 4] rfl ?_
        exact w_L_law_b2499 hlt C hx wk23 hf hH
      · refine gx_icmp_eq_f (tgt := 2499) C dL_law_1425 rfl c448 ?_
        refine gx_iconst (v := 0) C dL_law_1428 rfl ?_
        obtain ⟨rfl, rfl⟩ := Prod.mk.inj (Option.some.inj hf)
        exact gx_zret (b := false) C dL_law_1429
    replace hf := gx_ite hf
    rcases hf with ⟨c449, hf⟩ | ⟨c449, hf⟩
    · refine gx_tswIn (tgt := 1430) C dL_law_40 (by rw [c449]; decide) (by rw [c449]; decide) (off := 1390) (by rw [c449]; rfl) rfl ?_
      refine gx_aload_n C dL_law_1430 1 rfl ?_
      refine gx_aload_n C dL_law_1431 0 rfl ?_
      refine gx_iload C dL_law_1432 4 rfl ?_
      refine gx_iconst (v := 1) C dL_law_1434 rfl ?_
      refine gx_iadd C dL_law_1435 ?_
      replace hf := gx_bs hf
      obtain ⟨x450, g467, hf⟩ := hf
      refine gx_iald C (mh_oai hH g467) dL_law_1436 ?_
      refine gx_aload_n C dL_law_1437 3 rfl ?_
      replace hf := gx_b2s hf
      obtain ⟨x452, h453, g451, hf⟩ := hf
      refine gx_xcallSW (st := []) C ((w_X0_timesTaken hlt g451).over hH) (lw_SW q2407 q2408 q120 q2409) gz_693 (by decide) rfl rfl (gx_catn (Nat.le_of_ble_eq_true rfl)) dL_law_1438 (gx_k2l ?_)
      have hH := hH.le (le_X0_timesTaken g451)
      refine gx_ist C dL_law_1441 (by decide) [0, 1, 2, 3, 4]  rfl (gx_okn rfl rfl (gx_okn rfl rfl (gx_okn rfl rfl (gx_okn rfl rfl (gx_okr rfl gx_catv_i gx_ok0))))) ?_
      refine gx_aload_n C dL_law_1443 3 rfl ?_
      refine gx_aload_n C dL_law_1444 1 rfl ?_
      refine gx_iload C dL_law_1445 5 rfl ?_
      refine gx_iconst (v := 1) C dL_law_1447 rfl ?_
      refine gx_iadd C dL_law_1448 ?_
      replace hf := gx_bs hf
      obtain ⟨x454, g466, hf⟩ := hf
      refine gx_iald C (mh_oai hH g466) dL_law_1449 ?_
      replace hf := gx_b2s hf
      obtain ⟨x456, h457, g455, hf⟩ := hf
      refine gx_callV (st := []) C (w_X9_timesTaken hlt g455) mh_is gz_497 rfl (lw_V q3065 q3066 q3067 q151 q3068) gz_692 (by decide) rfl rfl (gx_catn (Nat.le_of_ble_eq_true rfl)) dL_law_1450 ?_
      refine gx_ist C dL_law_1453 (by decide) [0, 1, 2, 3, 4, 5]  rfl (gx_okr rfl gx_catv_i (gx_okn rfl rfl (gx_okn rfl rfl (gx_okn rfl rfl (gx_okn rfl rfl (gx_okn rfl rfl gx_ok0)))))) ?_
      refine gx_aload_n C dL_law_1455 4 rfl ?_
      replace hf := gx_bs hf
      obtain ⟨x459, g458, hf⟩ := hf
      refine gx_callV (st := []) C (w_X9_thrown hlt g458) mh_is gz_497 rfl (lw_V q2729 q2730 q2731 q151 q2732) gz_658 (by decide) rfl rfl (gx_catn (Nat.le_of_ble_eq_true rfl)) dL_law_1456 ?_
      refine gx_iload C dL_law_1459 1 rfl ?_
      replace hf := gx_ite hf
      rcases hf with ⟨c460, hf⟩ | ⟨c460, hf⟩
      · refine gx_icmp_eq_t (tgt := 1466) C dL_law_1461 rfl c460 ?_
        refine gx_iload C dL_law_1466 1 rfl ?_
        replace hf := gx_ite hf
        rcases hf with ⟨c461, hf⟩ | ⟨c461, hf⟩
        · refine gx_if_ne_f (tgt := 1483) C dL_law_1468 rfl c461 ?_
          refine gx_aload_n C dL_law_1471 5 rfl ?_
          refine gx_iconst (v := 0) C dL_law_1472 rfl ?_
          replace hf := gx_bs hf
          obtain ⟨a462, rfl, hf⟩ := hf
          replace hf := gx_bs hf
          obtain ⟨x463, g465, hf⟩ := hf
          refine gx_lald C (mh_oal hH g465) dL_law_1473 ?_
          refine gx_iload C dL_law_1474 0 rfl ?_
          refine gx_i2l C dL_law_1476 ?_
          refine gx_lcmp C dL_law_1477 ?_
          replace hf := gx_ite hf
          rcases hf with ⟨c464, hf⟩ | ⟨c464, hf⟩
          · refine gx_if_eq_t (tgt := 1483) C dL_law_1478 rfl c464 ?_
            refine gx_sub [2, 3, 4, 5, 6] rfl ?_
            exact w_L_law_b1483 hlt C hx wk23 hf hH
          · refine gx_if_eq_f (tgt := 1483) C dL_law_1478 rfl c464 ?_
            refine gx_iconst (v := 0) C dL_law_1481 rfl ?_
            obtain ⟨rfl, rfl⟩ := Prod.mk.inj (Option.some.inj hf)
            exact gx_zret (b := false) C dL_law_1482
        · refine gx_if_ne_t (tgt := 1483) C dL_law_1468 rfl c461 ?_
          refine gx_sub [2, 3, 4, 5, 6] rfl ?_
          exact w_L_law_b1483 hlt C hx wk23 hf hH
      · refine gx_icmp_eq_f (tgt := 1466) C dL_law_1461 rfl c460 ?_
        refine gx_iconst (v := 0) C dL_law_1464 rfl ?_
        obtain ⟨rfl, rfl⟩ := Prod.mk.inj (Option.some.inj hf)
        exact gx_zret (b := false) C dL_law_1465
    replace hf := gx_ite hf
    rcases hf with ⟨c468, hf⟩ | ⟨c468, hf⟩
    · refine gx_tswIn (tgt := 1486) C dL_law_40 (by rw [c468]; decide) (by rw [c468]; decide) (off := 1446) (by rw [c468]; rfl) rfl ?_
      refine gx_aload_n C dL_law_1486 1 rfl ?_
      refine gx_aload_n C dL_law_1487 0 rfl ?_
      refine gx_iload C dL_law_1488 4 rfl ?_
      refine gx_iconst (v := 1) C dL_law_1490 rfl ?_
      refine gx_iadd C dL_law_1491 ?_
      replace hf := gx_bs hf
      obtain ⟨x469, g486, hf⟩ := hf
      refine gx_iald C (mh_oai hH g486) dL_law_1492 ?_
      refine gx_aload_n C dL_law_1493 3 rfl ?_
      replace hf := gx_b2s hf
      obtain ⟨x471, h472, g470, hf⟩ := hf
      refine gx_xcallSW (st := []) C ((w_X0_visitsOf hlt g470).over hH) (lw_SW q2414 q2415 q120 q2416) gz_695 (by decide) rfl rfl (gx_catn (Nat.le_of_ble_eq_true rfl)) dL_law_1494 (gx_k2l ?_)
      have hH := hH.le (le_X0_visitsOf g470)
      refine gx_ist C dL_law_1497 (by decide) [0, 1, 2, 3, 4]  rfl (gx_okn rfl rfl (gx_okn rfl rfl (gx_okn rfl rfl (gx_okn rfl rfl (gx_okr rfl gx_catv_i gx_ok0))))) ?_
      refine gx_aload_n C dL_law_1499 3 rfl ?_
      refine gx_aload_n C dL_law_1500 1 rfl ?_
      refine gx_iload C dL_law_1501 5 rfl ?_
      refine gx_iconst (v := 1) C dL_law_1503 rfl ?_
      refine gx_iadd C dL_law_1504 ?_
      replace hf := gx_bs hf
      obtain ⟨x473, g485, hf⟩ := hf
      refine gx_iald C (mh_oai hH g485) dL_law_1505 ?_
      replace hf := gx_b2s hf
      obtain ⟨x475, h476, g474, hf⟩ := hf
      refine gx_callV (st := []) C (w_X9_visitsOf hlt g474) mh_is gz_497 rfl (lw_V q3113 q3114 q3115 q151 q3116) gz_694 (by decide) rfl rfl (gx_catn (Nat.le_of_ble_eq_true rfl)) dL_law_1506 ?_
      refine gx_ist C dL_law_1509 (by decide) [0, 1, 2, 3, 4, 5]  rfl (gx_okr rfl gx_catv_i (gx_okn rfl rfl (gx_okn rfl rfl (gx_okn rfl rfl (gx_okn rfl rfl (gx_okn rfl rfl gx_ok0)))))) ?_
      refine gx_aload_n C dL_law_1511 4 rfl ?_
      replace hf := gx_bs hf
      obtain ⟨x478, g477, hf⟩ := hf
      refine gx_callV (st := []) C (w_X9_thrown hlt g477) mh_is gz_497 rfl (lw_V q2729 q2730 q2731 q151 q2732) gz_658 (by decide) rfl rfl (gx_catn (Nat.le_of_ble_eq_true rfl)) dL_law_1512 ?_
      refine gx_iload C dL_law_1515 1 rfl ?_
      replace hf := gx_ite hf
      rcases hf with ⟨c479, hf⟩ | ⟨c479, hf⟩
      · refine gx_icmp_eq_t (tgt := 1522) C dL_law_1517 rfl c479 ?_
        refine gx_iload C dL_law_1522 1 rfl ?_
        replace hf := gx_ite hf
        rcases hf with ⟨c480, hf⟩ | ⟨c480, hf⟩
        · refine gx_if_ne_f (tgt := 1539) C dL_law_1524 rfl c480 ?_
          refine gx_aload_n C dL_law_1527 5 rfl ?_
          refine gx_iconst (v := 0) C dL_law_1528 rfl ?_
          replace hf := gx_bs hf
          obtain ⟨a481, rfl, hf⟩ := hf
          replace hf := gx_bs hf
          obtain ⟨x482, g484, hf⟩ := hf
          refine gx_lald C (mh_oal hH g484) dL_law_1529 ?_
          refine gx_iload C dL_law_1530 0 rfl ?_
          refine gx_i2l C dL_law_1532 ?_
          refine gx_lcmp C dL_law_1533 ?_
          replace hf := gx_ite hf
          rcases hf with ⟨c483, hf⟩ | ⟨c483, hf⟩
          · refine gx_if_eq_t (tgt := 1539) C dL_law_1534 rfl c483 ?_
            refine gx_sub [2, 3, 4, 5, 6] rfl ?_
            exact w_L_law_b1539 hlt C hx wk23 hf hH
          · refine gx_if_eq_f (tgt := 1539) C dL_law_1534 rfl c483 ?_
            refine gx_iconst (v := 0) C dL_law_1537 rfl ?_
            obtain ⟨rfl, rfl⟩ := Prod.mk.inj (Option.some.inj hf)
            exact gx_zret (b := false) C dL_law_1538
        · refine gx_if_ne_t (tgt := 1539) C dL_law_1524 rfl c480 ?_
          refine gx_sub [2, 3, 4, 5, 6] rfl ?_
          exact w_L_law_b1539 hlt C hx wk23 hf hH
      · refine gx_icmp_eq_f (tgt := 1522) C dL_law_1517 rfl c479 ?_
        refine gx_iconst (v := 0) C dL_law_1520 rfl ?_
        obtain ⟨rfl, rfl⟩ := Prod.mk.inj (Option.some.inj hf)
        exact gx_zret (b := false) C dL_law_1521
    replace hf := gx_ite hf
    rcases hf with ⟨c487, hf⟩ | ⟨c487, hf⟩
    · refine gx_tswIn (tgt := 1542) C dL_law_40 (by rw [c487]; decide) (by rw [c487]; decide) (off := 1502) (by rw [c487]; rfl) rfl ?_
      refine gx_aload_n C dL_law_1542 1 rfl ?_
      replace hf := gx_bs hf
      obtain ⟨a488, rfl, hf⟩ := hf
      replace hf := gx_bs hf
      obtain ⟨x490, g489, hf⟩ := hf
      refine gx_callV (st := []) C ((w_X1_acceptedCount hlt g489).over hH) (mh_ois hH (is_X1_acceptedCount g489)) gz_108 rfl (lw_V q1954 q1955 q1956 q121 q1957) gz_696 (by decide) rfl rfl (gx_catn (Nat.le_of_ble_eq_true rfl)) dL_law_1543 ?_
      refine gx_aload_n C dL_law_1546 2 rfl ?_
      replace hf := gx_b2s hf
      obtain ⟨x492, h493, g491, hf⟩ := hf
      refine gx_callV (st := [(.int x490)]) C (w_X9_acceptedCount hlt g491) mh_is gz_497 rfl (lw_V q3017 q3018 q3019 q151 q3020) gz_697 (by decide) rfl rfl (gx_catn (Nat.le_of_ble_eq_true rfl)) dL_law_1547 ?_
      replace hf := gx_ite hf
      rcases hf with ⟨c494, hf⟩ | ⟨c494, hf⟩
      · refine gx_icmp_eq_t (tgt := 2499) C dL_law_1550 rfl c494 ?_
        refine gx_sub [0, 1, 2, 3, 4] rfl ?_
        exact w_L_law_b2499 hlt C hx wk23 hf hH
      · refine gx_icmp_eq_f (tgt := 2499) C dL_law_1550 rfl c494 ?_
        refine gx_iconst (v := 0) C dL_law_1553 rfl ?_
        obtain ⟨rfl, rfl⟩ := Prod.mk.inj (Option.some.inj hf)
        exact gx_zret (b := false) C dL_law_1554
    replace hf := gx_ite hf
    rcases hf with ⟨c495, hf⟩ | ⟨c495, hf⟩
    · refine gx_tswIn (tgt := 1555) C dL_law_40 (by rw [c495]; decide) (by rw [c495]; decide) (off := 1515) (by rw [c495]; rfl) rfl ?_
      refine gx_aload_n C dL_law_1555 1 rfl ?_
      replace hf := gx_bs hf
      obtain ⟨a496, rfl, hf⟩ := hf
      replace hf := gx_bs hf
      obtain ⟨x498, g497, hf⟩ := hf
      refine gx_callV (st := []) C ((w_X1_rejectedCount hlt g497).over hH) (mh_ois hH (is_X1_rejectedCount g497)) gz_108 rfl (lw_V q1958 q1959 q1960 q121 q1961) gz_698 (by decide) rfl rfl (gx_catn (Nat.le_of_ble_eq_true rfl)) dL_law_1556 ?_
      refine gx_aload_n C dL_law_1559 2 rfl ?_
      replace hf := gx_b2s hf
      obtain ⟨x500, h501, g499, hf⟩ := hf
      refine gx_callV (st := [(.int x498)]) C (w_X9_rejectedCount hlt g499) mh_is gz_497 rfl (lw_V q3021 q3022 q3023 q151 q3024) gz_699 (by decide) rfl rfl (gx_catn (Nat.le_of_ble_eq_true rfl)) dL_law_1560 ?_
      replace hf := gx_ite hf
      rcases hf with ⟨c502, hf⟩ | ⟨c502, hf⟩
      · refine gx_icmp_eq_t (tgt := 2499) C dL_law_1563 rfl c502 ?_
        refine gx_sub [0, 1, 2, 3, 4] rfl ?_
        exact w_L_law_b2499 hlt C hx wk23 hf hH
      · refine gx_icmp_eq_f (tgt := 2499) C dL_law_1563 rfl c502 ?_
        refine gx_iconst (v := 0) C dL_law_1566 rfl ?_
        obtain ⟨rfl, rfl⟩ := Prod.mk.inj (Option.some.inj hf)
        exact gx_zret (b := false) C dL_law_1567
    replace hf := gx_ite hf
    rcases hf with ⟨c503, hf⟩ | ⟨c503, hf⟩
    · refine gx_tswIn (tgt := 1568) C dL_law_40 (by rw [c503]; decide) (by rw [c503]; decide) (off := 1528) (by rw [c503]; rfl) rfl ?_
      refine gx_aload_n C dL_law_1568 1 rfl ?_
      refine gx_aload_n C dL_law_1569 0 rfl ?_
      refine gx_iload C dL_law_1570 4 rfl ?_
      refine gx_iconst (v := 1) C dL_law_1572 rfl ?_
      refine gx_iadd C dL_law_1573 ?_
      replace hf := gx_bs hf
      obtain ⟨x504, g521, hf⟩ := hf
      refine gx_iald C (mh_oai hH g521) dL_law_1574 ?_
      refine gx_aload_n C dL_law_1575 3 rfl ?_
      replace hf := gx_b2s hf
      obtain ⟨x506, h507, g505, hf⟩ := hf
      refine gx_xcallSW (st := []) C ((w_X0_rejectedWith hlt g505).over hH) (lw_SW q2425 q2426 q120 q2427) gz_701 (by decide) rfl rfl (gx_catn (Nat.le_of_ble_eq_true rfl)) dL_law_1576 (gx_k2l ?_)
      have hH := hH.le (le_X0_rejectedWith g505)
      refine gx_ist C dL_law_1579 (by decide) [0, 1, 2, 3, 4]  rfl (gx_okn rfl rfl (gx_okn rfl rfl (gx_okn rfl rfl (gx_okn rfl rfl (gx_okr rfl gx_catv_i gx_ok0))))) ?_
      refine gx_aload_n C dL_law_1581 3 rfl ?_
      refine gx_aload_n C dL_law_1582 1 rfl ?_
      refine gx_iload C dL_law_1583 5 rfl ?_
      refine gx_iconst (v := 1) C dL_law_1585 rfl ?_
      refine gx_iadd C dL_law_1586 ?_
      replace hf := gx_bs hf
      obtain ⟨x508, g520, hf⟩ := hf
      refine gx_iald C (mh_oai hH g520) dL_law_1587 ?_
      replace hf := gx_b2s hf
      obtain ⟨x510, h511, g509, hf⟩ := hf
      refine gx_callV (st := []) C (w_X9_rejectedWith hlt g509) mh_is gz_497 rfl (lw_V q3117 q3118 q3119 q151 q3120) gz_700 (by decide) rfl rfl (gx_catn (Nat.le_of_ble_eq_true rfl)) dL_law_1588 ?_
      refine gx_ist C dL_law_1591 (by decide) [0, 1, 2, 3, 4, 5]  rfl (gx_okr rfl gx_catv_i (gx_okn rfl rfl (gx_okn rfl rfl (gx_okn rfl rfl (gx_okn rfl rfl (gx_okn rfl rfl gx_ok0)))))) ?_
      refine gx_aload_n C dL_law_1593 4 rfl ?_
      replace hf := gx_bs hf
      obtain ⟨x513, g512, hf⟩ := hf
      refine gx_callV (st := []) C (w_X9_thrown hlt g512) mh_is gz_497 rfl (lw_V q2729 q2730 q2731 q151 q2732) gz_658 (by decide) rfl rfl (gx_catn (Nat.le_of_ble_eq_true rfl)) dL_law_1594 ?_
      refine gx_iload C dL_law_1597 1 rfl ?_
      replace hf := gx_ite hf
      rcases hf with ⟨c514, hf⟩ | ⟨c514, hf⟩
      · refine gx_icmp_eq_t (tgt := 1604) C dL_law_1599 rfl c514 ?_
        refine gx_iload C dL_law_1604 1 rfl ?_
        replace hf := gx_ite hf
        rcases hf with ⟨c515, hf⟩ | ⟨c515, hf⟩
        · refine gx_if_ne_f (tgt := 1621) C dL_law_1606 rfl c515 ?_
          refine gx_aload_n C dL_law_1609 5 rfl ?_
          refine gx_iconst (v := 0) C dL_law_1610 rfl ?_
          replace hf := gx_bs hf
          obtain ⟨a516, rfl, hf⟩ := hf
          replace hf := gx_bs hf
          obtain ⟨x517, g519, hf⟩ := hf
          refine gx_lald C (mh_oal hH g519) dL_law_1611 ?_
          refine gx_iload C dL_law_1612 0 rfl ?_
          refine gx_i2l C dL_law_1614 ?_
          refine gx_lcmp C dL_law_1615 ?_
          replace hf := gx_ite hf
          rcases hf with ⟨c518, hf⟩ | ⟨c518, hf⟩
          · refine gx_if_eq_t (tgt := 1621) C dL_law_1616 rfl c518 ?_
            refine gx_sub [2, 3, 4, 5, 6] rfl ?_
            exact w_L_law_b1621 hlt C hx wk23 hf hH
          · refine gx_if_eq_f (tgt := 1621) C dL_law_1616 rfl c518 ?_
            refine gx_iconst (v := 0) C dL_law_1619 rfl ?_
            obtain ⟨rfl, rfl⟩ := Prod.mk.inj (Option.some.inj hf)
            exact gx_zret (b := false) C dL_law_1620
        · refine gx_if_ne_t (tgt := 1621) C dL_law_1606 rfl c515 ?_
          refine gx_sub [2, 3, 4, 5, 6] rfl ?_
          exact w_L_law_b1621 hlt C hx wk23 hf hH
      · refine gx_icmp_eq_f (tgt := 1604) C dL_law_1599 rfl c514 ?_
        refine gx_iconst (v := 0) C dL_law_1602 rfl ?_
        obtain ⟨rfl, rfl⟩ := Prod.mk.inj (Option.some.inj hf)
        exact gx_zret (b := false) C dL_law_1603
    replace hf := gx_ite hf
    rcases hf with ⟨c522, hf⟩ | ⟨c522, hf⟩
    · refine gx_tswIn (tgt := 1624) C dL_law_40 (by rw [c522]; decide) (by rw [c522]; decide) (off := 1584) (by rw [c522]; rfl) rfl ?_
      refine gx_aload_n C dL_law_1624 1 rfl ?_
      replace hf := gx_bs hf
      obtain ⟨a523, rfl, hf⟩ := hf
      replace hf := gx_bs hf
      obtain ⟨x525, g524, hf⟩ := hf
      refine gx_callV (st := []) C ((w_X1_stateCoverage hlt g524).over hH) (mh_ois hH (is_X1_stateCoverage g524)) gz_108 rfl (lw_V q1966 q1967 q1968 q121 q1969) gz_702 (by decide) rfl rfl (gx_catn (Nat.le_of_ble_eq_true rfl)) dL_law_1625 ?_
      replace hf := gx_ite hf
      rcases hf with ⟨c526, hf⟩ | ⟨c526, hf⟩
      rotate_left
      · cases hf
      refine gx_f2d C dL_law_1628 c526 ?_
      refine gx_dst C dL_law_1629 (by decide) [0, 1, 2, 3, 4] rfl (gx_okn rfl rfl (gx_okn rfl rfl (gx_okn rfl rfl (gx_okn rfl rfl (gx_okr rfl gx_catv_i gx_ok0))))) rfl ?_
      refine gx_aload_n C dL_law_1631 3 rfl ?_
      replace hf := gx_b2s hf
      obtain ⟨x528, h529, g527, hf⟩ := hf
      refine gx_callV (st := []) C (w_X9_stateCoverage hlt g527) mh_is gz_497 rfl (lw_V q3121 q3122 q3123 q151 q3124) gz_703 (by decide) rfl rfl (gx_catn (Nat.le_of_ble_eq_true rfl)) dL_law_1632 ?_
      replace hf := gx_ite hf
      rcases hf with ⟨c530, hf⟩ | ⟨c530, hf⟩
      rotate_left
      · cases hf
      refine gx_f2d C dL_law_1635 c530 ?_
      refine gx_dst C dL_law_1636 (by decide) [0, 1, 2, 3, 4, 5] rfl (gx_okn rfl rfl (gx_okn rfl rfl (gx_okn rfl rfl (gx_okn rfl rfl (gx_okn rfl rfl (gx_okn rfl rfl gx_ok0)))))) rfl ?_
      refine gx_dload C dL_law_1638 1 rfl ?_
      refine gx_dload C dL_law_1640 0 rfl ?_
      refine gx_dcmp C dL_law_1642 ?_
      replace hf := gx_ite hf
      rcases hf with ⟨c531, hf⟩ | ⟨c531, hf⟩
      · refine gx_if_eq_t (tgt := 1664) C dL_law_1643 rfl c531 ?_
        refine gx_sub [2, 3, 4, 5, 6] rfl ?_
        exact w_L_law_b1664 hlt C hx wk23 hf hH
      · refine gx_if_eq_f (tgt := 1664) C dL_law_1643 rfl c531 ?_
        refine gx_dload C dL_law_1646 1 rfl ?_
        refine gx_dload C dL_law_1648 1 rfl ?_
        refine gx_dcmp C dL_law_1650 ?_
        replace hf := gx_ite hf
        rcases hf with ⟨c532, hf⟩ | ⟨c532, hf⟩
        · refine gx_if_eq_t (tgt := 1662) C dL_law_1651 rfl c532 ?_
          refine gx_iconst (v := 0) C dL_law_1662 rfl ?_
          obtain ⟨rfl, rfl⟩ := Prod.mk.inj (Option.some.inj hf)
          exact gx_zret (b := false) C dL_law_1663
        · refine gx_if_eq_f (tgt := 1662) C dL_law_1651 rfl c532 ?_
          refine gx_dload C dL_law_1654 0 rfl ?_
          refine gx_dload C dL_law_1656 0 rfl ?_
          refine gx_dcmp C dL_law_1658 ?_
          replace hf := gx_ite hf
          rcases hf with ⟨c533, hf⟩ | ⟨c533, hf⟩
          · refine gx_if_ne_f (tgt := 1664) C dL_law_1659 rfl c533 ?_
            refine gx_iconst (v := 0) C dL_law_1662 rfl ?_
            obtain ⟨rfl, rfl⟩ := Prod.mk.inj (Option.some.inj hf)
            exact gx_zret (b := false) C dL_law_1663
          · refine gx_if_ne_t (tgt := 1664) C dL_law_1659 rfl c533 ?_
            refine gx_sub [2, 3, 4, 5, 6] rfl ?_
            exact w_L_law_b1664 hlt C hx wk23 hf hH
    replace hf := gx_ite hf
    rcases hf with ⟨c534, hf⟩ | ⟨c534, hf⟩
    · refine gx_tswIn (tgt := 1667) C dL_law_40 (by rw [c534]; decide) (by rw [c534]; decide) (off := 1627) (by rw [c534]; rfl) rfl ?_
      refine gx_aload_n C dL_law_1667 1 rfl ?_
      replace hf := gx_bs hf
      obtain ⟨a535, rfl, hf⟩ := hf
      replace hf := gx_bs hf
      obtain ⟨x537, g536, hf⟩ := hf
      refine gx_callV (st := []) C ((w_X1_transitionCoverage hlt g536).over hH) (mh_ois hH (is_X1_transitionCoverage g536)) gz_108 rfl (lw_V q1970 q1971 q1972 q121 q1973) gz_704 (by decide) rfl rfl (gx_catn (Nat.le_of_ble_eq_true rfl)) dL_law_1668 ?_
      replace hf := gx_ite hf
      rcases hf with ⟨c538, hf⟩ | ⟨c538, hf⟩
      rotate_left
      · cases hf
      refine gx_f2d C dL_law_1671 c538 ?_
      refine gx_dst C dL_law_1672 (by decide) [0, 1, 2, 3, 4] rfl (gx_okn rfl rfl (gx_okn rfl rfl (gx_okn rfl rfl (gx_okn rfl rfl (gx_okr rfl gx_catv_i gx_ok0))))) rfl ?_
      refine gx_aload_n C dL_law_1674 3 rfl ?_
      replace hf := gx_b2s hf
      obtain ⟨x540, h541, g539, hf⟩ := hf
      refine gx_callV (st := []) C (w_X9_transitionCoverage hlt g539) mh_is gz_497 rfl (lw_V q3132 q3133 q3134 q151 q3135) gz_705 (by decide) rfl rfl (gx_catn (Nat.le_of_ble_eq_true rfl)) dL_law_1675 ?_
      replace hf := gx_ite hf
      rcases hf with ⟨c542, hf⟩ | ⟨c542, hf⟩
      rotate_left
      · cases hf
      refine gx_f2d C dL_law_1678 c542 ?_
      refine gx_dst C dL_law_1679 (by decide) [0, 1, 2, 3, 4, 5] rfl (gx_okn rfl rfl (gx_okn rfl rfl (gx_okn rfl rfl (gx_okn rfl rfl (gx_okn rfl rfl (gx_okn rfl rfl gx_ok0)))))) rfl ?_
      refine gx_dload C dL_law_1681 1 rfl ?_
      refine gx_dload C dL_law_1683 0 rfl ?_
      refine gx_dcmp C dL_law_1685 ?_
      replace hf := gx_ite hf
      rcases hf with ⟨c543, hf⟩ | ⟨c543, hf⟩
      · refine gx_if_eq_t (tgt := 1707) C dL_law_1686 rfl c543 ?_
        refine gx_sub [2, 3, 4, 5, 6] rfl ?_
        exact w_L_law_b1707 hlt C hx wk23 hf hH
      · refine gx_if_eq_f (tgt := 1707) C dL_law_1686 rfl c543 ?_
        refine gx_dload C dL_law_1689 1 rfl ?_
        refine gx_dload C dL_law_1691 1 rfl ?_
        refine gx_dcmp C dL_law_1693 ?_
        replace hf := gx_ite hf
        rcases hf with ⟨c544, hf⟩ | ⟨c544, hf⟩
        · refine gx_if_eq_t (tgt := 1705) C dL_law_1694 rfl c544 ?_
          refine gx_iconst (v := 0) C dL_law_1705 rfl ?_
          obtain ⟨rfl, rfl⟩ := Prod.mk.inj (Option.some.inj hf)
          exact gx_zret (b := false) C dL_law_1706
        · refine gx_if_eq_f (tgt := 1705) C dL_law_1694 rfl c544 ?_
          refine gx_dload C dL_law_1697 0 rfl ?_
          refine gx_dload C dL_law_1699 0 rfl ?_
          refine gx_dcmp C dL_law_1701 ?_
          replace hf := gx_ite hf
          rcases hf with ⟨c545, hf⟩ | ⟨c545, hf⟩
          · refine gx_if_ne_f (tgt := 1707) C dL_law_1702 rfl c545 ?_
            refine gx_iconst (v := 0) C dL_law_1705 rfl ?_
            obtain ⟨rfl, rfl⟩ := Prod.mk.inj (Option.some.inj hf)
            exact gx_zret (b := false) C dL_law_1706
          · refine gx_if_ne_t (tgt := 1707) C dL_law_1702 rfl c545 ?_
            refine gx_sub [2, 3, 4, 5, 6] rfl ?_
            exact w_L_law_b1707 hlt C hx wk23 hf hH
    replace hf := gx_ite hf
    rcases hf with ⟨c546, hf⟩ | ⟨c546, hf⟩
    · refine gx_tswIn (tgt := 1710) C dL_law_40 (by rw [c546]; decide) (by rw [c546]; decide) (off := 1670) (by rw [c546]; rfl) rfl ?_
      refine gx_aload_n C dL_law_1710 1 rfl ?_
      replace hf := gx_bs hf
      obtain ⟨a547, rfl, hf⟩ := hf
      replace hf := gx_bs hf
      obtain ⟨x549, g548, hf⟩ := hf
      refine gx_callV (st := []) C ((w_X1_firstUncovered hlt g548).over hH) (mh_ois hH (is_X1_firstUncovered g548)) gz_108 rfl (lw_V q1974 q1975 q1976 q121 q1977) gz_706 (by decide) rfl rfl (gx_catn (Nat.le_of_ble_eq_true rfl)) dL_law_1711 ?_
      refine gx_aload_n C dL_law_1714 2 rfl ?_
      replace hf := gx_b2s hf
      obtain ⟨x551, h552, g550, hf⟩ := hf
      refine gx_callV (st := [(.int x549)]) C (w_X9_firstUncovered hlt g550) mh_is gz_497 rfl (lw_V q3136 q3137 q3138 q151 q3139) gz_707 (by decide) rfl rfl (gx_catn (Nat.le_of_ble_eq_true rfl)) dL_law_1715 ?_
      replace hf := gx_ite hf
      rcases hf with ⟨c553, hf⟩ | ⟨c553, hf⟩
      · refine gx_icmp_eq_t (tgt := 2499) C dL_law_1718 rfl c553 ?_
        refine gx_sub [0, 1, 2, 3, 4] rfl ?_
        exact w_L_law_b2499 hlt C hx wk23 hf hH
      · refine gx_icmp_eq_f (tgt := 2499) C dL_law_1718 rfl c553 ?_
        refine gx_iconst (v := 0) C dL_law_1721 rfl ?_
        obtain ⟨rfl, rfl⟩ := Prod.mk.inj (Option.some.inj hf)
        exact gx_zret (b := false) C dL_law_1722
    replace hf := gx_ite hf
    rcases hf with ⟨c554, hf⟩ | ⟨c554, hf⟩
    · refine gx_tswIn (tgt := 1723) C dL_law_40 (by rw [c554]; decide) (by rw [c554]; decide) (off := 1683) (by rw [c554]; rfl) rfl ?_
      refine gx_aload_n C dL_law_1723 1 rfl ?_
      replace hf := gx_bs hf
      obtain ⟨a555, rfl, hf⟩ := hf
      replace hf := gx_bs hf
      obtain ⟨x557, g556, hf⟩ := hf
      refine gx_callV (st := []) C ((w_X1_mostVisitedState hlt g556).over hH) (mh_ois hH (is_X1_mostVisitedState g556)) gz_108 rfl (lw_V q1978 q1979 q1980 q121 q1981) gz_708 (by decide) rfl rfl (gx_catn (Nat.le_of_ble_eq_true rfl)) dL_law_1724 ?_
      refine gx_aload_n C dL_law_1727 2 rfl ?_
      replace hf := gx_b2s hf
      obtain ⟨x559, h560, g558, hf⟩ := hf
      refine gx_callV (st := [(.int x557)]) C (w_X9_mostVisitedState hlt g558) mh_is gz_497 rfl (lw_V q3140 q3141 q3142 q151 q3143) gz_709 (by decide) rfl rfl (gx_catn (Nat.le_of_ble_eq_true rfl)) dL_law_1728 ?_
      replace hf := gx_ite hf
      rcases hf with ⟨c561, hf⟩ | ⟨c561, hf⟩
      · refine gx_icmp_eq_t (tgt := 2499) C dL_law_1731 rfl c561 ?_
        refine gx_sub [0, 1, 2, 3, 4] rfl ?_
        exact w_L_law_b2499 hlt C hx wk23 hf hH
      · refine gx_icmp_eq_f (tgt := 2499) C dL_law_1731 rfl c561 ?_
        refine gx_iconst (v := 0) C dL_law_1734 rfl ?_
        obtain ⟨rfl, rfl⟩ := Prod.mk.inj (Option.some.inj hf)
        exact gx_zret (b := false) C dL_law_1735
    replace hf := gx_ite hf
    rcases hf with ⟨c562, hf⟩ | ⟨c562, hf⟩
    · refine gx_tswIn (tgt := 1736) C dL_law_40 (by rw [c562]; decide) (by rw [c562]; decide) (off := 1696) (by rw [c562]; rfl) rfl ?_
      refine gx_aload_n C dL_law_1736 1 rfl ?_
      replace hf := gx_bs hf
      obtain ⟨a563, rfl, hf⟩ := hf
      replace hf := gx_bs hf
      obtain ⟨x565, g564, hf⟩ := hf
      refine gx_callV (st := []) C ((w_X1_traceLength hlt g564).over hH) (mh_ois hH (is_X1_traceLength g564)) gz_108 rfl (lw_V q1982 q1983 q1984 q121 q1985) gz_710 (by decide) rfl rfl (gx_catn (Nat.le_of_ble_eq_true rfl)) dL_law_1737 ?_
      refine gx_aload_n C dL_law_1740 2 rfl ?_
      replace hf := gx_b2s hf
      obtain ⟨x567, h568, g566, hf⟩ := hf
      refine gx_callV (st := [(.int x565)]) C (w_X9_traceLength hlt g566) mh_is gz_497 rfl (lw_V q3025 q3026 q3027 q151 q3028) gz_711 (by decide) rfl rfl (gx_catn (Nat.le_of_ble_eq_true rfl)) dL_law_1741 ?_
      replace hf := gx_ite hf
      rcases hf with ⟨c569, hf⟩ | ⟨c569, hf⟩
      · refine gx_icmp_eq_t (tgt := 2499) C dL_law_1744 rfl c569 ?_
        refine gx_sub [0, 1, 2, 3, 4] rfl ?_
        exact w_L_law_b2499 hlt C hx wk23 hf hH
      · refine gx_icmp_eq_f (tgt := 2499) C dL_law_1744 rfl c569 ?_
        refine gx_iconst (v := 0) C dL_law_1747 rfl ?_
        obtain ⟨rfl, rfl⟩ := Prod.mk.inj (Option.some.inj hf)
        exact gx_zret (b := false) C dL_law_1748
    replace hf := gx_ite hf
    rcases hf with ⟨c570, hf⟩ | ⟨c570, hf⟩
    · refine gx_tswIn (tgt := 1749) C dL_law_40 (by rw [c570]; decide) (by rw [c570]; decide) (off := 1709) (by rw [c570]; rfl) rfl ?_
      refine gx_aload_n C dL_law_1749 1 rfl ?_
      refine gx_aload_n C dL_law_1750 0 rfl ?_
      refine gx_iload C dL_law_1751 4 rfl ?_
      refine gx_iconst (v := 1) C dL_law_1753 rfl ?_
      refine gx_iadd C dL_law_1754 ?_
      replace hf := gx_bs hf
      obtain ⟨x571, g581, hf⟩ := hf
      refine gx_iald C (mh_oai hH g581) dL_law_1755 ?_
      replace hf := gx_bs hf
      obtain ⟨a572, rfl, hf⟩ := hf
      replace hf := gx_bs hf
      obtain ⟨x574, g573, hf⟩ := hf
      refine gx_callV (st := []) C ((w_X1_traceEvent hlt g573).over hH) (mh_ois hH (is_X1_traceEvent g573)) gz_108 rfl (lw_V q1986 q1987 q1988 q121 q1989) gz_712 (by decide) rfl rfl (gx_catn (Nat.le_of_ble_eq_true rfl)) dL_law_1756 ?_
      refine gx_aload_n C dL_law_1759 2 rfl ?_
      refine gx_aload_n C dL_law_1760 0 rfl ?_
      refine gx_iload C dL_law_1761 4 rfl ?_
      refine gx_iconst (v := 1) C dL_law_1763 rfl ?_
      refine gx_iadd C dL_law_1764 ?_
      replace hf := gx_bs hf
      obtain ⟨x575, g580, hf⟩ := hf
      refine gx_iald C (mh_oai hH g580) dL_law_1765 ?_
      replace hf := gx_b2s hf
      obtain ⟨x577, h578, g576, hf⟩ := hf
      refine gx_callV (st := [(.int x574)]) C (w_X9_traceEvent hlt g576) mh_is gz_497 rfl (lw_V q3144 q3145 q3146 q151 q3147) gz_713 (by decide) rfl rfl (gx_catn (Nat.le_of_ble_eq_true rfl)) dL_law_1766 ?_
      replace hf := gx_ite hf
      rcases hf with ⟨c579, hf⟩ | ⟨c579, hf⟩
      · refine gx_icmp_eq_t (tgt := 2499) C dL_law_1769 rfl c579 ?_
        refine gx_sub [0, 1, 2, 3, 4] rfl ?_
        exact w_L_law_b2499 hlt C hx wk23 hf hH
      · refine gx_icmp_eq_f (tgt := 2499) C dL_law_1769 rfl c579 ?_
        refine gx_iconst (v := 0) C dL_law_1772 rfl ?_
        obtain ⟨rfl, rfl⟩ := Prod.mk.inj (Option.some.inj hf)
        exact gx_zret (b := false) C dL_law_1773
    replace hf := gx_ite hf
    rcases hf with ⟨c582, hf⟩ | ⟨c582, hf⟩
    · refine gx_tswIn (tgt := 1774) C dL_law_40 (by rw [c582]; decide) (by rw [c582]; decide) (off := 1734) (by rw [c582]; rfl) rfl ?_
      refine gx_aload_n C dL_law_1774 1 rfl ?_
      refine gx_aload_n C dL_law_1775 0 rfl ?_
      refine gx_iload C dL_law_1776 4 rfl ?_
      refine gx_iconst (v := 1) C dL_law_1778 rfl ?_
      refine gx_iadd C dL_law_1779 ?_
      replace hf := gx_bs hf
      obtain ⟨x583, g593, hf⟩ := hf
      refine gx_iald C (mh_oai hH g593) dL_law_1780 ?_
      replace hf := gx_bs hf
      obtain ⟨a584, rfl, hf⟩ := hf
      replace hf := gx_bs hf
      obtain ⟨x586, g585, hf⟩ := hf
      refine gx_callV (st := []) C ((w_X1_traceTransition hlt g585).over hH) (mh_ois hH (is_X1_traceTransition g585)) gz_108 rfl (lw_V q1990 q1991 q1992 q121 q1993) gz_714 (by decide) rfl rfl (gx_catn (Nat.le_of_ble_eq_true rfl)) dL_law_1781 ?_
      refine gx_aload_n C dL_law_1784 2 rfl ?_
      refine gx_aload_n C dL_law_1785 0 rfl ?_
      refine gx_iload C dL_law_1786 4 rfl ?_
      refine gx_iconst (v := 1) C dL_law_1788 rfl ?_
      refine gx_iadd C dL_law_1789 ?_
      replace hf := gx_bs hf
      obtain ⟨x587, g592, hf⟩ := hf
      refine gx_iald C (mh_oai hH g592) dL_law_1790 ?_
      replace hf := gx_b2s hf
      obtain ⟨x589, h590, g588, hf⟩ := hf
      refine gx_callV (st := [(.int x586)]) C (w_X9_traceTransition hlt g588) mh_is gz_497 rfl (lw_V q3148 q3149 q3150 q151 q3151) gz_715 (by decide) rfl rfl (gx_catn (Nat.le_of_ble_eq_true rfl)) dL_law_1791 ?_
      replace hf := gx_ite hf
      rcases hf with ⟨c591, hf⟩ | ⟨c591, hf⟩
      · refine gx_icmp_eq_t (tgt := 2499) C dL_law_1794 rfl c591 ?_
        refine gx_sub [0, 1, 2, 3, 4] rfl ?_
        exact w_L_law_b2499 hlt C hx wk23 hf hH
      · refine gx_icmp_eq_f (tgt := 2499) C dL_law_1794 rfl c591 ?_
        refine gx_iconst (v := 0) C dL_law_1797 rfl ?_
        obtain ⟨rfl, rfl⟩ := Prod.mk.inj (Option.some.inj hf)
        exact gx_zret (b := false) C dL_law_1798
    replace hf := gx_ite hf
    rcases hf with ⟨c594, hf⟩ | ⟨c594, hf⟩
    · refine gx_tswIn (tgt := 1799) C dL_law_40 (by rw [c594]; decide) (by rw [c594]; decide) (off := 1759) (by rw [c594]; rfl) rfl ?_
      refine gx_aload_n C dL_law_1799 1 rfl ?_
      replace hf := gx_bs hf
      obtain ⟨a595, rfl, hf⟩ := hf
      replace hf := gx_b2s hf
      obtain ⟨x597, h598, g596, hf⟩ := hf
      refine gx_callV (st := []) C ((w_X1_reachableCount hlt g596).over hH) (mh_ois hH (is_X1_reachableCount g596)) gz_108 rfl (lw_V q1994 q1995 q1996 q121 q1997) gz_437 (by decide) rfl rfl (gx_catn (Nat.le_of_ble_eq_true rfl)) dL_law_1800 ?_
      have hH := hH.le (le_X1_reachableCount g596)
      refine gx_aload_n C dL_law_1803 2 rfl ?_
      replace hf := gx_b2s hf
      obtain ⟨x600, h601, g599, hf⟩ := hf
      refine gx_callV (st := [(.int x597)]) C (w_X9_reachableCount hlt g599) mh_is gz_497 rfl (lw_V q3152 q3153 q3154 q151 q3155) gz_716 (by decide) rfl rfl (gx_catn (Nat.le_of_ble_eq_true rfl)) dL_law_1804 ?_
      replace hf := gx_ite hf
      rcases hf with ⟨c602, hf⟩ | ⟨c602, hf⟩
      · refine gx_icmp_eq_t (tgt := 2499) C dL_law_1807 rfl c602 ?_
        refine gx_sub [0, 1, 2, 3, 4] rfl ?_
        exact w_L_law_b2499 hlt C hx wk23 hf hH
      · refine gx_icmp_eq_f (tgt := 2499) C dL_law_1807 rfl c602 ?_
        refine gx_iconst (v := 0) C dL_law_1810 rfl ?_
        obtain ⟨rfl, rfl⟩ := Prod.mk.inj (Option.some.inj hf)
        exact gx_zret (b := false) C dL_law_1811
    replace hf := gx_ite hf
    rcases hf with ⟨c603, hf⟩ | ⟨c603, hf⟩
    · refine gx_tswIn (tgt := 1812) C dL_law_40 (by rw [c603]; decide) (by rw [c603]; decide) (off := 1772) (by rw [c603]; rfl) rfl ?_
      refine gx_aload_n C dL_law_1812 1 rfl ?_
      refine gx_aload_n C dL_law_1813 0 rfl ?_
      refine gx_iload C dL_law_1814 4 rfl ?_
      refine gx_iconst (v := 1) C dL_law_1816 rfl ?_
      refine gx_iadd C dL_law_1817 ?_
      replace hf := gx_bs hf
      obtain ⟨x604, g622, hf⟩ := hf
      refine gx_iald C (mh_oai hH g622) dL_law_1818 ?_
      refine gx_aload_n C dL_law_1819 3 rfl ?_
      replace hf := gx_b2s hf
      obtain ⟨x606, h607, g605, hf⟩ := hf
      refine gx_xcallSW (st := []) C ((w_X0_isReachable hlt g605).over hH) (lw_SW q2442 q2443 q120 q2444) gz_718 (by decide) rfl rfl (gx_catn (Nat.le_of_ble_eq_true rfl)) dL_law_1820 (gx_k2l ?_)
      have hH := hH.le (le_X0_isReachable g605)
      refine gx_ist C dL_law_1823 (by decide) [0, 1, 2, 3, 4]  rfl (gx_okn rfl rfl (gx_okn rfl rfl (gx_okn rfl rfl (gx_okn rfl rfl (gx_okr rfl gx_catv_i gx_ok0))))) ?_
      refine gx_aload_n C dL_law_1825 3 rfl ?_
      refine gx_aload_n C dL_law_1826 1 rfl ?_
      refine gx_iload C dL_law_1827 5 rfl ?_
      refine gx_iconst (v := 1) C dL_law_1829 rfl ?_
      refine gx_iadd C dL_law_1830 ?_
      replace hf := gx_bs hf
      obtain ⟨x608, g621, hf⟩ := hf
      refine gx_iald C (mh_oai hH g621) dL_law_1831 ?_
      replace hf := gx_b2s hf
      obtain ⟨b610, h611, g609, hf⟩ := hf
      refine gx_callV (st := []) C (w_X9_isReachable hlt g609) mh_is gz_497 rfl (lw_V q3164 q3165 q3166 q151 q3167) gz_717 (by decide) rfl rfl (gx_catn (Nat.le_of_ble_eq_true rfl)) dL_law_1832 ?_
      refine gx_ist C dL_law_1835 (by decide) [0, 1, 2, 3, 4, 5]  rfl (gx_okr rfl gx_catv_i (gx_okn rfl rfl (gx_okn rfl rfl (gx_okn rfl rfl (gx_okn rfl rfl (gx_okn rfl rfl gx_ok0)))))) ?_
      refine gx_aload_n C dL_law_1837 4 rfl ?_
      replace hf := gx_bs hf
      obtain ⟨x613, g612, hf⟩ := hf
      refine gx_callV (st := []) C (w_X9_thrown hlt g612) mh_is gz_497 rfl (lw_V q2729 q2730 q2731 q151 q2732) gz_658 (by decide) rfl rfl (gx_catn (Nat.le_of_ble_eq_true rfl)) dL_law_1838 ?_
      refine gx_iload C dL_law_1841 1 rfl ?_
      replace hf := gx_ite hf
      rcases hf with ⟨c614, hf⟩ | ⟨c614, hf⟩
      · refine gx_icmp_eq_t (tgt := 1848) C dL_law_1843 rfl c614 ?_
        refine gx_iload C dL_law_1848 1 rfl ?_
        replace hf := gx_ite hf
        rcases hf with ⟨c615, hf⟩ | ⟨c615, hf⟩
        · refine gx_if_ne_f (tgt := 1872) C dL_law_1850 rfl c615 ?_
          refine gx_aload_n C dL_law_1853 5 rfl ?_
          refine gx_iconst (v := 0) C dL_law_1854 rfl ?_
          replace hf := gx_bs hf
          obtain ⟨a616, rfl, hf⟩ := hf
          replace hf := gx_bs hf
          obtain ⟨x617, g620, hf⟩ := hf
          refine gx_lald C (mh_oal hH g620) dL_law_1855 ?_
          refine gx_iload C dL_law_1856 0 rfl ?_
          replace hf := gx_ite hf
          rcases hf with ⟨c618, hf⟩ | ⟨c618, hf⟩
          · refine gx_ifz_eq_f (tgt := 1865) C dL_law_1858 rfl c618 ?_
            refine gx_lconst (v := 1) C dL_law_1861 rfl ?_
            refine gx_goto (tgt := 1866) C dL_law_1862 rfl ?_
            refine gx_sub [2, 3, 4, 5, 6] rfl ?_
            exact w_L_law_b1866 hlt C hx wk23 hf hH
          · refine gx_ifz_eq_t (tgt := 1865) C dL_law_1858 rfl c618 ?_
            refine gx_lconst (v := 0) C dL_law_1865 rfl ?_
            refine gx_sub [2, 3, 4, 5, 6] rfl ?_
            exact w_L_law_b1866 hlt C hx wk23 hf hH
        · refine gx_if_ne_t (tgt := 1872) C dL_law_1850 rfl c615 ?_
          refine gx_sub [2, 3, 4, 5, 6] rfl ?_
          exact w_L_law_b1872 hlt C hx wk23 hf hH
      · refine gx_icmp_eq_f (tgt := 1848) C dL_law_1843 rfl c614 ?_
        refine gx_iconst (v := 0) C dL_law_1846 rfl ?_
        obtain ⟨rfl, rfl⟩ := Prod.mk.inj (Option.some.inj hf)
        exact gx_zret (b := false) C dL_law_1847
    replace hf := gx_ite hf
    rcases hf with ⟨c623, hf⟩ | ⟨c623, hf⟩
    · refine gx_tswIn (tgt := 1875) C dL_law_40 (by rw [c623]; decide) (by rw [c623]; decide) (off := 1835) (by rw [c623]; rfl) rfl ?_
      refine gx_aload_n C dL_law_1875 1 rfl ?_
      refine gx_aload_n C dL_law_1876 0 rfl ?_
      refine gx_iload C dL_law_1877 4 rfl ?_
      refine gx_iconst (v := 1) C dL_law_1879 rfl ?_
      refine gx_iadd C dL_law_1880 ?_
      replace hf := gx_bs hf
      obtain ⟨x624, g642, hf⟩ := hf
      refine gx_iald C (mh_oai hH g642) dL_law_1881 ?_
      refine gx_aload_n C dL_law_1882 3 rfl ?_
      replace hf := gx_b2s hf
      obtain ⟨x626, h627, g625, hf⟩ := hf
      refine gx_xcallSW (st := []) C ((w_X0_canBeTaken hlt g625).over hH) (lw_SW q2467 q2468 q120 q2469) gz_720 (by decide) rfl rfl (gx_catn (Nat.le_of_ble_eq_true rfl)) dL_law_1883 (gx_k2l ?_)
      have hH := hH.le (le_X0_canBeTaken g625)
      refine gx_ist C dL_law_1886 (by decide) [0, 1, 2, 3, 4]  rfl (gx_okn rfl rfl (gx_okn rfl rfl (gx_okn rfl rfl (gx_okn rfl rfl (gx_okr rfl gx_catv_i gx_ok0))))) ?_
      refine gx_aload_n C dL_law_1888 3 rfl ?_
      refine gx_aload_n C dL_law_1889 1 rfl ?_
      refine gx_iload C dL_law_1890 5 rfl ?_
      refine gx_iconst (v := 1) C dL_law_1892 rfl ?_
      refine gx_iadd C dL_law_1893 ?_
      replace hf := gx_bs hf
      obtain ⟨x628, g641, hf⟩ := hf
      refine gx_iald C (mh_oai hH g641) dL_law_1894 ?_
      replace hf := gx_b2s hf
      obtain ⟨b630, h631, g629, hf⟩ := hf
      refine gx_callV (st := []) C (w_X9_canBeTaken hlt g629) mh_is gz_497 rfl (lw_V q3172 q3173 q3174 q151 q3175) gz_719 (by decide) rfl rfl (gx_catn (Nat.le_of_ble_eq_true rfl)) dL_law_1895 ?_
      refine gx_ist C dL_law_1898 (by decide) [0, 1, 2, 3, 4, 5]  rfl (gx_okr rfl gx_catv_i (gx_okn rfl rfl (gx_okn rfl rfl (gx_okn rfl rfl (gx_okn rfl rfl (gx_okn rfl rfl gx_ok0)))))) ?_
      refine gx_aload_n C dL_law_1900 4 rfl ?_
      replace hf := gx_bs hf
      obtain ⟨x633, g632, hf⟩ := hf
      refine gx_callV (st := []) C (w_X9_thrown hlt g632) mh_is gz_497 rfl (lw_V q2729 q2730 q2731 q151 q2732) gz_658 (by decide) rfl rfl (gx_catn (Nat.le_of_ble_eq_true rfl)) dL_law_1901 ?_
      refine gx_iload C dL_law_1904 1 rfl ?_
      replace hf := gx_ite hf
      rcases hf with ⟨c634, hf⟩ | ⟨c634, hf⟩
      · refine gx_icmp_eq_t (tgt := 1911) C dL_law_1906 rfl c634 ?_
        refine gx_iload C dL_law_1911 1 rfl ?_
        replace hf := gx_ite hf
        rcases hf with ⟨c635, hf⟩ | ⟨c635, hf⟩
        · refine gx_if_ne_f (tgt := 1935) C dL_law_1913 rfl c635 ?_
          refine gx_aload_n C dL_law_1916 5 rfl ?_
          refine gx_iconst (v := 0) C dL_law_1917 rfl ?_
          replace hf := gx_bs hf
          obtain ⟨a636, rfl, hf⟩ := hf
          replace hf := gx_bs hf
          obtain ⟨x637, g640, hf⟩ := hf
          refine gx_lald C (mh_oal hH g640) dL_law_1918 ?_
          refine gx_iload C dL_law_1919 0 rfl ?_
          replace hf := gx_ite hf
          rcases hf with ⟨c638, hf⟩ | ⟨c638, hf⟩
          · refine gx_ifz_eq_f (tgt := 1928) C dL_law_1921 rfl c638 ?_
            refine gx_lconst (v := 1) C dL_law_1924 rfl ?_
            refine gx_goto (tgt := 1929) C dL_law_1925 rfl ?_
            refine gx_sub [2, 3, 4, 5, 6] rfl ?_
            exact w_L_law_b1929 hlt C hx wk23 hf hH
          · refine gx_ifz_eq_t (tgt := 1928) C dL_law_1921 rfl c638 ?_
            refine gx_lconst (v := 0) C dL_law_1928 rfl ?_
            refine gx_sub [2, 3, 4, 5, 6] rfl ?_
            exact w_L_law_b1929 hlt C hx wk23 hf hH
        · refine gx_if_ne_t (tgt := 1935) C dL_law_1913 rfl c635 ?_
          refine gx_sub [2, 3, 4, 5, 6] rfl ?_
          exact w_L_law_b1935 hlt C hx wk23 hf hH
      · refine gx_icmp_eq_f (tgt := 1911) C dL_law_1906 rfl c634 ?_
        refine gx_iconst (v := 0) C dL_law_1909 rfl ?_
        obtain ⟨rfl, rfl⟩ := Prod.mk.inj (Option.some.inj hf)
        exact gx_zret (b := false) C dL_law_1910
    replace hf := gx_ite hf
    rcases hf with ⟨c643, hf⟩ | ⟨c643, hf⟩
    · refine gx_tswIn (tgt := 1938) C dL_law_40 (by rw [c643]; decide) (by rw [c643]; decide) (off := 1898) (by rw [c643]; rfl) rfl ?_
      refine gx_aload_n C dL_law_1938 1 rfl ?_
      refine gx_aload_n C dL_law_1939 0 rfl ?_
      refine gx_iload C dL_law_1940 4 rfl ?_
      refine gx_iconst (v := 1) C dL_law_1942 rfl ?_
      refine gx_iadd C dL_law_1943 ?_
      replace hf := gx_bs hf
      obtain ⟨x644, g661, hf⟩ := hf
      refine gx_iald C (mh_oai hH g661) dL_law_1944 ?_
      refine gx_aload_n C dL_law_1945 3 rfl ?_
      replace hf := gx_b2s hf
      obtain ⟨x646, h647, g645, hf⟩ := hf
      refine gx_xcallSW (st := []) C ((w_X0_stepsTo hlt g645).over hH) (lw_SW q2491 q2492 q120 q2493) gz_722 (by decide) rfl rfl (gx_catn (Nat.le_of_ble_eq_true rfl)) dL_law_1946 (gx_k2l ?_)
      have hH := hH.le (le_X0_stepsTo g645)
      refine gx_ist C dL_law_1949 (by decide) [0, 1, 2, 3, 4]  rfl (gx_okn rfl rfl (gx_okn rfl rfl (gx_okn rfl rfl (gx_okn rfl rfl (gx_okr rfl gx_catv_i gx_ok0))))) ?_
      refine gx_aload_n C dL_law_1951 3 rfl ?_
      refine gx_aload_n C dL_law_1952 1 rfl ?_
      refine gx_iload C dL_law_1953 5 rfl ?_
      refine gx_iconst (v := 1) C dL_law_1955 rfl ?_
      refine gx_iadd C dL_law_1956 ?_
      replace hf := gx_bs hf
      obtain ⟨x648, g660, hf⟩ := hf
      refine gx_iald C (mh_oai hH g660) dL_law_1957 ?_
      replace hf := gx_b2s hf
      obtain ⟨x650, h651, g649, hf⟩ := hf
      refine gx_callV (st := []) C (w_X9_stepsTo hlt g649) mh_is gz_497 rfl (lw_V q3176 q3177 q3178 q151 q3179) gz_721 (by decide) rfl rfl (gx_catn (Nat.le_of_ble_eq_true rfl)) dL_law_1958 ?_
      refine gx_ist C dL_law_1961 (by decide) [0, 1, 2, 3, 4, 5]  rfl (gx_okr rfl gx_catv_i (gx_okn rfl rfl (gx_okn rfl rfl (gx_okn rfl rfl (gx_okn rfl rfl (gx_okn rfl rfl gx_ok0)))))) ?_
      refine gx_aload_n C dL_law_1963 4 rfl ?_
      replace hf := gx_bs hf
      obtain ⟨x653, g652, hf⟩ := hf
      refine gx_callV (st := []) C (w_X9_thrown hlt g652) mh_is gz_497 rfl (lw_V q2729 q2730 q2731 q151 q2732) gz_658 (by decide) rfl rfl (gx_catn (Nat.le_of_ble_eq_true rfl)) dL_law_1964 ?_
      refine gx_iload C dL_law_1967 1 rfl ?_
      replace hf := gx_ite hf
      rcases hf with ⟨c654, hf⟩ | ⟨c654, hf⟩
      · refine gx_icmp_eq_t (tgt := 1974) C dL_law_1969 rfl c654 ?_
        refine gx_iload C dL_law_1974 1 rfl ?_
        replace hf := gx_ite hf
        rcases hf with ⟨c655, hf⟩ | ⟨c655, hf⟩
        · refine gx_if_ne_f (tgt := 1991) C dL_law_1976 rfl c655 ?_
          refine gx_aload_n C dL_law_1979 5 rfl ?_
          refine gx_iconst (v := 0) C dL_law_1980 rfl ?_
          replace hf := gx_bs hf
          obtain ⟨a656, rfl, hf⟩ := hf
          replace hf := gx_bs hf
          obtain ⟨x657, g659, hf⟩ := hf
          refine gx_lald C (mh_oal hH g659) dL_law_1981 ?_
          refine gx_iload C dL_law_1982 0 rfl ?_
          refine gx_i2l C dL_law_1984 ?_
          refine gx_lcmp C dL_law_1985 ?_
          replace hf := gx_ite hf
          rcases hf with ⟨c658, hf⟩ | ⟨c658, hf⟩
          · refine gx_if_eq_t (tgt := 1991) C dL_law_1986 rfl c658 ?_
            refine gx_sub [2, 3, 4, 5, 6] rfl ?_
            exact w_L_law_b1991 hlt C hx wk23 hf hH
          · refine gx_if_eq_f (tgt := 1991) C dL_law_1986 rfl c658 ?_
            refine gx_iconst (v := 0) C dL_law_1989 rfl ?_
            obtain ⟨rfl, rfl⟩ := Prod.mk.inj (Option.some.inj hf)
            exact gx_zret (b := false) C dL_law_1990
        · refine gx_if_ne_t (tgt := 1991) C dL_law_1976 rfl c655 ?_
          refine gx_sub [2, 3, 4, 5, 6] rfl ?_
          exact w_L_law_b1991 hlt C hx wk23 hf hH
      · refine gx_icmp_eq_f (tgt := 1974) C dL_law_1969 rfl c654 ?_
        refine gx_iconst (v := 0) C dL_law_1972 rfl ?_
        obtain ⟨rfl, rfl⟩ := Prod.mk.inj (Option.some.inj hf)
        exact gx_zret (b := false) C dL_law_1973
    replace hf := gx_ite hf
    rcases hf with ⟨c662, hf⟩ | ⟨c662, hf⟩
    · refine gx_tswIn (tgt := 1994) C dL_law_40 (by rw [c662]; decide) (by rw [c662]; decide) (off := 1954) (by rw [c662]; rfl) rfl ?_
      refine gx_aload_n C dL_law_1994 1 rfl ?_
      refine gx_aload_n C dL_law_1995 0 rfl ?_
      refine gx_iload C dL_law_1996 4 rfl ?_
      refine gx_iconst (v := 1) C dL_law_1998 rfl ?_
      refine gx_iadd C dL_law_1999 ?_
      replace hf := gx_bs hf
      obtain ⟨x663, g680, hf⟩ := hf
      refine gx_iald C (mh_oai hH g680) dL_law_2000 ?_
      refine gx_aload_n C dL_law_2001 3 rfl ?_
      replace hf := gx_b2s hf
      obtain ⟨x665, h666, g664, hf⟩ := hf
      refine gx_xcallSW (st := []) C ((w_X0_firstEventTo hlt g664).over hH) (lw_SW q2498 q2499 q120 q2500) gz_724 (by decide) rfl rfl (gx_catn (Nat.le_of_ble_eq_true rfl)) dL_law_2002 (gx_k2l ?_)
      have hH := hH.le (le_X0_firstEventTo g664)
      refine gx_ist C dL_law_2005 (by decide) [0, 1, 2, 3, 4]  rfl (gx_okn rfl rfl (gx_okn rfl rfl (gx_okn rfl rfl (gx_okn rfl rfl (gx_okr rfl gx_catv_i gx_ok0))))) ?_
      refine gx_aload_n C dL_law_2007 3 rfl ?_
      refine gx_aload_n C dL_law_2008 1 rfl ?_
      refine gx_iload C dL_law_2009 5 rfl ?_
      refine gx_iconst (v := 1) C dL_law_2011 rfl ?_
      refine gx_iadd C dL_law_2012 ?_
      replace hf := gx_bs hf
      obtain ⟨x667, g679, hf⟩ := hf
      refine gx_iald C (mh_oai hH g679) dL_law_2013 ?_
      replace hf := gx_b2s hf
      obtain ⟨x669, h670, g668, hf⟩ := hf
      refine gx_callV (st := []) C (w_X9_firstEventTo hlt g668) mh_is gz_497 rfl (lw_V q3180 q3181 q3182 q151 q3183) gz_723 (by decide) rfl rfl (gx_catn (Nat.le_of_ble_eq_true rfl)) dL_law_2014 ?_
      refine gx_ist C dL_law_2017 (by decide) [0, 1, 2, 3, 4, 5]  rfl (gx_okr rfl gx_catv_i (gx_okn rfl rfl (gx_okn rfl rfl (gx_okn rfl rfl (gx_okn rfl rfl (gx_okn rfl rfl gx_ok0)))))) ?_
      refine gx_aload_n C dL_law_2019 4 rfl ?_
      replace hf := gx_bs hf
      obtain ⟨x672, g671, hf⟩ := hf
      refine gx_callV (st := []) C (w_X9_thrown hlt g671) mh_is gz_497 rfl (lw_V q2729 q2730 q2731 q151 q2732) gz_658 (by decide) rfl rfl (gx_catn (Nat.le_of_ble_eq_true rfl)) dL_law_2020 ?_
      refine gx_iload C dL_law_2023 1 rfl ?_
      replace hf := gx_ite hf
      rcases hf with ⟨c673, hf⟩ | ⟨c673, hf⟩
      · refine gx_icmp_eq_t (tgt := 2030) C dL_law_2025 rfl c673 ?_
        refine gx_iload C dL_law_2030 1 rfl ?_
        replace hf := gx_ite hf
        rcases hf with ⟨c674, hf⟩ | ⟨c674, hf⟩
        · refine gx_if_ne_f (tgt := 2047) C dL_law_2032 rfl c674 ?_
          refine gx_aload_n C dL_law_2035 5 rfl ?_
          refine gx_iconst (v := 0) C dL_law_2036 rfl ?_
          replace hf := gx_bs hf
          obtain ⟨a675, rfl, hf⟩ := hf
          replace hf := gx_bs hf
          obtain ⟨x676, g678, hf⟩ := hf
          refine gx_lald C (mh_oal hH g678) dL_law_2037 ?_
          refine gx_iload C dL_law_2038 0 rfl ?_
          refine gx_i2l C dL_law_2040 ?_
          refine gx_lcmp C dL_law_2041 ?_
          replace hf := gx_ite hf
          rcases hf with ⟨c677, hf⟩ | ⟨c677, hf⟩
          · refine gx_if_eq_t (tgt := 2047) C dL_law_2042 rfl c677 ?_
            refine gx_sub [2, 3, 4, 5, 6] rfl ?_
            exact w_L_law_b2047 hlt C hx wk23 hf hH
          · refine gx_if_eq_f (tgt := 2047) C dL_law_2042 rfl c677 ?_
            refine gx_iconst (v := 0) C dL_law_2045 rfl ?_
            obtain ⟨rfl, rfl⟩ := Prod.mk.inj (Option.some.inj hf)
            exact gx_zret (b := false) C dL_law_2046
        · refine gx_if_ne_t (tgt := 2047) C dL_law_2032 rfl c674 ?_
          refine gx_sub [2, 3, 4, 5, 6] rfl ?_
          exact w_L_law_b2047 hlt C hx wk23 hf hH
      · refine gx_icmp_eq_f (tgt := 2030) C dL_law_2025 rfl c673 ?_
        refine gx_iconst (v := 0) C dL_law_2028 rfl ?_
        obtain ⟨rfl, rfl⟩ := Prod.mk.inj (Option.some.inj hf)
        exact gx_zret (b := false) C dL_law_2029
    replace hf := gx_ite hf
    rcases hf with ⟨c681, hf⟩ | ⟨c681, hf⟩
    · refine gx_tswIn (tgt := 2050) C dL_law_40 (by rw [c681]; decide) (by rw [c681]; decide) (off := 2010) (by rw [c681]; rfl) rfl ?_
      refine gx_aload_n C dL_law_2050 1 rfl ?_
      replace hf := gx_bs hf
      obtain ⟨a682, rfl, hf⟩ := hf
      replace hf := gx_b2s hf
      obtain ⟨x684, h685, g683, hf⟩ := hf
      refine gx_callV (st := []) C ((w_X1_deadlockCount hlt g683).over hH) (mh_ois hH (is_X1_deadlockCount g683)) gz_108 rfl (lw_V q2101 q2102 q2103 q121 q2104) gz_725 (by decide) rfl rfl (gx_catn (Nat.le_of_ble_eq_true rfl)) dL_law_2051 ?_
      have hH := hH.le (le_X1_deadlockCount g683)
      refine gx_aload_n C dL_law_2054 2 rfl ?_
      replace hf := gx_b2s hf
      obtain ⟨x687, h688, g686, hf⟩ := hf
      refine gx_callV (st := [(.int x684)]) C (w_X9_deadlockCount hlt g686) mh_is gz_497 rfl (lw_V q3184 q3185 q3186 q151 q3187) gz_726 (by decide) rfl rfl (gx_catn (Nat.le_of_ble_eq_true rfl)) dL_law_2055 ?_
      replace hf := gx_ite hf
      rcases hf with ⟨c689, hf⟩ | ⟨c689, hf⟩
      · refine gx_icmp_eq_t (tgt := 2499) C dL_law_2058 rfl c689 ?_
        refine gx_sub [0, 1, 2, 3, 4] rfl ?_
        exact w_L_law_b2499 hlt C hx wk23 hf hH
      · refine gx_icmp_eq_f (tgt := 2499) C dL_law_2058 rfl c689 ?_
        refine gx_iconst (v := 0) C dL_law_2061 rfl ?_
        obtain ⟨rfl, rfl⟩ := Prod.mk.inj (Option.some.inj hf)
        exact gx_zret (b := false) C dL_law_2062
    replace hf := gx_ite hf
    rcases hf with ⟨c690, hf⟩ | ⟨c690, hf⟩
    · refine gx_tswIn (tgt := 2063) C dL_law_40 (by rw [c690]; decide) (by rw [c690]; decide) (off := 2023) (by rw [c690]; rfl) rfl ?_
      refine gx_aload_n C dL_law_2063 1 rfl ?_
      replace hf := gx_bs hf
      obtain ⟨a691, rfl, hf⟩ := hf
      replace hf := gx_b2s hf
      obtain ⟨x693, h694, g692, hf⟩ := hf
      refine gx_callV (st := []) C ((w_X1_stepsToDeadlock hlt g692).over hH) (mh_ois hH (is_X1_stepsToDeadlock g692)) gz_108 rfl (lw_V q2115 q2116 q2117 q121 q2118) gz_727 (by decide) rfl rfl (gx_catn (Nat.le_of_ble_eq_true rfl)) dL_law_2064 ?_
      have hH := hH.le (le_X1_stepsToDeadlock g692)
      refine gx_aload_n C dL_law_2067 2 rfl ?_
      replace hf := gx_b2s hf
      obtain ⟨x696, h697, g695, hf⟩ := hf
      refine gx_callV (st := [(.int x693)]) C (w_X9_stepsToDeadlock hlt g695) mh_is gz_497 rfl (lw_V q3188 q3189 q3190 q151 q3191) gz_728 (by decide) rfl rfl (gx_catn (Nat.le_of_ble_eq_true rfl)) dL_law_2068 ?_
      replace hf := gx_ite hf
      rcases hf with ⟨c698, hf⟩ | ⟨c698, hf⟩
      · refine gx_icmp_eq_t (tgt := 2499) C dL_law_2071 rfl c698 ?_
        refine gx_sub [0, 1, 2, 3, 4] rfl ?_
        exact w_L_law_b2499 hlt C hx wk23 hf hH
      · refine gx_icmp_eq_f (tgt := 2499) C dL_law_2071 rfl c698 ?_
        refine gx_iconst (v := 0) C dL_law_2074 rfl ?_
        obtain ⟨rfl, rfl⟩ := Prod.mk.inj (Option.some.inj hf)
        exact gx_zret (b := false) C dL_law_2075
    replace hf := gx_ite hf
    rcases hf with ⟨c699, hf⟩ | ⟨c699, hf⟩
    · refine gx_tswIn (tgt := 2076) C dL_law_40 (by rw [c699]; decide) (by rw [c699]; decide) (off := 2036) (by rw [c699]; rfl) rfl ?_
      refine gx_aload_n C dL_law_2076 1 rfl ?_
      replace hf := gx_bs hf
      obtain ⟨a700, rfl, hf⟩ := hf
      replace hf := gx_b2s hf
      obtain ⟨b702, h703, g701, hf⟩ := hf
      refine gx_callV (st := []) C ((w_X1_isConsistent hlt g701).over hH) (mh_ois hH (is_X1_isConsistent g701)) gz_108 rfl (lw_V q2135 q2136 q2137 q121 q2138) gz_729 (by decide) rfl rfl (gx_catn (Nat.le_of_ble_eq_true rfl)) dL_law_2077 ?_
      have hH := hH.le (le_X1_isConsistent g701)
      refine gx_aload_n C dL_law_2080 2 rfl ?_
      replace hf := gx_b2s hf
      obtain ⟨b705, h706, g704, hf⟩ := hf
      refine gx_callV (st := [(.int (b2i b702))]) C (w_X9_isConsistent hlt g704) mh_is gz_497 rfl (lw_V q3192 q3193 q3194 q151 q3195) gz_730 (by decide) rfl rfl (gx_catn (Nat.le_of_ble_eq_true rfl)) dL_law_2081 ?_
      replace hf := gx_ite hf
      rcases hf with ⟨c707, hf⟩ | ⟨c707, hf⟩
      · refine gx_icmp_eq_t (tgt := 2499) C dL_law_2084 rfl c707 ?_
        refine gx_sub [0, 1, 2, 3, 4] rfl ?_
        exact w_L_law_b2499 hlt C hx wk23 hf hH
      · refine gx_icmp_eq_f (tgt := 2499) C dL_law_2084 rfl c707 ?_
        refine gx_iconst (v := 0) C dL_law_2087 rfl ?_
        obtain ⟨rfl, rfl⟩ := Prod.mk.inj (Option.some.inj hf)
        exact gx_zret (b := false) C dL_law_2088
    replace hf := gx_ite hf
    rcases hf with ⟨c708, hf⟩ | ⟨c708, hf⟩
    · refine gx_tswIn (tgt := 2089) C dL_law_40 (by rw [c708]; decide) (by rw [c708]; decide) (off := 2049) (by rw [c708]; rfl) rfl ?_
      refine gx_aload_n C dL_law_2089 1 rfl ?_
      replace hf := gx_bs hf
      obtain ⟨a709, rfl, hf⟩ := hf
      replace hf := gx_bs hf
      obtain ⟨x711, g710, hf⟩ := hf
      refine gx_callV (st := []) C ((w_X1_meanValue hlt g710).over hH) (mh_ois hH (is_X1_meanValue g710)) gz_108 rfl (lw_V q2148 q2149 q2150 q121 q2151) gz_731 (by decide) rfl rfl (gx_catn (Nat.le_of_ble_eq_true rfl)) dL_law_2090 ?_
      refine gx_dst C dL_law_2093 (by decide) [0, 1, 2, 3, 4] rfl (gx_okn rfl rfl (gx_okn rfl rfl (gx_okn rfl rfl (gx_okn rfl rfl (gx_okr rfl gx_catv_i gx_ok0))))) rfl ?_
      refine gx_aload_n C dL_law_2095 3 rfl ?_
      replace hf := gx_b2s hf
      obtain ⟨x713, h714, g712, hf⟩ := hf
      refine gx_callV (st := []) C (w_X9_meanValue hlt g712) mh_is gz_497 rfl (lw_V q3204 q3205 q3206 q151 q3207) gz_732 (by decide) rfl rfl (gx_catn (Nat.le_of_ble_eq_true rfl)) dL_law_2096 ?_
      refine gx_dst C dL_law_2099 (by decide) [0, 1, 2, 3, 4, 5] rfl (gx_okn rfl rfl (gx_okn rfl rfl (gx_okn rfl rfl (gx_okn rfl rfl (gx_okn rfl rfl (gx_okn rfl rfl gx_ok0)))))) rfl ?_
      refine gx_dload C dL_law_2101 1 rfl ?_
      refine gx_dload C dL_law_2103 0 rfl ?_
      refine gx_dcmp C dL_law_2105 ?_
      replace hf := gx_ite hf
      rcases hf with ⟨c715, hf⟩ | ⟨c715, hf⟩
      · refine gx_if_eq_t (tgt := 2127) C dL_law_2106 rfl c715 ?_
        refine gx_sub [2, 3, 4, 5, 6] rfl ?_
        exact w_L_law_b2127 hlt C hx wk23 hf hH
      · refine gx_if_eq_f (tgt := 2127) C dL_law_2106 rfl c715 ?_
        refine gx_dload C dL_law_2109 1 rfl ?_
        refine gx_dload C dL_law_2111 1 rfl ?_
        refine gx_dcmp C dL_law_2113 ?_
        replace hf := gx_ite hf
        rcases hf with ⟨c716, hf⟩ | ⟨c716, hf⟩
        · refine gx_if_eq_t (tgt := 2125) C dL_law_2114 rfl c716 ?_
          refine gx_iconst (v := 0) C dL_law_2125 rfl ?_
          obtain ⟨rfl, rfl⟩ := Prod.mk.inj (Option.some.inj hf)
          exact gx_zret (b := false) C dL_law_2126
        · refine gx_if_eq_f (tgt := 2125) C dL_law_2114 rfl c716 ?_
          refine gx_dload C dL_law_2117 0 rfl ?_
          refine gx_dload C dL_law_2119 0 rfl ?_
          refine gx_dcmp C dL_law_2121 ?_
          replace hf := gx_ite hf
          rcases hf with ⟨c717, hf⟩ | ⟨c717, hf⟩
          · refine gx_if_ne_f (tgt := 2127) C dL_law_2122 rfl c717 ?_
            refine gx_iconst (v := 0) C dL_law_2125 rfl ?_
            obtain ⟨rfl, rfl⟩ := Prod.mk.inj (Option.some.inj hf)
            exact gx_zret (b := false) C dL_law_2126
          · refine gx_if_ne_t (tgt := 2127) C dL_law_2122 rfl c717 ?_
            refine gx_sub [2, 3, 4, 5, 6] rfl ?_
            exact w_L_law_b2127 hlt C hx wk23 hf hH
    replace hf := gx_ite hf
    rcases hf with ⟨c718, hf⟩ | ⟨c718, hf⟩
    · refine gx_tswIn (tgt := 2130) C dL_law_40 (by rw [c718]; decide) (by rw [c718]; decide) (off := 2090) (by rw [c718]; rfl) rfl ?_
      refine gx_aload_n C dL_law_2130 1 rfl ?_
      refine gx_aload_n C dL_law_2131 0 rfl ?_
      refine gx_iload C dL_law_2132 4 rfl ?_
      refine gx_iconst (v := 1) C dL_law_2134 rfl ?_
      refine gx_iadd C dL_law_2135 ?_
      replace hf := gx_bs hf
      obtain ⟨x719, g736, hf⟩ := hf
      refine gx_iald C (mh_oai hH g736) dL_law_2136 ?_
      refine gx_aload_n C dL_law_2137 3 rfl ?_
      replace hf := gx_b2s hf
      obtain ⟨x721, h722, g720, hf⟩ := hf
      refine gx_xcallSW (st := []) C ((w_X0_fire hlt g720).over hH) (lw_SW q2505 q2506 q120 q2507) gz_734 (by decide) rfl rfl (gx_catn (Nat.le_of_ble_eq_true rfl)) dL_law_2138 (gx_k2l ?_)
      have hH := hH.le (le_X0_fire g720)
      refine gx_ist C dL_law_2141 (by decide) [0, 1, 2, 3, 4]  rfl (gx_okn rfl rfl (gx_okn rfl rfl (gx_okn rfl rfl (gx_okn rfl rfl (gx_okr rfl gx_catv_i gx_ok0))))) ?_
      refine gx_aload_n C dL_law_2143 3 rfl ?_
      refine gx_aload_n C dL_law_2144 1 rfl ?_
      refine gx_iload C dL_law_2145 5 rfl ?_
      refine gx_iconst (v := 1) C dL_law_2147 rfl ?_
      refine gx_iadd C dL_law_2148 ?_
      replace hf := gx_bs hf
      obtain ⟨x723, g735, hf⟩ := hf
      refine gx_iald C (mh_oai hH g735) dL_law_2149 ?_
      replace hf := gx_b2s hf
      obtain ⟨x725, h726, g724, hf⟩ := hf
      refine gx_callV (st := []) C (w_X9_fire hlt g724) mh_is gz_497 rfl (lw_V q3208 q3209 q3210 q151 q3211) gz_733 (by decide) rfl rfl (gx_catn (Nat.le_of_ble_eq_true rfl)) dL_law_2150 ?_
      refine gx_ist C dL_law_2153 (by decide) [0, 1, 2, 3, 4, 5]  rfl (gx_okr rfl gx_catv_i (gx_okn rfl rfl (gx_okn rfl rfl (gx_okn rfl rfl (gx_okn rfl rfl (gx_okn rfl rfl gx_ok0)))))) ?_
      refine gx_aload_n C dL_law_2155 4 rfl ?_
      replace hf := gx_bs hf
      obtain ⟨x728, g727, hf⟩ := hf
      refine gx_callV (st := []) C (w_X9_thrown hlt g727) mh_is gz_497 rfl (lw_V q2729 q2730 q2731 q151 q2732) gz_658 (by decide) rfl rfl (gx_catn (Nat.le_of_ble_eq_true rfl)) dL_law_2156 ?_
      refine gx_iload C dL_law_2159 1 rfl ?_
      replace hf := gx_ite hf
      rcases hf with ⟨c729, hf⟩ | ⟨c729, hf⟩
      · refine gx_icmp_eq_t (tgt := 2166) C dL_law_2161 rfl c729 ?_
        refine gx_iload C dL_law_2166 1 rfl ?_
        replace hf := gx_ite hf
        rcases hf with ⟨c730, hf⟩ | ⟨c730, hf⟩
        · refine gx_if_ne_f (tgt := 2183) C dL_law_2168 rfl c730 ?_
          refine gx_aload_n C dL_law_2171 5 rfl ?_
          refine gx_iconst (v := 0) C dL_law_2172 rfl ?_
          replace hf := gx_bs hf
          obtain ⟨a731, rfl, hf⟩ := hf
          replace hf := gx_bs hf
          obtain ⟨x732, g734, hf⟩ := hf
          refine gx_lald C (mh_oal hH g734) dL_law_2173 ?_
          refine gx_iload C dL_law_2174 0 rfl ?_
          refine gx_i2l C dL_law_2176 ?_
          refine gx_lcmp C dL_law_2177 ?_
          replace hf := gx_ite hf
          rcases hf with ⟨c733, hf⟩ | ⟨c733, hf⟩
          · refine gx_if_eq_t (tgt := 2183) C dL_law_2178 rfl c733 ?_
            refine gx_sub [2, 3, 4, 5, 6] rfl ?_
            exact w_L_law_b2183 hlt C hx wk23 hf hH
          · refine gx_if_eq_f (tgt := 2183) C dL_law_2178 rfl c733 ?_
            refine gx_iconst (v := 0) C dL_law_2181 rfl ?_
            obtain ⟨rfl, rfl⟩ := Prod.mk.inj (Option.some.inj hf)
            exact gx_zret (b := false) C dL_law_2182
        · refine gx_if_ne_t (tgt := 2183) C dL_law_2168 rfl c730 ?_
          refine gx_sub [2, 3, 4, 5, 6] rfl ?_
          exact w_L_law_b2183 hlt C hx wk23 hf hH
      · refine gx_icmp_eq_f (tgt := 2166) C dL_law_2161 rfl c729 ?_
        refine gx_iconst (v := 0) C dL_law_2164 rfl ?_
        obtain ⟨rfl, rfl⟩ := Prod.mk.inj (Option.some.inj hf)
        exact gx_zret (b := false) C dL_law_2165
    replace hf := gx_ite hf
    rcases hf with ⟨c737, hf⟩ | ⟨c737, hf⟩
    · refine gx_tswIn (tgt := 2186) C dL_law_40 (by rw [c737]; decide) (by rw [c737]; decide) (off := 2146) (by rw [c737]; rfl) rfl ?_
      refine gx_aload_n C dL_law_2186 1 rfl ?_
      refine gx_aload_n C dL_law_2187 0 rfl ?_
      refine gx_iload C dL_law_2188 4 rfl ?_
      refine gx_iconst (v := 1) C dL_law_2190 rfl ?_
      refine gx_iadd C dL_law_2191 ?_
      replace hf := gx_bs hf
      obtain ⟨x738, g759, hf⟩ := hf
      refine gx_iald C (mh_oai hH g759) dL_law_2192 ?_
      refine gx_aload_n C dL_law_2193 0 rfl ?_
      refine gx_iload C dL_law_2194 4 rfl ?_
      refine gx_iconst (v := 2) C dL_law_2196 rfl ?_
      refine gx_iadd C dL_law_2197 ?_
      replace hf := gx_bs hf
      obtain ⟨x739, g758, hf⟩ := hf
      refine gx_iald C (mh_oai hH g758) dL_law_2198 ?_
      refine gx_aload_n C dL_law_2199 3 rfl ?_
      replace hf := gx_b2s hf
      obtain ⟨x741, h742, g740, hf⟩ := hf
      refine gx_xcallSW (st := []) C ((w_X0_setValue hlt g740).over hH) (lw_SW q2529 q2530 q120 q2531) gz_736 (by decide) rfl rfl (gx_catn (Nat.le_of_ble_eq_true rfl)) dL_law_2200 (gx_k2l ?_)
      have hH := hH.le (le_X0_setValue g740)
      refine gx_ist C dL_law_2203 (by decide) [0, 1, 2, 3, 4]  rfl (gx_okn rfl rfl (gx_okn rfl rfl (gx_okn rfl rfl (gx_okn rfl rfl (gx_okr rfl gx_catv_i gx_ok0))))) ?_
      refine gx_aload_n C dL_law_2205 3 rfl ?_
      refine gx_aload_n C dL_law_2206 1 rfl ?_
      refine gx_iload C dL_law_2207 5 rfl ?_
      refine gx_iconst (v := 1) C dL_law_2209 rfl ?_
      refine gx_iadd C dL_law_2210 ?_
      replace hf := gx_bs hf
      obtain ⟨x743, g757, hf⟩ := hf
      refine gx_iald C (mh_oai hH g757) dL_law_2211 ?_
      refine gx_aload_n C dL_law_2212 1 rfl ?_
      refine gx_iload C dL_law_2213 5 rfl ?_
      refine gx_iconst (v := 2) C dL_law_2215 rfl ?_
      refine gx_iadd C dL_law_2216 ?_
      replace hf := gx_bs hf
      obtain ⟨x744, g756, hf⟩ := hf
      refine gx_iald C (mh_oai hH g756) dL_law_2217 ?_
      replace hf := gx_b2s hf
      obtain ⟨x746, h747, g745, hf⟩ := hf
      refine gx_callV (st := []) C (w_X9_setValue hlt g745) mh_is gz_497 rfl (lw_V q3212 q3213 q3214 q151 q3215) gz_735 (by decide) rfl rfl (gx_catn (Nat.le_of_ble_eq_true rfl)) dL_law_2218 ?_
      refine gx_ist C dL_law_2221 (by decide) [0, 1, 2, 3, 4, 5]  rfl (gx_okr rfl gx_catv_i (gx_okn rfl rfl (gx_okn rfl rfl (gx_okn rfl rfl (gx_okn rfl rfl (gx_okn rfl rfl gx_ok0)))))) ?_
      refine gx_aload_n C dL_law_2223 4 rfl ?_
      replace hf := gx_bs hf
      obtain ⟨x749, g748, hf⟩ := hf
      refine gx_callV (st := []) C (w_X9_thrown hlt g748) mh_is gz_497 rfl (lw_V q2729 q2730 q2731 q151 q2732) gz_658 (by decide) rfl rfl (gx_catn (Nat.le_of_ble_eq_true rfl)) dL_law_2224 ?_
      refine gx_iload C dL_law_2227 1 rfl ?_
      replace hf := gx_ite hf
      rcases hf with ⟨c750, hf⟩ | ⟨c750, hf⟩
      · refine gx_icmp_eq_t (tgt := 2234) C dL_law_2229 rfl c750 ?_
        refine gx_iload C dL_law_2234 1 rfl ?_
        replace hf := gx_ite hf
        rcases hf with ⟨c751, hf⟩ | ⟨c751, hf⟩
        · refine gx_if_ne_f (tgt := 2251) C dL_law_2236 rfl c751 ?_
          refine gx_aload_n C dL_law_2239 5 rfl ?_
          refine gx_iconst (v := 0) C dL_law_2240 rfl ?_
          replace hf := gx_bs hf
          obtain ⟨a752, rfl, hf⟩ := hf
          replace hf := gx_bs hf
          obtain ⟨x753, g755, hf⟩ := hf
          refine gx_lald C (mh_oal hH g755) dL_law_2241 ?_
          refine gx_iload C dL_law_2242 0 rfl ?_
          refine gx_i2l C dL_law_2244 ?_
          refine gx_lcmp C dL_law_2245 ?_
          replace hf := gx_ite hf
          rcases hf with ⟨c754, hf⟩ | ⟨c754, hf⟩
          · refine gx_if_eq_t (tgt := 2251) C dL_law_2246 rfl c754 ?_
            refine gx_sub [2, 3, 4, 5, 6] rfl ?_
            exact w_L_law_b2251 hlt C hx wk23 hf hH
          · refine gx_if_eq_f (tgt := 2251) C dL_law_2246 rfl c754 ?_
            refine gx_iconst (v := 0) C dL_law_2249 rfl ?_
            obtain ⟨rfl, rfl⟩ := Prod.mk.inj (Option.some.inj hf)
            exact gx_zret (b := false) C dL_law_2250
        · refine gx_if_ne_t (tgt := 2251) C dL_law_2236 rfl c751 ?_
          refine gx_sub [2, 3, 4, 5, 6] rfl ?_
          exact w_L_law_b2251 hlt C hx wk23 hf hH
      · refine gx_icmp_eq_f (tgt := 2234) C dL_law_2229 rfl c750 ?_
        refine gx_iconst (v := 0) C dL_law_2232 rfl ?_
        obtain ⟨rfl, rfl⟩ := Prod.mk.inj (Option.some.inj hf)
        exact gx_zret (b := false) C dL_law_2233
    replace hf := gx_ite hf
    rcases hf with ⟨c760, hf⟩ | ⟨c760, hf⟩
    · refine gx_tswIn (tgt := 2254) C dL_law_40 (by rw [c760]; decide) (by rw [c760]; decide) (off := 2214) (by rw [c760]; rfl) rfl ?_
      refine gx_aload_n C dL_law_2254 1 rfl ?_
      replace hf := gx_bs hf
      obtain ⟨a761, rfl, hf⟩ := hf
      replace hf := gx_b2s hf
      obtain ⟨x763, h764, g762, hf⟩ := hf
      refine gx_callV (st := []) C ((w_X1_reset hlt g762).over hH) (mh_ois hH (is_X1_reset g762)) gz_108 rfl (lw_V q2152 q2153 q2154 q121 q2155) gz_737 (by decide) rfl rfl (gx_catn (Nat.le_of_ble_eq_true rfl)) dL_law_2255 ?_
      have hH := hH.le (le_X1_reset g762)
      refine gx_aload_n C dL_law_2258 2 rfl ?_
      replace hf := gx_b2s hf
      obtain ⟨x766, h767, g765, hf⟩ := hf
      refine gx_callV (st := [(.int x763)]) C (w_X9_reset hlt g765) mh_is gz_497 rfl (lw_V q3216 q3217 q3218 q151 q3219) gz_738 (by decide) rfl rfl (gx_catn (Nat.le_of_ble_eq_true rfl)) dL_law_2259 ?_
      replace hf := gx_ite hf
      rcases hf with ⟨c768, hf⟩ | ⟨c768, hf⟩
      · refine gx_icmp_eq_t (tgt := 2499) C dL_law_2262 rfl c768 ?_
        refine gx_sub [0, 1, 2, 3, 4] rfl ?_
        exact w_L_law_b2499 hlt C hx wk23 hf hH
      · refine gx_icmp_eq_f (tgt := 2499) C dL_law_2262 rfl c768 ?_
        refine gx_iconst (v := 0) C dL_law_2265 rfl ?_
        obtain ⟨rfl, rfl⟩ := Prod.mk.inj (Option.some.inj hf)
        exact gx_zret (b := false) C dL_law_2266
    replace hf := gx_ite hf
    rcases hf with ⟨c769, hf⟩ | ⟨c769, hf⟩
    · refine gx_tswIn (tgt := 2267) C dL_law_40 (by rw [c769]; decide) (by rw [c769]; decide) (off := 2227) (by rw [c769]; rfl) rfl ?_
      refine gx_aload_n C dL_law_2267 1 rfl ?_
      replace hf := gx_bs hf
      obtain ⟨a770, rfl, hf⟩ := hf
      replace hf := gx_b2s hf
      obtain ⟨x772, h773, g771, hf⟩ := hf
      refine gx_callV (st := []) C ((w_X1_clearCoverage hlt g771).over hH) (mh_ois hH (is_X1_clearCoverage g771)) gz_108 rfl (lw_V q2157 q2158 q2159 q121 q2160) gz_739 (by decide) rfl rfl (gx_catn (Nat.le_of_ble_eq_true rfl)) dL_law_2268 ?_
      have hH := hH.le (le_X1_clearCoverage g771)
      refine gx_aload_n C dL_law_2271 2 rfl ?_
      replace hf := gx_b2s hf
      obtain ⟨x775, h776, g774, hf⟩ := hf
      refine gx_callV (st := [(.int x772)]) C (w_X9_clearCoverage hlt g774) mh_is gz_497 rfl (lw_V q3220 q3221 q3222 q151 q3223) gz_740 (by decide) rfl rfl (gx_catn (Nat.le_of_ble_eq_true rfl)) dL_law_2272 ?_
      replace hf := gx_ite hf
      rcases hf with ⟨c777, hf⟩ | ⟨c777, hf⟩
      · refine gx_icmp_eq_t (tgt := 2499) C dL_law_2275 rfl c777 ?_
        refine gx_sub [0, 1, 2, 3, 4] rfl ?_
        exact w_L_law_b2499 hlt C hx wk23 hf hH
      · refine gx_icmp_eq_f (tgt := 2499) C dL_law_2275 rfl c777 ?_
        refine gx_iconst (v := 0) C dL_law_2278 rfl ?_
        obtain ⟨rfl, rfl⟩ := Prod.mk.inj (Option.some.inj hf)
        exact gx_zret (b := false) C dL_law_2279
    replace hf := gx_ite hf
    rcases hf with ⟨c778, hf⟩ | ⟨c778, hf⟩
    · refine gx_tswIn (tgt := 2280) C dL_law_40 (by rw [c778]; decide) (by rw [c778]; decide) (off := 2240) (by rw [c778]; rfl) rfl ?_
      refine gx_aload_n C dL_law_2280 1 rfl ?_
      refine gx_aload_n C dL_law_2281 0 rfl ?_
      refine gx_iload C dL_law_2282 4 rfl ?_
      refine gx_iconst (v := 1) C dL_law_2284 rfl ?_
      refine gx_iadd C dL_law_2285 ?_
      replace hf := gx_bs hf
      obtain ⟨x779, g804, hf⟩ := hf
      refine gx_iald C (mh_oai hH g804) dL_law_2286 ?_
      refine gx_aload_n C dL_law_2287 0 rfl ?_
      refine gx_iload C dL_law_2288 4 rfl ?_
      refine gx_iconst (v := 2) C dL_law_2290 rfl ?_
      refine gx_iadd C dL_law_2291 ?_
      replace hf := gx_bs hf
      obtain ⟨x780, g803, hf⟩ := hf
      refine gx_iald C (mh_oai hH g803) dL_law_2292 ?_
      refine gx_aload_n C dL_law_2293 0 rfl ?_
      refine gx_iload C dL_law_2294 4 rfl ?_
      refine gx_iconst (v := 3) C dL_law_2296 rfl ?_
      refine gx_iadd C dL_law_2297 ?_
      replace hf := gx_bs hf
      obtain ⟨x781, g802, hf⟩ := hf
      refine gx_iald C (mh_oai hH g802) dL_law_2298 ?_
      refine gx_aload_n C dL_law_2299 3 rfl ?_
      replace hf := gx_b2s hf
      obtain ⟨x783, h784, g782, hf⟩ := hf
      refine gx_xcallSW (st := []) C ((w_X0_addAlways hlt g782).over hH) (lw_SW q2548 q2549 q120 q2550) gz_742 (by decide) rfl rfl (gx_catn (Nat.le_of_ble_eq_true rfl)) dL_law_2300 (gx_k2l ?_)
      have hH := hH.le (le_X0_addAlways g782)
      refine gx_ist C dL_law_2303 (by decide) [0, 1, 2, 3, 4]  rfl (gx_okn rfl rfl (gx_okn rfl rfl (gx_okn rfl rfl (gx_okn rfl rfl (gx_okr rfl gx_catv_i gx_ok0))))) ?_
      refine gx_aload_n C dL_law_2305 3 rfl ?_
      refine gx_aload_n C dL_law_2306 1 rfl ?_
      refine gx_iload C dL_law_2307 5 rfl ?_
      refine gx_iconst (v := 1) C dL_law_2309 rfl ?_
      refine gx_iadd C dL_law_2310 ?_
      replace hf := gx_bs hf
      obtain ⟨x785, g801, hf⟩ := hf
      refine gx_iald C (mh_oai hH g801) dL_law_2311 ?_
      refine gx_aload_n C dL_law_2312 1 rfl ?_
      refine gx_iload C dL_law_2313 5 rfl ?_
      refine gx_iconst (v := 2) C dL_law_2315 rfl ?_
      refine gx_iadd C dL_law_2316 ?_
      replace hf := gx_bs hf
      obtain ⟨x786, g800, hf⟩ := hf
      refine gx_iald C (mh_oai hH g800) dL_law_2317 ?_
      refine gx_aload_n C dL_law_2318 1 rfl ?_
      refine gx_iload C dL_law_2319 5 rfl ?_
      refine gx_iconst (v := 3) C dL_law_2321 rfl ?_
      refine gx_iadd C dL_law_2322 ?_
      replace hf := gx_bs hf
      obtain ⟨x787, g799, hf⟩ := hf
      refine gx_iald C (mh_oai hH g799) dL_law_2323 ?_
      replace hf := gx_b2s hf
      obtain ⟨x789, h790, g788, hf⟩ := hf
      refine gx_callV (st := []) C (w_X9_addAlways hlt g788) mh_is gz_497 rfl (lw_V q3224 q3225 q3226 q151 q3227) gz_741 (by decide) rfl rfl (gx_catn (Nat.le_of_ble_eq_true rfl)) dL_law_2324 ?_
      refine gx_ist C dL_law_2327 (by decide) [0, 1, 2, 3, 4, 5]  rfl (gx_okr rfl gx_catv_i (gx_okn rfl rfl (gx_okn rfl rfl (gx_okn rfl rfl (gx_okn rfl rfl (gx_okn rfl rfl gx_ok0)))))) ?_
      refine gx_aload_n C dL_law_2329 4 rfl ?_
      replace hf := gx_bs hf
      obtain ⟨x792, g791, hf⟩ := hf
      refine gx_callV (st := []) C (w_X9_thrown hlt g791) mh_is gz_497 rfl (lw_V q2729 q2730 q2731 q151 q2732) gz_658 (by decide) rfl rfl (gx_catn (Nat.le_of_ble_eq_true rfl)) dL_law_2330 ?_
      refine gx_iload C dL_law_2333 1 rfl ?_
      replace hf := gx_ite hf
      rcases hf with ⟨c793, hf⟩ | ⟨c793, hf⟩
      · refine gx_icmp_eq_t (tgt := 2340) C dL_law_2335 rfl c793 ?_
        refine gx_iload C dL_law_2340 1 rfl ?_
        replace hf := gx_ite hf
        rcases hf with ⟨c794, hf⟩ | ⟨c794, hf⟩
        · refine gx_if_ne_f (tgt := 2357) C dL_law_2342 rfl c794 ?_
          refine gx_aload_n C dL_law_2345 5 rfl ?_
          refine gx_iconst (v := 0) C dL_law_2346 rfl ?_
          replace hf := gx_bs hf
          obtain ⟨a795, rfl, hf⟩ := hf
          replace hf := gx_bs hf
          obtain ⟨x796, g798, hf⟩ := hf
          refine gx_lald C (mh_oal hH g798) dL_law_2347 ?_
          refine gx_iload C dL_law_2348 0 rfl ?_
          refine gx_i2l C dL_law_2350 ?_
          refine gx_lcmp C dL_law_2351 ?_
          replace hf := gx_ite hf
          rcases hf with ⟨c797, hf⟩ | ⟨c797, hf⟩
          · refine gx_if_eq_t (tgt := 2357) C dL_law_2352 rfl c797 ?_
            refine gx_sub [2, 3, 4, 5, 6] rfl ?_
            exact w_L_law_b2357 hlt C hx wk23 hf hH
          · refine gx_if_eq_f (tgt := 2357) C dL_law_2352 rfl c797 ?_
            refine gx_iconst (v := 0) C dL_law_2355 rfl ?_
            obtain ⟨rfl, rfl⟩ := Prod.mk.inj (Option.some.inj hf)
            exact gx_zret (b := false) C dL_law_2356
        · refine gx_if_ne_t (tgt := 2357) C dL_law_2342 rfl c794 ?_
          refine gx_sub [2, 3, 4, 5, 6] rfl ?_
          exact w_L_law_b2357 hlt C hx wk23 hf hH
      · refine gx_icmp_eq_f (tgt := 2340) C dL_law_2335 rfl c793 ?_
        refine gx_iconst (v := 0) C dL_law_2338 rfl ?_
        obtain ⟨rfl, rfl⟩ := Prod.mk.inj (Option.some.inj hf)
        exact gx_zret (b := false) C dL_law_2339
    replace hf := gx_ite hf
    rcases hf with ⟨c805, hf⟩ | ⟨c805, hf⟩
    · refine gx_tswIn (tgt := 2360) C dL_law_40 (by rw [c805]; decide) (by rw [c805]; decide) (off := 2320) (by rw [c805]; rfl) rfl ?_
      refine gx_aload_n C dL_law_2360 1 rfl ?_
      refine gx_aload_n C dL_law_2361 3 rfl ?_
      replace hf := gx_b2s hf
      obtain ⟨x807, h808, g806, hf⟩ := hf
      refine gx_xcallSW (st := []) C ((w_X0_undo hlt g806).over hH) (lw_SW q2561 q2562 q120 q2563) gz_744 (by decide) rfl rfl (gx_catn (Nat.le_of_ble_eq_true rfl)) dL_law_2362 (gx_k2l ?_)
      have hH := hH.le (le_X0_undo g806)
      refine gx_ist C dL_law_2365 (by decide) [0, 1, 2, 3, 4]  rfl (gx_okn rfl rfl (gx_okn rfl rfl (gx_okn rfl rfl (gx_okn rfl rfl (gx_okr rfl gx_catv_i gx_ok0))))) ?_
      refine gx_aload_n C dL_law_2367 3 rfl ?_
      replace hf := gx_b2s hf
      obtain ⟨x810, h811, g809, hf⟩ := hf
      refine gx_callV (st := []) C (w_X9_undo hlt g809) mh_is gz_497 rfl (lw_V q3232 q3233 q3234 q151 q3235) gz_743 (by decide) rfl rfl (gx_catn (Nat.le_of_ble_eq_true rfl)) dL_law_2368 ?_
      refine gx_ist C dL_law_2371 (by decide) [0, 1, 2, 3, 4, 5]  rfl (gx_okr rfl gx_catv_i (gx_okn rfl rfl (gx_okn rfl rfl (gx_okn rfl rfl (gx_okn rfl rfl (gx_okn rfl rfl gx_ok0)))))) ?_
      refine gx_aload_n C dL_law_2373 4 rfl ?_
      replace hf := gx_bs hf
      obtain ⟨x813, g812, hf⟩ := hf
      refine gx_callV (st := []) C (w_X9_thrown hlt g812) mh_is gz_497 rfl (lw_V q2729 q2730 q2731 q151 q2732) gz_658 (by decide) rfl rfl (gx_catn (Nat.le_of_ble_eq_true rfl)) dL_law_2374 ?_
      refine gx_iload C dL_law_2377 1 rfl ?_
      replace hf := gx_ite hf
      rcases hf with ⟨c814, hf⟩ | ⟨c814, hf⟩
      · refine gx_icmp_eq_t (tgt := 2384) C dL_law_2379 rfl c814 ?_
        refine gx_iload C dL_law_2384 1 rfl ?_
        replace hf := gx_ite hf
        rcases hf with ⟨c815, hf⟩ | ⟨c815, hf⟩
        · refine gx_if_ne_f (tgt := 2401) C dL_law_2386 rfl c815 ?_
          refine gx_aload_n C dL_law_2389 5 rfl ?_
          refine gx_iconst (v := 0) C dL_law_2390 rfl ?_
          replace hf := gx_bs hf
          obtain ⟨a816, rfl, hf⟩ := hf
          replace hf := gx_bs hf
          obtain ⟨x817, g819, hf⟩ := hf
          refine gx_lald C (mh_oal hH g819) dL_law_2391 ?_
          refine gx_iload C dL_law_2392 0 rfl ?_
          refine gx_i2l C dL_law_2394 ?_
          refine gx_lcmp C dL_law_2395 ?_
          replace hf := gx_ite hf
          rcases hf with ⟨c818, hf⟩ | ⟨c818, hf⟩
          · refine gx_if_eq_t (tgt := 2401) C dL_law_2396 rfl c818 ?_
            refine gx_sub [2, 3, 4, 5, 6] rfl ?_
            exact w_L_law_b2401 hlt C hx wk23 hf hH
          · refine gx_if_eq_f (tgt := 2401) C dL_law_2396 rfl c818 ?_
            refine gx_iconst (v := 0) C dL_law_2399 rfl ?_
            obtain ⟨rfl, rfl⟩ := Prod.mk.inj (Option.some.inj hf)
            exact gx_zret (b := false) C dL_law_2400
        · refine gx_if_ne_t (tgt := 2401) C dL_law_2386 rfl c815 ?_
          refine gx_sub [2, 3, 4, 5, 6] rfl ?_
          exact w_L_law_b2401 hlt C hx wk23 hf hH
      · refine gx_icmp_eq_f (tgt := 2384) C dL_law_2379 rfl c814 ?_
        refine gx_iconst (v := 0) C dL_law_2382 rfl ?_
        obtain ⟨rfl, rfl⟩ := Prod.mk.inj (Option.some.inj hf)
        exact gx_zret (b := false) C dL_law_2383
    replace hf := gx_ite hf
    rcases hf with ⟨c820, hf⟩ | ⟨c820, hf⟩
    · refine gx_tswIn (tgt := 2404) C dL_law_40 (by rw [c820]; decide) (by rw [c820]; decide) (off := 2364) (by rw [c820]; rfl) rfl ?_
      refine gx_aload_n C dL_law_2404 1 rfl ?_
      replace hf := gx_bs hf
      obtain ⟨a821, rfl, hf⟩ := hf
      replace hf := gx_b2s hf
      obtain ⟨x823, h824, g822, hf⟩ := hf
      refine gx_callV (st := []) C ((w_X1_writeConfiguration hlt g822).over hH) (mh_ois hH (is_X1_writeConfiguration g822)) gz_108 rfl (lw_V q2161 q2162 q2163 q121 q2164) gz_745 (by decide) rfl rfl (gx_catn (Nat.le_of_ble_eq_true rfl)) dL_law_2405 ?_
      have hH := hH.le (le_X1_writeConfiguration g822)
      refine gx_aload_n C dL_law_2408 2 rfl ?_
      replace hf := gx_b2s hf
      obtain ⟨x826, h827, g825, hf⟩ := hf
      refine gx_callV (st := [(.int x823)]) C (w_X9_writeConfiguration hlt g825) mh_is gz_497 rfl (lw_V q3236 q3237 q3238 q151 q3239) gz_746 (by decide) rfl rfl (gx_catn (Nat.le_of_ble_eq_true rfl)) dL_law_2409 ?_
      replace hf := gx_ite hf
      rcases hf with ⟨c828, hf⟩ | ⟨c828, hf⟩
      · refine gx_icmp_eq_t (tgt := 2499) C dL_law_2412 rfl c828 ?_
        refine gx_sub [0, 1, 2, 3, 4] rfl ?_
        exact w_L_law_b2499 hlt C hx wk23 hf hH
      · refine gx_icmp_eq_f (tgt := 2499) C dL_law_2412 rfl c828 ?_
        refine gx_iconst (v := 0) C dL_law_2415 rfl ?_
        obtain ⟨rfl, rfl⟩ := Prod.mk.inj (Option.some.inj hf)
        exact gx_zret (b := false) C dL_law_2416
    replace hf := gx_ite hf
    rcases hf with ⟨c829, hf⟩ | ⟨c829, hf⟩
    · refine gx_tswIn (tgt := 2417) C dL_law_40 (by rw [c829]; decide) (by rw [c829]; decide) (off := 2377) (by rw [c829]; rfl) rfl ?_
      refine gx_aload_n C dL_law_2417 1 rfl ?_
      refine gx_aload_n C dL_law_2418 0 rfl ?_
      refine gx_iload C dL_law_2419 4 rfl ?_
      refine gx_iconst (v := 1) C dL_law_2421 rfl ?_
      refine gx_iadd C dL_law_2422 ?_
      replace hf := gx_bs hf
      obtain ⟨x830, g840, hf⟩ := hf
      refine gx_iald C (mh_oai hH g840) dL_law_2423 ?_
      replace hf := gx_bs hf
      obtain ⟨a831, rfl, hf⟩ := hf
      replace hf := gx_bs hf
      obtain ⟨x833, g832, hf⟩ := hf
      refine gx_callV (st := []) C ((w_X1_outputByte hlt g832).over hH) (mh_ois hH (is_X1_outputByte g832)) gz_108 rfl (lw_V q2237 q2238 q2239 q121 q2240) gz_747 (by decide) rfl rfl (gx_catn (Nat.le_of_ble_eq_true rfl)) dL_law_2424 ?_
      refine gx_aload_n C dL_law_2427 2 rfl ?_
      refine gx_aload_n C dL_law_2428 0 rfl ?_
      refine gx_iload C dL_law_2429 4 rfl ?_
      refine gx_iconst (v := 1) C dL_law_2431 rfl ?_
      refine gx_iadd C dL_law_2432 ?_
      replace hf := gx_bs hf
      obtain ⟨x834, g839, hf⟩ := hf
      refine gx_iald C (mh_oai hH g839) dL_law_2433 ?_
      replace hf := gx_b2s hf
      obtain ⟨x836, h837, g835, hf⟩ := hf
      refine gx_callV (st := [(.int x833)]) C (w_X9_outputByte hlt g835) mh_is gz_497 rfl (lw_V q3248 q3249 q3250 q151 q3251) gz_748 (by decide) rfl rfl (gx_catn (Nat.le_of_ble_eq_true rfl)) dL_law_2434 ?_
      replace hf := gx_ite hf
      rcases hf with ⟨c838, hf⟩ | ⟨c838, hf⟩
      · refine gx_icmp_eq_t (tgt := 2499) C dL_law_2437 rfl c838 ?_
        refine gx_sub [0, 1, 2, 3, 4] rfl ?_
        exact w_L_law_b2499 hlt C hx wk23 hf hH
      · refine gx_icmp_eq_f (tgt := 2499) C dL_law_2437 rfl c838 ?_
        refine gx_iconst (v := 0) C dL_law_2440 rfl ?_
        obtain ⟨rfl, rfl⟩ := Prod.mk.inj (Option.some.inj hf)
        exact gx_zret (b := false) C dL_law_2441
    replace hf := gx_ite hf
    rcases hf with ⟨c841, hf⟩ | ⟨c841, hf⟩
    · refine gx_tswIn (tgt := 2442) C dL_law_40 (by rw [c841]; decide) (by rw [c841]; decide) (off := 2402) (by rw [c841]; rfl) rfl ?_
      refine gx_aload_n C dL_law_2442 1 rfl ?_
      replace hf := gx_bs hf
      obtain ⟨a842, rfl, hf⟩ := hf
      replace hf := gx_b2s hf
      obtain ⟨x844, h845, g843, hf⟩ := hf
      refine gx_callV (st := []) C ((w_X1_saveState hlt g843).over hH) (mh_ois hH (is_X1_saveState g843)) gz_108 rfl (lw_V q2251 q2252 q2253 q121 q2254) gz_749 (by decide) rfl rfl (gx_catn (Nat.le_of_ble_eq_true rfl)) dL_law_2443 ?_
      have hH := hH.le (le_X1_saveState g843)
      refine gx_aload_n C dL_law_2446 2 rfl ?_
      replace hf := gx_b2s hf
      obtain ⟨x847, h848, g846, hf⟩ := hf
      refine gx_callV (st := [(.int x844)]) C (w_X9_saveState hlt g846) mh_is gz_497 rfl (lw_V q3252 q3253 q3254 q151 q3255) gz_750 (by decide) rfl rfl (gx_catn (Nat.le_of_ble_eq_true rfl)) dL_law_2447 ?_
      replace hf := gx_ite hf
      rcases hf with ⟨c849, hf⟩ | ⟨c849, hf⟩
      · refine gx_icmp_eq_t (tgt := 2499) C dL_law_2450 rfl c849 ?_
        refine gx_sub [0, 1, 2, 3, 4] rfl ?_
        exact w_L_law_b2499 hlt C hx wk23 hf hH
      · refine gx_icmp_eq_f (tgt := 2499) C dL_law_2450 rfl c849 ?_
        refine gx_iconst (v := 0) C dL_law_2453 rfl ?_
        obtain ⟨rfl, rfl⟩ := Prod.mk.inj (Option.some.inj hf)
        exact gx_zret (b := false) C dL_law_2454
    replace hf := gx_ite hf
    rcases hf with ⟨c850, hf⟩ | ⟨c850, hf⟩
    · refine gx_tswIn (tgt := 2455) C dL_law_40 (by rw [c850]; decide) (by rw [c850]; decide) (off := 2415) (by rw [c850]; rfl) rfl ?_
      refine gx_aload_n C dL_law_2455 1 rfl ?_
      refine gx_aload_n C dL_law_2456 3 rfl ?_
      replace hf := gx_b2s hf
      obtain ⟨x852, h853, g851, hf⟩ := hf
      refine gx_xcallSW (st := []) C ((w_X0_restoreState hlt g851).over hH) (lw_SW q2589 q2590 q120 q2591) gz_752 (by decide) rfl rfl (gx_catn (Nat.le_of_ble_eq_true rfl)) dL_law_2457 (gx_k2l ?_)
      have hH := hH.le (le_X0_restoreState g851)
      refine gx_ist C dL_law_2460 (by decide) [0, 1, 2, 3, 4]  rfl (gx_okn rfl rfl (gx_okn rfl rfl (gx_okn rfl rfl (gx_okn rfl rfl (gx_okr rfl gx_catv_i gx_ok0))))) ?_
      refine gx_aload_n C dL_law_2462 3 rfl ?_
      replace hf := gx_b2s hf
      obtain ⟨x855, h856, g854, hf⟩ := hf
      refine gx_callV (st := []) C (w_X9_restoreState hlt g854) mh_is gz_497 rfl (lw_V q3256 q3257 q3258 q151 q3259) gz_751 (by decide) rfl rfl (gx_catn (Nat.le_of_ble_eq_true rfl)) dL_law_2463 ?_
      refine gx_ist C dL_law_2466 (by decide) [0, 1, 2, 3, 4, 5]  rfl (gx_okr rfl gx_catv_i (gx_okn rfl rfl (gx_okn rfl rfl (gx_okn rfl rfl (gx_okn rfl rfl (gx_okn rfl rfl gx_ok0)))))) ?_
      refine gx_aload_n C dL_law_2468 4 rfl ?_
      replace hf := gx_bs hf
      obtain ⟨x858, g857, hf⟩ := hf
      refine gx_callV (st := []) C (w_X9_thrown hlt g857) mh_is gz_497 rfl (lw_V q2729 q2730 q2731 q151 q2732) gz_658 (by decide) rfl rfl (gx_catn (Nat.le_of_ble_eq_true rfl)) dL_law_2469 ?_
      refine gx_iload C dL_law_2472 1 rfl ?_
      replace hf := gx_ite hf
      rcases hf with ⟨c859, hf⟩ | ⟨c859, hf⟩
      · refine gx_icmp_eq_t (tgt := 2479) C dL_law_2474 rfl c859 ?_
        refine gx_iload C dL_law_2479 1 rfl ?_
        replace hf := gx_ite hf
        rcases hf with ⟨c860, hf⟩ | ⟨c860, hf⟩
        · refine gx_if_ne_f (tgt := 2496) C dL_law_2481 rfl c860 ?_
          refine gx_aload_n C dL_law_2484 5 rfl ?_
          refine gx_iconst (v := 0) C dL_law_2485 rfl ?_
          replace hf := gx_bs hf
          obtain ⟨a861, rfl, hf⟩ := hf
          replace hf := gx_bs hf
          obtain ⟨x862, g864, hf⟩ := hf
          refine gx_lald C (mh_oal hH g864) dL_law_2486 ?_
          refine gx_iload C dL_law_2487 0 rfl ?_
          refine gx_i2l C dL_law_2489 ?_
          refine gx_lcmp C dL_law_2490 ?_
          replace hf := gx_ite hf
          rcases hf with ⟨c863, hf⟩ | ⟨c863, hf⟩
          · refine gx_if_eq_t (tgt := 2496) C dL_law_2491 rfl c863 ?_
            refine gx_sub [2, 3, 4, 5, 6] rfl ?_
            exact w_L_law_b2496 hlt C hx wk23 hf hH
          · refine gx_if_eq_f (tgt := 2496) C dL_law_2491 rfl c863 ?_
            refine gx_iconst (v := 0) C dL_law_2494 rfl ?_
            obtain ⟨rfl, rfl⟩ := Prod.mk.inj (Option.some.inj hf)
            exact gx_zret (b := false) C dL_law_2495
        · refine gx_if_ne_t (tgt := 2496) C dL_law_2481 rfl c860 ?_
          refine gx_sub [2, 3, 4, 5, 6] rfl ?_
          exact w_L_law_b2496 hlt C hx wk23 hf hH
      · refine gx_icmp_eq_f (tgt := 2479) C dL_law_2474 rfl c859 ?_
        refine gx_iconst (v := 0) C dL_law_2477 rfl ?_
        obtain ⟨rfl, rfl⟩ := Prod.mk.inj (Option.some.inj hf)
        exact gx_zret (b := false) C dL_law_2478
    replace hf := gx_ite hf
    rcases hf with ⟨c865, hf⟩ | ⟨c865, hf⟩
    rotate_left
    · cases hf
    refine gx_tswOut (tgt := 2499) C dL_law_40 (gx_tout c865) rfl ?_
    refine gx_sub [0, 1, 2, 3, 4] rfl ?_
    exact w_L_law_b2499 hlt C hx wk23 hf hH
theorem w_L_law_b23 {l : Launch} (hlt : l.stackTraces = false) {p : Program} {e : Env} {R : Room} {s : State} {m : MethodId} {args : Array Value} {below : List Frame} {meth : Method} {c : Code} {D : gx_D} {h0 : HX} {r : Bool} {hz : HX} (C : gx_Ctx p R s m args meth c "ContractMachineLaw" cL_law 9 (some .boolean) 17 396 D h0 hz) (hx : meth.name = "law") {o : Nat}  : ∀ (n : Nat) ⦃h : (HX × MS)⦄ ⦃v0 : Option Nat⦄ ⦃v1 : Option Nat⦄ ⦃v3 : Option Nat⦄ ⦃v4 : Int32⦄, f_L_law_b23 D o n h v0 v1 v3 v4 = some (r, hz) → mh_hole h.1 o → gx_G p l e R s m args below meth c D h0 hz 9 (gx_MQ below args s D h0 hz (some (.int (b2i r)))) 23 [(0, (va_rf v0)), (1, (va_rf v1)), (2, (va_rf (some o))), (3, (va_rf v3)), (4, (.int v4))] [] (mh h.1 o h.2) := by
  intro n
  induction n with
  | zero => intro h v0 v1 v3 v4 hf hH; unfold f_L_law_b23 at hf; cases hf
  | succ n wk23 =>
    intro h v0 v1 v3 v4 hf hH
    unfold f_L_law_b23 at hf
    refine gx_frz (P := law_P h.1 o v1 v3) ?_
    rw [law_fz_mh]
    exact w_L_law_it hlt C hx wk23 hf (law_hole hH)
theorem le_L_law_it {D : gx_D} {o : Nat} {r : Bool} {hz : HX} {k23 : (HX × MS) → Option Nat → Option Nat → Option Nat → Int32 → Option ((Bool) × HX)} (lek23 : ∀ ⦃h : (HX × MS)⦄ ⦃v0 : Option Nat⦄ ⦃v1 : Option Nat⦄ ⦃v3 : Option Nat⦄ ⦃v4 : Int32⦄, k23 h v0 v1 v3 v4 = some (r, hz) → mh_hole h.1 o → gx_le (mh h.1 o h.2) hz) {h : (HX × MS)} {v0 : Option Nat} {v1 : Option Nat} {v3 : Option Nat} {v4 : Int32} (hf : f_L_law_it D o k23 h v0 v1 v3 v4 = some (r, hz)) (hH : mh_hole h.1 o) : gx_le (mh h.1 o h.2) hz := by
  unfold f_L_law_it at hf
  replace hf := gx_bs hf
  obtain ⟨a13, rfl, hf⟩ := hf
  replace hf := gx_bs hf
  obtain ⟨x14, g867, hf⟩ := hf
  replace hf := gx_ite hf
  rcases hf with ⟨c15, hf⟩ | ⟨c15, hf⟩
  · obtain ⟨rfl, rfl⟩ := Prod.mk.inj (Option.some.inj hf)
    exact gx_le.rf
  · replace hf := gx_bs hf
    obtain ⟨x16, g866, hf⟩ := hf
    replace hf := gx_ite hf
    rcases hf with ⟨c17, hf⟩ | ⟨c17, hf⟩
    · replace hf := gx_bs hf
      obtain ⟨x18, g45, hf⟩ := hf
      replace hf := gx_bs hf
      obtain ⟨x19, g44, hf⟩ := hf
      replace hf := gx_bs hf
      obtain ⟨x20, g43, hf⟩ := hf
      replace hf := gx_bs hf
      obtain ⟨x21, g42, hf⟩ := hf
      replace hf := gx_bs hf
      obtain ⟨x22, g41, hf⟩ := hf
      replace hf := gx_bs hf
      obtain ⟨a23, rfl, hf⟩ := hf
      replace hf := gx_b2s hf
      obtain ⟨x25, h26, g24, hf⟩ := hf
      refine (mh_ole hH (le_X1_appendInput g24)).tr ?_
      have hH := hH.le (le_X1_appendInput g24)
      replace hf := gx_bs hf
      obtain ⟨x27, g40, hf⟩ := hf
      replace hf := gx_bs hf
      obtain ⟨x28, g39, hf⟩ := hf
      replace hf := gx_bs hf
      obtain ⟨x29, g38, hf⟩ := hf
      replace hf := gx_bs hf
      obtain ⟨x30, g37, hf⟩ := hf
      replace hf := gx_bs hf
      obtain ⟨x31, g36, hf⟩ := hf
      replace hf := gx_b2s hf
      obtain ⟨x33, h34, g32, hf⟩ := hf
      refine (mh_le (s1 := h34)).tr ?_
      replace hf := gx_ite hf
      rcases hf with ⟨c35, hf⟩ | ⟨c35, hf⟩
      · exact le_L_law_b2499 lek23 hf hH
      · obtain ⟨rfl, rfl⟩ := Prod.mk.inj (Option.some.inj hf)
        exact gx_le.rf
    replace hf := gx_ite hf
    rcases hf with ⟨c46, hf⟩ | ⟨c46, hf⟩
    · replace hf := gx_bs hf
      obtain ⟨x47, g58, hf⟩ := hf
      replace hf := gx_bs hf
      obtain ⟨a48, rfl, hf⟩ := hf
      replace hf := gx_b2s hf
      obtain ⟨b50, h51, g49, hf⟩ := hf
      refine (mh_ole hH (le_X1_truncateInput g49)).tr ?_
      have hH := hH.le (le_X1_truncateInput g49)
      replace hf := gx_bs hf
      obtain ⟨x52, g57, hf⟩ := hf
      replace hf := gx_b2s hf
      obtain ⟨b54, h55, g53, hf⟩ := hf
      refine (mh_le (s1 := h55)).tr ?_
      replace hf := gx_ite hf
      rcases hf with ⟨c56, hf⟩ | ⟨c56, hf⟩
      · exact le_L_law_b2499 lek23 hf hH
      · obtain ⟨rfl, rfl⟩ := Prod.mk.inj (Option.some.inj hf)
        exact gx_le.rf
    replace hf := gx_ite hf
    rcases hf with ⟨c59, hf⟩ | ⟨c59, hf⟩
    · replace hf := gx_bs hf
      obtain ⟨a60, rfl, hf⟩ := hf
      replace hf := gx_b2s hf
      obtain ⟨x62, h63, g61, hf⟩ := hf
      refine (mh_ole hH (le_X1_loadMachine g61)).tr ?_
      have hH := hH.le (le_X1_loadMachine g61)
      replace hf := gx_b2s hf
      obtain ⟨x65, h66, g64, hf⟩ := hf
      refine (mh_le (s1 := h66)).tr ?_
      replace hf := gx_ite hf
      rcases hf with ⟨c67, hf⟩ | ⟨c67, hf⟩
      · exact le_L_law_b2499 lek23 hf hH
      · obtain ⟨rfl, rfl⟩ := Prod.mk.inj (Option.some.inj hf)
        exact gx_le.rf
    replace hf := gx_ite hf
    rcases hf with ⟨c68, hf⟩ | ⟨c68, hf⟩
    · replace hf := gx_bs hf
      obtain ⟨a69, rfl, hf⟩ := hf
      replace hf := gx_b2s hf
      obtain ⟨x71, h72, g70, hf⟩ := hf
      refine (mh_ole hH (le_X1_runScript g70)).tr ?_
      have hH := hH.le (le_X1_runScript g70)
      replace hf := gx_b2s hf
      obtain ⟨x74, h75, g73, hf⟩ := hf
      refine (mh_le (s1 := h75)).tr ?_
      replace hf := gx_ite hf
      rcases hf with ⟨c76, hf⟩ | ⟨c76, hf⟩
      · exact le_L_law_b2499 lek23 hf hH
      · obtain ⟨rfl, rfl⟩ := Prod.mk.inj (Option.some.inj hf)
        exact gx_le.rf
    replace hf := gx_ite hf
    rcases hf with ⟨c77, hf⟩ | ⟨c77, hf⟩
    · replace hf := gx_bs hf
      obtain ⟨a78, rfl, hf⟩ := hf
      replace hf := gx_bs hf
      obtain ⟨x80, g79, hf⟩ := hf
      replace hf := gx_b2s hf
      obtain ⟨x82, h83, g81, hf⟩ := hf
      refine (mh_le (s1 := h83)).tr ?_
      replace hf := gx_ite hf
      rcases hf with ⟨c84, hf⟩ | ⟨c84, hf⟩
      · exact le_L_law_b2499 lek23 hf hH
      · obtain ⟨rfl, rfl⟩ := Prod.mk.inj (Option.some.inj hf)
        exact gx_le.rf
    replace hf := gx_ite hf
    rcases hf with ⟨c85, hf⟩ | ⟨c85, hf⟩
    · replace hf := gx_bs hf
      obtain ⟨a86, rfl, hf⟩ := hf
      replace hf := gx_bs hf
      obtain ⟨x88, g87, hf⟩ := hf
      replace hf := gx_b2s hf
      obtain ⟨x90, h91, g89, hf⟩ := hf
      refine (mh_le (s1 := h91)).tr ?_
      replace hf := gx_ite hf
      rcases hf with ⟨c92, hf⟩ | ⟨c92, hf⟩
      · exact le_L_law_b2499 lek23 hf hH
      · obtain ⟨rfl, rfl⟩ := Prod.mk.inj (Option.some.inj hf)
        exact gx_le.rf
    replace hf := gx_ite hf
    rcases hf with ⟨c93, hf⟩ | ⟨c93, hf⟩
    · replace hf := gx_bs hf
      obtain ⟨a94, rfl, hf⟩ := hf
      replace hf := gx_bs hf
      obtain ⟨x96, g95, hf⟩ := hf
      replace hf := gx_b2s hf
      obtain ⟨x98, h99, g97, hf⟩ := hf
      refine (mh_le (s1 := h99)).tr ?_
      replace hf := gx_ite hf
      rcases hf with ⟨c100, hf⟩ | ⟨c100, hf⟩
      · exact le_L_law_b2499 lek23 hf hH
      · obtain ⟨rfl, rfl⟩ := Prod.mk.inj (Option.some.inj hf)
        exact gx_le.rf
    replace hf := gx_ite hf
    rcases hf with ⟨c101, hf⟩ | ⟨c101, hf⟩
    · replace hf := gx_bs hf
      obtain ⟨a102, rfl, hf⟩ := hf
      replace hf := gx_bs hf
      obtain ⟨x104, g103, hf⟩ := hf
      replace hf := gx_b2s hf
      obtain ⟨x106, h107, g105, hf⟩ := hf
      refine (mh_le (s1 := h107)).tr ?_
      replace hf := gx_ite hf
      rcases hf with ⟨c108, hf⟩ | ⟨c108, hf⟩
      · exact le_L_law_b2499 lek23 hf hH
      · obtain ⟨rfl, rfl⟩ := Prod.mk.inj (Option.some.inj hf)
        exact gx_le.rf
    replace hf := gx_ite hf
    rcases hf with ⟨c109, hf⟩ | ⟨c109, hf⟩
    · replace hf := gx_bs hf
      obtain ⟨a110, rfl, hf⟩ := hf
      replace hf := gx_bs hf
      obtain ⟨x112, g111, hf⟩ := hf
      replace hf := gx_b2s hf
      obtain ⟨x114, h115, g113, hf⟩ := hf
      refine (mh_le (s1 := h115)).tr ?_
      replace hf := gx_ite hf
      rcases hf with ⟨c116, hf⟩ | ⟨c116, hf⟩
      · exact le_L_law_b2499 lek23 hf hH
      · obtain ⟨rfl, rfl⟩ := Prod.mk.inj (Option.some.inj hf)
        exact gx_le.rf
    replace hf := gx_ite hf
    rcases hf with ⟨c117, hf⟩ | ⟨c117, hf⟩
    · replace hf := gx_bs hf
      obtain ⟨a118, rfl, hf⟩ := hf
      replace hf := gx_bs hf
      obtain ⟨x120, g119, hf⟩ := hf
      replace hf := gx_b2s hf
      obtain ⟨x122, h123, g121, hf⟩ := hf
      refine (mh_le (s1 := h123)).tr ?_
      replace hf := gx_ite hf
      rcases hf with ⟨c124, hf⟩ | ⟨c124, hf⟩
      · exact le_L_law_b2499 lek23 hf hH
      · obtain ⟨rfl, rfl⟩ := Prod.mk.inj (Option.some.inj hf)
        exact gx_le.rf
    replace hf := gx_ite hf
    rcases hf with ⟨c125, hf⟩ | ⟨c125, hf⟩
    · replace hf := gx_bs hf
      obtain ⟨a126, rfl, hf⟩ := hf
      replace hf := gx_bs hf
      obtain ⟨x128, g127, hf⟩ := hf
      replace hf := gx_b2s hf
      obtain ⟨x130, h131, g129, hf⟩ := hf
      refine (mh_le (s1 := h131)).tr ?_
      replace hf := gx_ite hf
      rcases hf with ⟨c132, hf⟩ | ⟨c132, hf⟩
      · exact le_L_law_b2499 lek23 hf hH
      · obtain ⟨rfl, rfl⟩ := Prod.mk.inj (Option.some.inj hf)
        exact gx_le.rf
    replace hf := gx_ite hf
    rcases hf with ⟨c133, hf⟩ | ⟨c133, hf⟩
    · replace hf := gx_bs hf
      obtain ⟨x134, g155, hf⟩ := hf
      replace hf := gx_bs hf
      obtain ⟨x135, g154, hf⟩ := hf
      replace hf := gx_b2s hf
      obtain ⟨x137, h138, g136, hf⟩ := hf
      refine (mh_ole hH (le_X0_stateNameByte g136)).tr ?_
      have hH := hH.le (le_X0_stateNameByte g136)
      replace hf := gx_bs hf
      obtain ⟨x139, g153, hf⟩ := hf
      replace hf := gx_bs hf
      obtain ⟨x140, g152, hf⟩ := hf
      replace hf := gx_b2s hf
      obtain ⟨x142, h143, g141, hf⟩ := hf
      refine (mh_le (s1 := h143)).tr ?_
      replace hf := gx_bs hf
      obtain ⟨x145, g144, hf⟩ := hf
      replace hf := gx_ite hf
      rcases hf with ⟨c146, hf⟩ | ⟨c146, hf⟩
      · replace hf := gx_ite hf
        rcases hf with ⟨c147, hf⟩ | ⟨c147, hf⟩
        · replace hf := gx_bs hf
          obtain ⟨a148, rfl, hf⟩ := hf
          replace hf := gx_bs hf
          obtain ⟨x149, g151, hf⟩ := hf
          replace hf := gx_ite hf
          rcases hf with ⟨c150, hf⟩ | ⟨c150, hf⟩
          · exact le_L_law_b572 lek23 hf hH
          · obtain ⟨rfl, rfl⟩ := Prod.mk.inj (Option.some.inj hf)
            exact gx_le.rf
        · exact le_L_law_b572 lek23 hf hH
      · obtain ⟨rfl, rfl⟩ := Prod.mk.inj (Option.some.inj hf)
        exact gx_le.rf
    replace hf := gx_ite hf
    rcases hf with ⟨c156, hf⟩ | ⟨c156, hf⟩
    · replace hf := gx_bs hf
      obtain ⟨x157, g178, hf⟩ := hf
      replace hf := gx_bs hf
      obtain ⟨x158, g177, hf⟩ := hf
      replace hf := gx_b2s hf
      obtain ⟨x160, h161, g159, hf⟩ := hf
      refine (mh_ole hH (le_X0_eventNameByte g159)).tr ?_
      have hH := hH.le (le_X0_eventNameByte g159)
      replace hf := gx_bs hf
      obtain ⟨x162, g176, hf⟩ := hf
      replace hf := gx_bs hf
      obtain ⟨x163, g175, hf⟩ := hf
      replace hf := gx_b2s hf
      obtain ⟨x165, h166, g164, hf⟩ := hf
      refine (mh_le (s1 := h166)).tr ?_
      replace hf := gx_bs hf
      obtain ⟨x168, g167, hf⟩ := hf
      replace hf := gx_ite hf
      rcases hf with ⟨c169, hf⟩ | ⟨c169, hf⟩
      · replace hf := gx_ite hf
        rcases hf with ⟨c170, hf⟩ | ⟨c170, hf⟩
        · replace hf := gx_bs hf
          obtain ⟨a171, rfl, hf⟩ := hf
          replace hf := gx_bs hf
          obtain ⟨x172, g174, hf⟩ := hf
          replace hf := gx_ite hf
          rcases hf with ⟨c173, hf⟩ | ⟨c173, hf⟩
          · exact le_L_law_b640 lek23 hf hH
          · obtain ⟨rfl, rfl⟩ := Prod.mk.inj (Option.some.inj hf)
            exact gx_le.rf
        · exact le_L_law_b640 lek23 hf hH
      · obtain ⟨rfl, rfl⟩ := Prod.mk.inj (Option.some.inj hf)
        exact gx_le.rf
    replace hf := gx_ite hf
    rcases hf with ⟨c179, hf⟩ | ⟨c179, hf⟩
    · replace hf := gx_bs hf
      obtain ⟨x180, g201, hf⟩ := hf
      replace hf := gx_bs hf
      obtain ⟨x181, g200, hf⟩ := hf
      replace hf := gx_b2s hf
      obtain ⟨x183, h184, g182, hf⟩ := hf
      refine (mh_ole hH (le_X0_variableNameByte g182)).tr ?_
      have hH := hH.le (le_X0_variableNameByte g182)
      replace hf := gx_bs hf
      obtain ⟨x185, g199, hf⟩ := hf
      replace hf := gx_bs hf
      obtain ⟨x186, g198, hf⟩ := hf
      replace hf := gx_b2s hf
      obtain ⟨x188, h189, g187, hf⟩ := hf
      refine (mh_le (s1 := h189)).tr ?_
      replace hf := gx_bs hf
      obtain ⟨x191, g190, hf⟩ := hf
      replace hf := gx_ite hf
      rcases hf with ⟨c192, hf⟩ | ⟨c192, hf⟩
      · replace hf := gx_ite hf
        rcases hf with ⟨c193, hf⟩ | ⟨c193, hf⟩
        · replace hf := gx_bs hf
          obtain ⟨a194, rfl, hf⟩ := hf
          replace hf := gx_bs hf
          obtain ⟨x195, g197, hf⟩ := hf
          replace hf := gx_ite hf
          rcases hf with ⟨c196, hf⟩ | ⟨c196, hf⟩
          · exact le_L_law_b708 lek23 hf hH
          · obtain ⟨rfl, rfl⟩ := Prod.mk.inj (Option.some.inj hf)
            exact gx_le.rf
        · exact le_L_law_b708 lek23 hf hH
      · obtain ⟨rfl, rfl⟩ := Prod.mk.inj (Option.some.inj hf)
        exact gx_le.rf
    replace hf := gx_ite hf
    rcases hf with ⟨c202, hf⟩ | ⟨c202, hf⟩
    · replace hf := gx_bs hf
      obtain ⟨a203, rfl, hf⟩ := hf
      replace hf := gx_bs hf
      obtain ⟨x205, g204, hf⟩ := hf
      replace hf := gx_b2s hf
      obtain ⟨x207, h208, g206, hf⟩ := hf
      refine (mh_le (s1 := h208)).tr ?_
      replace hf := gx_ite hf
      rcases hf with ⟨c209, hf⟩ | ⟨c209, hf⟩
      · exact le_L_law_b2499 lek23 hf hH
      · obtain ⟨rfl, rfl⟩ := Prod.mk.inj (Option.some.inj hf)
        exact gx_le.rf
    replace hf := gx_ite hf
    rcases hf with ⟨c210, hf⟩ | ⟨c210, hf⟩
    · replace hf := gx_bs hf
      obtain ⟨x211, g228, hf⟩ := hf
      replace hf := gx_b2s hf
      obtain ⟨x213, h214, g212, hf⟩ := hf
      refine (mh_ole hH (le_X0_valueOf g212)).tr ?_
      have hH := hH.le (le_X0_valueOf g212)
      replace hf := gx_bs hf
      obtain ⟨x215, g227, hf⟩ := hf
      replace hf := gx_b2s hf
      obtain ⟨x217, h218, g216, hf⟩ := hf
      refine (mh_le (s1 := h218)).tr ?_
      replace hf := gx_bs hf
      obtain ⟨x220, g219, hf⟩ := hf
      replace hf := gx_ite hf
      rcases hf with ⟨c221, hf⟩ | ⟨c221, hf⟩
      · replace hf := gx_ite hf
        rcases hf with ⟨c222, hf⟩ | ⟨c222, hf⟩
        · replace hf := gx_bs hf
          obtain ⟨a223, rfl, hf⟩ := hf
          replace hf := gx_bs hf
          obtain ⟨x224, g226, hf⟩ := hf
          replace hf := gx_ite hf
          rcases hf with ⟨c225, hf⟩ | ⟨c225, hf⟩
          · exact le_L_law_b777 lek23 hf hH
          · obtain ⟨rfl, rfl⟩ := Prod.mk.inj (Option.some.inj hf)
            exact gx_le.rf
        · exact le_L_law_b777 lek23 hf hH
      · obtain ⟨rfl, rfl⟩ := Prod.mk.inj (Option.some.inj hf)
        exact gx_le.rf
    replace hf := gx_ite hf
    rcases hf with ⟨c229, hf⟩ | ⟨c229, hf⟩
    · replace hf := gx_bs hf
      obtain ⟨x230, g247, hf⟩ := hf
      replace hf := gx_b2s hf
      obtain ⟨x232, h233, g231, hf⟩ := hf
      refine (mh_ole hH (le_X0_initialValueOf g231)).tr ?_
      have hH := hH.le (le_X0_initialValueOf g231)
      replace hf := gx_bs hf
      obtain ⟨x234, g246, hf⟩ := hf
      replace hf := gx_b2s hf
      obtain ⟨x236, h237, g235, hf⟩ := hf
      refine (mh_le (s1 := h237)).tr ?_
      replace hf := gx_bs hf
      obtain ⟨x239, g238, hf⟩ := hf
      replace hf := gx_ite hf
      rcases hf with ⟨c240, hf⟩ | ⟨c240, hf⟩
      · replace hf := gx_ite hf
        rcases hf with ⟨c241, hf⟩ | ⟨c241, hf⟩
        · replace hf := gx_bs hf
          obtain ⟨a242, rfl, hf⟩ := hf
          replace hf := gx_bs hf
          obtain ⟨x243, g245, hf⟩ := hf
          replace hf := gx_ite hf
          rcases hf with ⟨c244, hf⟩ | ⟨c244, hf⟩
          · exact le_L_law_b833 lek23 hf hH
          · obtain ⟨rfl, rfl⟩ := Prod.mk.inj (Option.some.inj hf)
            exact gx_le.rf
        · exact le_L_law_b833 lek23 hf hH
      · obtain ⟨rfl, rfl⟩ := Prod.mk.inj (Option.some.inj hf)
        exact gx_le.rf
    replace hf := gx_ite hf
    rcases hf with ⟨c248, hf⟩ | ⟨c248, hf⟩
    · replace hf := gx_bs hf
      obtain ⟨x249, g266, hf⟩ := hf
      replace hf := gx_b2s hf
      obtain ⟨x251, h252, g250, hf⟩ := hf
      refine (mh_ole hH (le_X0_sourceOf g250)).tr ?_
      have hH := hH.le (le_X0_sourceOf g250)
      replace hf := gx_bs hf
      obtain ⟨x253, g265, hf⟩ := hf
      replace hf := gx_b2s hf
      obtain ⟨x255, h256, g254, hf⟩ := hf
      refine (mh_le (s1 := h256)).tr ?_
      replace hf := gx_bs hf
      obtain ⟨x258, g257, hf⟩ := hf
      replace hf := gx_ite hf
      rcases hf with ⟨c259, hf⟩ | ⟨c259, hf⟩
      · replace hf := gx_ite hf
        rcases hf with ⟨c260, hf⟩ | ⟨c260, hf⟩
        · replace hf := gx_bs hf
          obtain ⟨a261, rfl, hf⟩ := hf
          replace hf := gx_bs hf
          obtain ⟨x262, g264, hf⟩ := hf
          replace hf := gx_ite hf
          rcases hf with ⟨c263, hf⟩ | ⟨c263, hf⟩
          · exact le_L_law_b889 lek23 hf hH
          · obtain ⟨rfl, rfl⟩ := Prod.mk.inj (Option.some.inj hf)
            exact gx_le.rf
        · exact le_L_law_b889 lek23 hf hH
      · obtain ⟨rfl, rfl⟩ := Prod.mk.inj (Option.some.inj hf)
        exact gx_le.rf
    replace hf := gx_ite hf
    rcases hf with ⟨c267, hf⟩ | ⟨c267, hf⟩
    · replace hf := gx_bs hf
      obtain ⟨x268, g285, hf⟩ := hf
      replace hf := gx_b2s hf
      obtain ⟨x270, h271, g269, hf⟩ := hf
      refine (mh_ole hH (le_X0_eventOf g269)).tr ?_
      have hH := hH.le (le_X0_eventOf g269)
      replace hf := gx_bs hf
      obtain ⟨x272, g284, hf⟩ := hf
      replace hf := gx_b2s hf
      obtain ⟨x274, h275, g273, hf⟩ := hf
      refine (mh_le (s1 := h275)).tr ?_
      replace hf := gx_bs hf
      obtain ⟨x277, g276, hf⟩ := hf
      replace hf := gx_ite hf
      rcases hf with ⟨c278, hf⟩ | ⟨c278, hf⟩
      · replace hf := gx_ite hf
        rcases hf with ⟨c279, hf⟩ | ⟨c279, hf⟩
        · replace hf := gx_bs hf
          obtain ⟨a280, rfl, hf⟩ := hf
          replace hf := gx_bs hf
          obtain ⟨x281, g283, hf⟩ := hf
          replace hf := gx_ite hf
          rcases hf with ⟨c282, hf⟩ | ⟨c282, hf⟩
          · exact le_L_law_b945 lek23 hf hH
          · obtain ⟨rfl, rfl⟩ := Prod.mk.inj (Option.some.inj hf)
            exact gx_le.rf
        · exact le_L_law_b945 lek23 hf hH
      · obtain ⟨rfl, rfl⟩ := Prod.mk.inj (Option.some.inj hf)
        exact gx_le.rf
    replace hf := gx_ite hf
    rcases hf with ⟨c286, hf⟩ | ⟨c286, hf⟩
    · replace hf := gx_bs hf
      obtain ⟨x287, g304, hf⟩ := hf
      replace hf := gx_b2s hf
      obtain ⟨x289, h290, g288, hf⟩ := hf
      refine (mh_ole hH (le_X0_targetOf g288)).tr ?_
      have hH := hH.le (le_X0_targetOf g288)
      replace hf := gx_bs hf
      obtain ⟨x291, g303, hf⟩ := hf
      replace hf := gx_b2s hf
      obtain ⟨x293, h294, g292, hf⟩ := hf
      refine (mh_le (s1 := h294)).tr ?_
      replace hf := gx_bs hf
      obtain ⟨x296, g295, hf⟩ := hf
      replace hf := gx_ite hf
      rcases hf with ⟨c297, hf⟩ | ⟨c297, hf⟩
      · replace hf := gx_ite hf
        rcases hf with ⟨c298, hf⟩ | ⟨c298, hf⟩
        · replace hf := gx_bs hf
          obtain ⟨a299, rfl, hf⟩ := hf
          replace hf := gx_bs hf
          obtain ⟨x300, g302, hf⟩ := hf
          replace hf := gx_ite hf
          rcases hf with ⟨c301, hf⟩ | ⟨c301, hf⟩
          · exact le_L_law_b1001 lek23 hf hH
          · obtain ⟨rfl, rfl⟩ := Prod.mk.inj (Option.some.inj hf)
            exact gx_le.rf
        · exact le_L_law_b1001 lek23 hf hH
      · obtain ⟨rfl, rfl⟩ := Prod.mk.inj (Option.some.inj hf)
        exact gx_le.rf
    replace hf := gx_ite hf
    rcases hf with ⟨c305, hf⟩ | ⟨c305, hf⟩
    · replace hf := gx_bs hf
      obtain ⟨x306, g324, hf⟩ := hf
      replace hf := gx_b2s hf
      obtain ⟨x308, h309, g307, hf⟩ := hf
      refine (mh_ole hH (le_X0_hasGuard g307)).tr ?_
      have hH := hH.le (le_X0_hasGuard g307)
      replace hf := gx_bs hf
      obtain ⟨x310, g323, hf⟩ := hf
      replace hf := gx_b2s hf
      obtain ⟨b312, h313, g311, hf⟩ := hf
      refine (mh_le (s1 := h313)).tr ?_
      replace hf := gx_bs hf
      obtain ⟨x315, g314, hf⟩ := hf
      replace hf := gx_ite hf
      rcases hf with ⟨c316, hf⟩ | ⟨c316, hf⟩
      · replace hf := gx_ite hf
        rcases hf with ⟨c317, hf⟩ | ⟨c317, hf⟩
        · replace hf := gx_bs hf
          obtain ⟨a318, rfl, hf⟩ := hf
          replace hf := gx_bs hf
          obtain ⟨x319, g322, hf⟩ := hf
          replace hf := gx_ite hf
          rcases hf with ⟨c320, hf⟩ | ⟨c320, hf⟩
          · exact le_L_law_b1058 lek23 hf hH
          · exact le_L_law_b1058 lek23 hf hH
        · exact le_L_law_b1064 lek23 hf hH
      · obtain ⟨rfl, rfl⟩ := Prod.mk.inj (Option.some.inj hf)
        exact gx_le.rf
    replace hf := gx_ite hf
    rcases hf with ⟨c325, hf⟩ | ⟨c325, hf⟩
    · replace hf := gx_bs hf
      obtain ⟨x326, g344, hf⟩ := hf
      replace hf := gx_b2s hf
      obtain ⟨x328, h329, g327, hf⟩ := hf
      refine (mh_ole hH (le_X0_guardHolds g327)).tr ?_
      have hH := hH.le (le_X0_guardHolds g327)
      replace hf := gx_bs hf
      obtain ⟨x330, g343, hf⟩ := hf
      replace hf := gx_b2s hf
      obtain ⟨b332, h333, g331, hf⟩ := hf
      refine (mh_le (s1 := h333)).tr ?_
      replace hf := gx_bs hf
      obtain ⟨x335, g334, hf⟩ := hf
      replace hf := gx_ite hf
      rcases hf with ⟨c336, hf⟩ | ⟨c336, hf⟩
      · replace hf := gx_ite hf
        rcases hf with ⟨c337, hf⟩ | ⟨c337, hf⟩
        · replace hf := gx_bs hf
          obtain ⟨a338, rfl, hf⟩ := hf
          replace hf := gx_bs hf
          obtain ⟨x339, g342, hf⟩ := hf
          replace hf := gx_ite hf
          rcases hf with ⟨c340, hf⟩ | ⟨c340, hf⟩
          · exact le_L_law_b1121 lek23 hf hH
          · exact le_L_law_b1121 lek23 hf hH
        · exact le_L_law_b1127 lek23 hf hH
      · obtain ⟨rfl, rfl⟩ := Prod.mk.inj (Option.some.inj hf)
        exact gx_le.rf
    replace hf := gx_ite hf
    rcases hf with ⟨c345, hf⟩ | ⟨c345, hf⟩
    · replace hf := gx_bs hf
      obtain ⟨x346, g363, hf⟩ := hf
      replace hf := gx_b2s hf
      obtain ⟨x348, h349, g347, hf⟩ := hf
      refine (mh_ole hH (le_X0_stateOfInvariant g347)).tr ?_
      have hH := hH.le (le_X0_stateOfInvariant g347)
      replace hf := gx_bs hf
      obtain ⟨x350, g362, hf⟩ := hf
      replace hf := gx_b2s hf
      obtain ⟨x352, h353, g351, hf⟩ := hf
      refine (mh_le (s1 := h353)).tr ?_
      replace hf := gx_bs hf
      obtain ⟨x355, g354, hf⟩ := hf
      replace hf := gx_ite hf
      rcases hf with ⟨c356, hf⟩ | ⟨c356, hf⟩
      · replace hf := gx_ite hf
        rcases hf with ⟨c357, hf⟩ | ⟨c357, hf⟩
        · replace hf := gx_bs hf
          obtain ⟨a358, rfl, hf⟩ := hf
          replace hf := gx_bs hf
          obtain ⟨x359, g361, hf⟩ := hf
          replace hf := gx_ite hf
          rcases hf with ⟨c360, hf⟩ | ⟨c360, hf⟩
          · exact le_L_law_b1183 lek23 hf hH
          · obtain ⟨rfl, rfl⟩ := Prod.mk.inj (Option.some.inj hf)
            exact gx_le.rf
        · exact le_L_law_b1183 lek23 hf hH
      · obtain ⟨rfl, rfl⟩ := Prod.mk.inj (Option.some.inj hf)
        exact gx_le.rf
    replace hf := gx_ite hf
    rcases hf with ⟨c364, hf⟩ | ⟨c364, hf⟩
    · replace hf := gx_bs hf
      obtain ⟨x365, g383, hf⟩ := hf
      replace hf := gx_b2s hf
      obtain ⟨x367, h368, g366, hf⟩ := hf
      refine (mh_ole hH (le_X0_comparisonHolds g366)).tr ?_
      have hH := hH.le (le_X0_comparisonHolds g366)
      replace hf := gx_bs hf
      obtain ⟨x369, g382, hf⟩ := hf
      replace hf := gx_b2s hf
      obtain ⟨b371, h372, g370, hf⟩ := hf
      refine (mh_le (s1 := h372)).tr ?_
      replace hf := gx_bs hf
      obtain ⟨x374, g373, hf⟩ := hf
      replace hf := gx_ite hf
      rcases hf with ⟨c375, hf⟩ | ⟨c375, hf⟩
      · replace hf := gx_ite hf
        rcases hf with ⟨c376, hf⟩ | ⟨c376, hf⟩
        · replace hf := gx_bs hf
          obtain ⟨a377, rfl, hf⟩ := hf
          replace hf := gx_bs hf
          obtain ⟨x378, g381, hf⟩ := hf
          replace hf := gx_ite hf
          rcases hf with ⟨c379, hf⟩ | ⟨c379, hf⟩
          · exact le_L_law_b1240 lek23 hf hH
          · exact le_L_law_b1240 lek23 hf hH
        · exact le_L_law_b1246 lek23 hf hH
      · obtain ⟨rfl, rfl⟩ := Prod.mk.inj (Option.some.inj hf)
        exact gx_le.rf
    replace hf := gx_ite hf
    rcases hf with ⟨c384, hf⟩ | ⟨c384, hf⟩
    · replace hf := gx_bs hf
      obtain ⟨x385, g402, hf⟩ := hf
      replace hf := gx_b2s hf
      obtain ⟨x387, h388, g386, hf⟩ := hf
      refine (mh_ole hH (le_X0_verdictOf g386)).tr ?_
      have hH := hH.le (le_X0_verdictOf g386)
      replace hf := gx_bs hf
      obtain ⟨x389, g401, hf⟩ := hf
      replace hf := gx_b2s hf
      obtain ⟨x391, h392, g390, hf⟩ := hf
      refine (mh_le (s1 := h392)).tr ?_
      replace hf := gx_bs hf
      obtain ⟨x394, g393, hf⟩ := hf
      replace hf := gx_ite hf
      rcases hf with ⟨c395, hf⟩ | ⟨c395, hf⟩
      · replace hf := gx_ite hf
        rcases hf with ⟨c396, hf⟩ | ⟨c396, hf⟩
        · replace hf := gx_bs hf
          obtain ⟨a397, rfl, hf⟩ := hf
          replace hf := gx_bs hf
          obtain ⟨x398, g400, hf⟩ := hf
          replace hf := gx_ite hf
          rcases hf with ⟨c399, hf⟩ | ⟨c399, hf⟩
          · exact le_L_law_b1302 lek23 hf hH
          · obtain ⟨rfl, rfl⟩ := Prod.mk.inj (Option.some.inj hf)
            exact gx_le.rf
        · exact le_L_law_b1302 lek23 hf hH
      · obtain ⟨rfl, rfl⟩ := Prod.mk.inj (Option.some.inj hf)
        exact gx_le.rf
    replace hf := gx_ite hf
    rcases hf with ⟨c403, hf⟩ | ⟨c403, hf⟩
    · replace hf := gx_bs hf
      obtain ⟨x404, g421, hf⟩ := hf
      replace hf := gx_b2s hf
      obtain ⟨x406, h407, g405, hf⟩ := hf
      refine (mh_ole hH (le_X0_chosenTransition g405)).tr ?_
      have hH := hH.le (le_X0_chosenTransition g405)
      replace hf := gx_bs hf
      obtain ⟨x408, g420, hf⟩ := hf
      replace hf := gx_b2s hf
      obtain ⟨x410, h411, g409, hf⟩ := hf
      refine (mh_le (s1 := h411)).tr ?_
      replace hf := gx_bs hf
      obtain ⟨x413, g412, hf⟩ := hf
      replace hf := gx_ite hf
      rcases hf with ⟨c414, hf⟩ | ⟨c414, hf⟩
      · replace hf := gx_ite hf
        rcases hf with ⟨c415, hf⟩ | ⟨c415, hf⟩
        · replace hf := gx_bs hf
          obtain ⟨a416, rfl, hf⟩ := hf
          replace hf := gx_bs hf
          obtain ⟨x417, g419, hf⟩ := hf
          replace hf := gx_ite hf
          rcases hf with ⟨c418, hf⟩ | ⟨c418, hf⟩
          · exact le_L_law_b1358 lek23 hf hH
          · obtain ⟨rfl, rfl⟩ := Prod.mk.inj (Option.some.inj hf)
            exact gx_le.rf
        · exact le_L_law_b1358 lek23 hf hH
      · obtain ⟨rfl, rfl⟩ := Prod.mk.inj (Option.some.inj hf)
        exact gx_le.rf
    replace hf := gx_ite hf
    rcases hf with ⟨c422, hf⟩ | ⟨c422, hf⟩
    · replace hf := gx_bs hf
      obtain ⟨x423, g440, hf⟩ := hf
      replace hf := gx_b2s hf
      obtain ⟨x425, h426, g424, hf⟩ := hf
      refine (mh_ole hH (le_X0_brokenInvariant g424)).tr ?_
      have hH := hH.le (le_X0_brokenInvariant g424)
      replace hf := gx_bs hf
      obtain ⟨x427, g439, hf⟩ := hf
      replace hf := gx_b2s hf
      obtain ⟨x429, h430, g428, hf⟩ := hf
      refine (mh_le (s1 := h430)).tr ?_
      replace hf := gx_bs hf
      obtain ⟨x432, g431, hf⟩ := hf
      replace hf := gx_ite hf
      rcases hf with ⟨c433, hf⟩ | ⟨c433, hf⟩
      · replace hf := gx_ite hf
        rcases hf with ⟨c434, hf⟩ | ⟨c434, hf⟩
        · replace hf := gx_bs hf
          obtain ⟨a435, rfl, hf⟩ := hf
          replace hf := gx_bs hf
          obtain ⟨x436, g438, hf⟩ := hf
          replace hf := gx_ite hf
          rcases hf with ⟨c437, hf⟩ | ⟨c437, hf⟩
          · exact le_L_law_b1414 lek23 hf hH
          · obtain ⟨rfl, rfl⟩ := Prod.mk.inj (Option.some.inj hf)
            exact gx_le.rf
        · exact le_L_law_b1414 lek23 hf hH
      · obtain ⟨rfl, rfl⟩ := Prod.mk.inj (Option.some.inj hf)
        exact gx_le.rf
    replace hf := gx_ite hf
    rcases hf with ⟨c441, hf⟩ | ⟨c441, hf⟩
    · replace hf := gx_bs hf
      obtain ⟨a442, rfl, hf⟩ := hf
      replace hf := gx_bs hf
      obtain ⟨b444, g443, hf⟩ := hf
      replace hf := gx_b2s hf
      obtain ⟨b446, h447, g445, hf⟩ := hf
      refine (mh_le (s1 := h447)).tr ?_
      replace hf := gx_ite hf
      rcases hf with ⟨c448, hf⟩ | ⟨c448, hf⟩
      · exact le_L_law_b2499 lek23 hf hH
      · obtain ⟨rfl, rfl⟩ := Prod.mk.inj (Option.some.inj hf)
        exact gx_le.rf
    replace hf := gx_ite hf
    rcases hf with ⟨c449, hf⟩ | ⟨c449, hf⟩
    · replace hf := gx_bs hf
      obtain ⟨x450, g467, hf⟩ := hf
      replace hf := gx_b2s hf
      obtain ⟨x452, h453, g451, hf⟩ := hf
      refine (mh_ole hH (le_X0_timesTaken g451)).tr ?_
      have hH := hH.le (le_X0_timesTaken g451)
      replace hf := gx_bs hf
      obtain ⟨x454, g466, hf⟩ := hf
      replace hf := gx_b2s hf
      obtain ⟨x456, h457, g455, hf⟩ := hf
      refine (mh_le (s1 := h457)).tr ?_
      replace hf := gx_bs hf
      obtain ⟨x459, g458, hf⟩ := hf
      replace hf := gx_ite hf
      rcases hf with ⟨c460, hf⟩ | ⟨c460, hf⟩
      · replace hf := gx_ite hf
        rcases hf with ⟨c461, hf⟩ | ⟨c461, hf⟩
        · replace hf := gx_bs hf
          obtain ⟨a462, rfl, hf⟩ := hf
          replace hf := gx_bs hf
          obtain ⟨x463, g465, hf⟩ := hf
          replace hf := gx_ite hf
          rcases hf with ⟨c464, hf⟩ | ⟨c464, hf⟩
          · exact le_L_law_b1483 lek23 hf hH
          · obtain ⟨rfl, rfl⟩ := Prod.mk.inj (Option.some.inj hf)
            exact gx_le.rf
        · exact le_L_law_b1483 lek23 hf hH
      · obtain ⟨rfl, rfl⟩ := Prod.mk.inj (Option.some.inj hf)
        exact gx_le.rf
    replace hf := gx_ite hf
    rcases hf with ⟨c468, hf⟩ | ⟨c468, hf⟩
    · replace hf := gx_bs hf
      obtain ⟨x469, g486, hf⟩ := hf
      replace hf := gx_b2s hf
      obtain ⟨x471, h472, g470, hf⟩ := hf
      refine (mh_ole hH (le_X0_visitsOf g470)).tr ?_
      have hH := hH.le (le_X0_visitsOf g470)
      replace hf := gx_bs hf
      obtain ⟨x473, g485, hf⟩ := hf
      replace hf := gx_b2s hf
      obtain ⟨x475, h476, g474, hf⟩ := hf
      refine (mh_le (s1 := h476)).tr ?_
      replace hf := gx_bs hf
      obtain ⟨x478, g477, hf⟩ := hf
      replace hf := gx_ite hf
      rcases hf with ⟨c479, hf⟩ | ⟨c479, hf⟩
      · replace hf := gx_ite hf
        rcases hf with ⟨c480, hf⟩ | ⟨c480, hf⟩
        · replace hf := gx_bs hf
          obtain ⟨a481, rfl, hf⟩ := hf
          replace hf := gx_bs hf
          obtain ⟨x482, g484, hf⟩ := hf
          replace hf := gx_ite hf
          rcases hf with ⟨c483, hf⟩ | ⟨c483, hf⟩
          · exact le_L_law_b1539 lek23 hf hH
          · obtain ⟨rfl, rfl⟩ := Prod.mk.inj (Option.some.inj hf)
            exact gx_le.rf
        · exact le_L_law_b1539 lek23 hf hH
      · obtain ⟨rfl, rfl⟩ := Prod.mk.inj (Option.some.inj hf)
        exact gx_le.rf
    replace hf := gx_ite hf
    rcases hf with ⟨c487, hf⟩ | ⟨c487, hf⟩
    · replace hf := gx_bs hf
      obtain ⟨a488, rfl, hf⟩ := hf
      replace hf := gx_bs hf
      obtain ⟨x490, g489, hf⟩ := hf
      replace hf := gx_b2s hf
      obtain ⟨x492, h493, g491, hf⟩ := hf
      refine (mh_le (s1 := h493)).tr ?_
      replace hf := gx_ite hf
      rcases hf with ⟨c494, hf⟩ | ⟨c494, hf⟩
      · exact le_L_law_b2499 lek23 hf hH
      · obtain ⟨rfl, rfl⟩ := Prod.mk.inj (Option.some.inj hf)
        exact gx_le.rf
    replace hf := gx_ite hf
    rcases hf with ⟨c495, hf⟩ | ⟨c495, hf⟩
    · replace hf := gx_bs hf
      obtain ⟨a496, rfl, hf⟩ := hf
      replace hf := gx_bs hf
      obtain ⟨x498, g497, hf⟩ := hf
      replace hf := gx_b2s hf
      obtain ⟨x500, h501, g499, hf⟩ := hf
      refine (mh_le (s1 := h501)).tr ?_
      replace hf := gx_ite hf
      rcases hf with ⟨c502, hf⟩ | ⟨c502, hf⟩
      · exact le_L_law_b2499 lek23 hf hH
      · obtain ⟨rfl, rfl⟩ := Prod.mk.inj (Option.some.inj hf)
        exact gx_le.rf
    replace hf := gx_ite hf
    rcases hf with ⟨c503, hf⟩ | ⟨c503, hf⟩
    · replace hf := gx_bs hf
      obtain ⟨x504, g521, hf⟩ := hf
      replace hf := gx_b2s hf
      obtain ⟨x506, h507, g505, hf⟩ := hf
      refine (mh_ole hH (le_X0_rejectedWith g505)).tr ?_
      have hH := hH.le (le_X0_rejectedWith g505)
      replace hf := gx_bs hf
      obtain ⟨x508, g520, hf⟩ := hf
      replace hf := gx_b2s hf
      obtain ⟨x510, h511, g509, hf⟩ := hf
      refine (mh_le (s1 := h511)).tr ?_
      replace hf := gx_bs hf
      obtain ⟨x513, g512, hf⟩ := hf
      replace hf := gx_ite hf
      rcases hf with ⟨c514, hf⟩ | ⟨c514, hf⟩
      · replace hf := gx_ite hf
        rcases hf with ⟨c515, hf⟩ | ⟨c515, hf⟩
        · replace hf := gx_bs hf
          obtain ⟨a516, rfl, hf⟩ := hf
          replace hf := gx_bs hf
          obtain ⟨x517, g519, hf⟩ := hf
          replace hf := gx_ite hf
          rcases hf with ⟨c518, hf⟩ | ⟨c518, hf⟩
          · exact le_L_law_b1621 lek23 hf hH
          · obtain ⟨rfl, rfl⟩ := Prod.mk.inj (Option.some.inj hf)
            exact gx_le.rf
        · exact le_L_law_b1621 lek23 hf hH
      · obtain ⟨rfl, rfl⟩ := Prod.mk.inj (Option.some.inj hf)
        exact gx_le.rf
    replace hf := gx_ite hf
    rcases hf with ⟨c522, hf⟩ | ⟨c522, hf⟩
    · replace hf := gx_bs hf
      obtain ⟨a523, rfl, hf⟩ := hf
      replace hf := gx_bs hf
      obtain ⟨x525, g524, hf⟩ := hf
      replace hf := gx_ite hf
      rcases hf with ⟨c526, hf⟩ | ⟨c526, hf⟩
      rotate_left
      · cases hf
      replace hf := gx_b2s hf
      obtain ⟨x528, h529, g527, hf⟩ := hf
      refine (mh_le (s1 := h529)).tr ?_
      replace hf := gx_ite hf
      rcases hf with ⟨c530, hf⟩ | ⟨c530, hf⟩
      rotate_left
      · cases hf
      replace hf := gx_ite hf
      rcases hf with ⟨c531, hf⟩ | ⟨c531, hf⟩
      · exact le_L_law_b1664 lek23 hf hH
      · replace hf := gx_ite hf
        rcases hf with ⟨c532, hf⟩ | ⟨c532, hf⟩
        · obtain ⟨rfl, rfl⟩ := Prod.mk.inj (Option.some.inj hf)
          exact gx_le.rf
        · replace hf := gx_ite hf
          rcases hf with ⟨c533, hf⟩ | ⟨c533, hf⟩
          · obtain ⟨rfl, rfl⟩ := Prod.mk.inj (Option.some.inj hf)
            exact gx_le.rf
          · exact le_L_law_b1664 lek23 hf hH
    replace hf := gx_ite hf
    rcases hf with ⟨c534, hf⟩ | ⟨c534, hf⟩
    · replace hf := gx_bs hf
      obtain ⟨a535, rfl, hf⟩ := hf
      replace hf := gx_bs hf
      obtain ⟨x537, g536, hf⟩ := hf
      replace hf := gx_ite hf
      rcases hf with ⟨c538, hf⟩ | ⟨c538, hf⟩
      rotate_left
      · cases hf
      replace hf := gx_b2s hf
      obtain ⟨x540, h541, g539, hf⟩ := hf
      refine (mh_le (s1 := h541)).tr ?_
      replace hf := gx_ite hf
      rcases hf with ⟨c542, hf⟩ | ⟨c542, hf⟩
      rotate_left
      · cases hf
      replace hf := gx_ite hf
      rcases hf with ⟨c543, hf⟩ | ⟨c543, hf⟩
      · exact le_L_law_b1707 lek23 hf hH
      · replace hf := gx_ite hf
        rcases hf with ⟨c544, hf⟩ | ⟨c544, hf⟩
        · obtain ⟨rfl, rfl⟩ := Prod.mk.inj (Option.some.inj hf)
          exact gx_le.rf
        · replace hf := gx_ite hf
          rcases hf with ⟨c545, hf⟩ | ⟨c545, hf⟩
          · obtain ⟨rfl, rfl⟩ := Prod.mk.inj (Option.some.inj hf)
            exact gx_le.rf
          · exact le_L_law_b1707 lek23 hf hH
    replace hf := gx_ite hf
    rcases hf with ⟨c546, hf⟩ | ⟨c546, hf⟩
    · replace hf := gx_bs hf
      obtain ⟨a547, rfl, hf⟩ := hf
      replace hf := gx_bs hf
      obtain ⟨x549, g548, hf⟩ := hf
      replace hf := gx_b2s hf
      obtain ⟨x551, h552, g550, hf⟩ := hf
      refine (mh_le (s1 := h552)).tr ?_
      replace hf := gx_ite hf
      rcases hf with ⟨c553, hf⟩ | ⟨c553, hf⟩
      · exact le_L_law_b2499 lek23 hf hH
      · obtain ⟨rfl, rfl⟩ := Prod.mk.inj (Option.some.inj hf)
        exact gx_le.rf
    replace hf := gx_ite hf
    rcases hf with ⟨c554, hf⟩ | ⟨c554, hf⟩
    · replace hf := gx_bs hf
      obtain ⟨a555, rfl, hf⟩ := hf
      replace hf := gx_bs hf
      obtain ⟨x557, g556, hf⟩ := hf
      replace hf := gx_b2s hf
      obtain ⟨x559, h560, g558, hf⟩ := hf
      refine (mh_le (s1 := h560)).tr ?_
      replace hf := gx_ite hf
      rcases hf with ⟨c561, hf⟩ | ⟨c561, hf⟩
      · exact le_L_law_b2499 lek23 hf hH
      · obtain ⟨rfl, rfl⟩ := Prod.mk.inj (Option.some.inj hf)
        exact gx_le.rf
    replace hf := gx_ite hf
    rcases hf with ⟨c562, hf⟩ | ⟨c562, hf⟩
    · replace hf := gx_bs hf
      obtain ⟨a563, rfl, hf⟩ := hf
      replace hf := gx_bs hf
      obtain ⟨x565, g564, hf⟩ := hf
      replace hf := gx_b2s hf
      obtain ⟨x567, h568, g566, hf⟩ := hf
      refine (mh_le (s1 := h568)).tr ?_
      replace hf := gx_ite hf
      rcases hf with ⟨c569, hf⟩ | ⟨c569, hf⟩
      · exact le_L_law_b2499 lek23 hf hH
      · obtain ⟨rfl, rfl⟩ := Prod.mk.inj (Option.some.inj hf)
        exact gx_le.rf
    replace hf := gx_ite hf
    rcases hf with ⟨c570, hf⟩ | ⟨c570, hf⟩
    · replace hf := gx_bs hf
      obtain ⟨x571, g581, hf⟩ := hf
      replace hf := gx_bs hf
      obtain ⟨a572, rfl, hf⟩ := hf
      replace hf := gx_bs hf
      obtain ⟨x574, g573, hf⟩ := hf
      replace hf := gx_bs hf
      obtain ⟨x575, g580, hf⟩ := hf
      replace hf := gx_b2s hf
      obtain ⟨x577, h578, g576, hf⟩ := hf
      refine (mh_le (s1 := h578)).tr ?_
      replace hf := gx_ite hf
      rcases hf with ⟨c579, hf⟩ | ⟨c579, hf⟩
      · exact le_L_law_b2499 lek23 hf hH
      · obtain ⟨rfl, rfl⟩ := Prod.mk.inj (Option.some.inj hf)
        exact gx_le.rf
    replace hf := gx_ite hf
    rcases hf with ⟨c582, hf⟩ | ⟨c582, hf⟩
    · replace hf := gx_bs hf
      obtain ⟨x583, g593, hf⟩ := hf
      replace hf := gx_bs hf
      obtain ⟨a584, rfl, hf⟩ := hf
      replace hf := gx_bs hf
      obtain ⟨x586, g585, hf⟩ := hf
      replace hf := gx_bs hf
      obtain ⟨x587, g592, hf⟩ := hf
      replace hf := gx_b2s hf
      obtain ⟨x589, h590, g588, hf⟩ := hf
      refine (mh_le (s1 := h590)).tr ?_
      replace hf := gx_ite hf
      rcases hf with ⟨c591, hf⟩ | ⟨c591, hf⟩
      · exact le_L_law_b2499 lek23 hf hH
      · obtain ⟨rfl, rfl⟩ := Prod.mk.inj (Option.some.inj hf)
        exact gx_le.rf
    replace hf := gx_ite hf
    rcases hf with ⟨c594, hf⟩ | ⟨c594, hf⟩
    · replace hf := gx_bs hf
      obtain ⟨a595, rfl, hf⟩ := hf
      replace hf := gx_b2s hf
      obtain ⟨x597, h598, g596, hf⟩ := hf
      refine (mh_ole hH (le_X1_reachableCount g596)).tr ?_
      have hH := hH.le (le_X1_reachableCount g596)
      replace hf := gx_b2s hf
      obtain ⟨x600, h601, g599, hf⟩ := hf
      refine (mh_le (s1 := h601)).tr ?_
      replace hf := gx_ite hf
      rcases hf with ⟨c602, hf⟩ | ⟨c602, hf⟩
      · exact le_L_law_b2499 lek23 hf hH
      · obtain ⟨rfl, rfl⟩ := Prod.mk.inj (Option.some.inj hf)
        exact gx_le.rf
    replace hf := gx_ite hf
    rcases hf with ⟨c603, hf⟩ | ⟨c603, hf⟩
    · replace hf := gx_bs hf
      obtain ⟨x604, g622, hf⟩ := hf
      replace hf := gx_b2s hf
      obtain ⟨x606, h607, g605, hf⟩ := hf
      refine (mh_ole hH (le_X0_isReachable g605)).tr ?_
      have hH := hH.le (le_X0_isReachable g605)
      replace hf := gx_bs hf
      obtain ⟨x608, g621, hf⟩ := hf
      replace hf := gx_b2s hf
      obtain ⟨b610, h611, g609, hf⟩ := hf
      refine (mh_le (s1 := h611)).tr ?_
      replace hf := gx_bs hf
      obtain ⟨x613, g612, hf⟩ := hf
      replace hf := gx_ite hf
      rcases hf with ⟨c614, hf⟩ | ⟨c614, hf⟩
      · replace hf := gx_ite hf
        rcases hf with ⟨c615, hf⟩ | ⟨c615, hf⟩
        · replace hf := gx_bs hf
          obtain ⟨a616, rfl, hf⟩ := hf
          replace hf := gx_bs hf
          obtain ⟨x617, g620, hf⟩ := hf
          replace hf := gx_ite hf
          rcases hf with ⟨c618, hf⟩ | ⟨c618, hf⟩
          · exact le_L_law_b1866 lek23 hf hH
          · exact le_L_law_b1866 lek23 hf hH
        · exact le_L_law_b1872 lek23 hf hH
      · obtain ⟨rfl, rfl⟩ := Prod.mk.inj (Option.some.inj hf)
        exact gx_le.rf
    replace hf := gx_ite hf
    rcases hf with ⟨c623, hf⟩ | ⟨c623, hf⟩
    · replace hf := gx_bs hf
      obtain ⟨x624, g642, hf⟩ := hf
      replace hf := gx_b2s hf
      obtain ⟨x626, h627, g625, hf⟩ := hf
      refine (mh_ole hH (le_X0_canBeTaken g625)).tr ?_
      have hH := hH.le (le_X0_canBeTaken g625)
      replace hf := gx_bs hf
      obtain ⟨x628, g641, hf⟩ := hf
      replace hf := gx_b2s hf
      obtain ⟨b630, h631, g629, hf⟩ := hf
      refine (mh_le (s1 := h631)).tr ?_
      replace hf := gx_bs hf
      obtain ⟨x633, g632, hf⟩ := hf
      replace hf := gx_ite hf
      rcases hf with ⟨c634, hf⟩ | ⟨c634, hf⟩
      · replace hf := gx_ite hf
        rcases hf with ⟨c635, hf⟩ | ⟨c635, hf⟩
        · replace hf := gx_bs hf
          obtain ⟨a636, rfl, hf⟩ := hf
          replace hf := gx_bs hf
          obtain ⟨x637, g640, hf⟩ := hf
          replace hf := gx_ite hf
          rcases hf with ⟨c638, hf⟩ | ⟨c638, hf⟩
          · exact le_L_law_b1929 lek23 hf hH
          · exact le_L_law_b1929 lek23 hf hH
        · exact le_L_law_b1935 lek23 hf hH
      · obtain ⟨rfl, rfl⟩ := Prod.mk.inj (Option.some.inj hf)
        exact gx_le.rf
    replace hf := gx_ite hf
    rcases hf with ⟨c643, hf⟩ | ⟨c643, hf⟩
    · replace hf := gx_bs hf
      obtain ⟨x644, g661, hf⟩ := hf
      replace hf := gx_b2s hf
      obtain ⟨x646, h647, g645, hf⟩ := hf
      refine (mh_ole hH (le_X0_stepsTo g645)).tr ?_
      have hH := hH.le (le_X0_stepsTo g645)
      replace hf := gx_bs hf
      obtain ⟨x648, g660, hf⟩ := hf
      replace hf := gx_b2s hf
      obtain ⟨x650, h651, g649, hf⟩ := hf
      refine (mh_le (s1 := h651)).tr ?_
      replace hf := gx_bs hf
      obtain ⟨x653, g652, hf⟩ := hf
      replace hf := gx_ite hf
      rcases hf with ⟨c654, hf⟩ | ⟨c654, hf⟩
      · replace hf := gx_ite hf
        rcases hf with ⟨c655, hf⟩ | ⟨c655, hf⟩
        · replace hf := gx_bs hf
          obtain ⟨a656, rfl, hf⟩ := hf
          replace hf := gx_bs hf
          obtain ⟨x657, g659, hf⟩ := hf
          replace hf := gx_ite hf
          rcases hf with ⟨c658, hf⟩ | ⟨c658, hf⟩
          · exact le_L_law_b1991 lek23 hf hH
          · obtain ⟨rfl, rfl⟩ := Prod.mk.inj (Option.some.inj hf)
            exact gx_le.rf
        · exact le_L_law_b1991 lek23 hf hH
      · obtain ⟨rfl, rfl⟩ := Prod.mk.inj (Option.some.inj hf)
        exact gx_le.rf
    replace hf := gx_ite hf
    rcases hf with ⟨c662, hf⟩ | ⟨c662, hf⟩
    · replace hf := gx_bs hf
      obtain ⟨x663, g680, hf⟩ := hf
      replace hf := gx_b2s hf
      obtain ⟨x665, h666, g664, hf⟩ := hf
      refine (mh_ole hH (le_X0_firstEventTo g664)).tr ?_
      have hH := hH.le (le_X0_firstEventTo g664)
      replace hf := gx_bs hf
      obtain ⟨x667, g679, hf⟩ := hf
      replace hf := gx_b2s hf
      obtain ⟨x669, h670, g668, hf⟩ := hf
      refine (mh_le (s1 := h670)).tr ?_
      replace hf := gx_bs hf
      obtain ⟨x672, g671, hf⟩ := hf
      replace hf := gx_ite hf
      rcases hf with ⟨c673, hf⟩ | ⟨c673, hf⟩
      · replace hf := gx_ite hf
        rcases hf with ⟨c674, hf⟩ | ⟨c674, hf⟩
        · replace hf := gx_bs hf
          obtain ⟨a675, rfl, hf⟩ := hf
          replace hf := gx_bs hf
          obtain ⟨x676, g678, hf⟩ := hf
          replace hf := gx_ite hf
          rcases hf with ⟨c677, hf⟩ | ⟨c677, hf⟩
          · exact le_L_law_b2047 lek23 hf hH
          · obtain ⟨rfl, rfl⟩ := Prod.mk.inj (Option.some.inj hf)
            exact gx_le.rf
        · exact le_L_law_b2047 lek23 hf hH
      · obtain ⟨rfl, rfl⟩ := Prod.mk.inj (Option.some.inj hf)
        exact gx_le.rf
    replace hf := gx_ite hf
    rcases hf with ⟨c681, hf⟩ | ⟨c681, hf⟩
    · replace hf := gx_bs hf
      obtain ⟨a682, rfl, hf⟩ := hf
      replace hf := gx_b2s hf
      obtain ⟨x684, h685, g683, hf⟩ := hf
      refine (mh_ole hH (le_X1_deadlockCount g683)).tr ?_
      have hH := hH.le (le_X1_deadlockCount g683)
      replace hf := gx_b2s hf
      obtain ⟨x687, h688, g686, hf⟩ := hf
      refine (mh_le (s1 := h688)).tr ?_
      replace hf := gx_ite hf
      rcases hf with ⟨c689, hf⟩ | ⟨c689, hf⟩
      · exact le_L_law_b2499 lek23 hf hH
      · obtain ⟨rfl, rfl⟩ := Prod.mk.inj (Option.some.inj hf)
        exact gx_le.rf
    replace hf := gx_ite hf
    rcases hf with ⟨c690, hf⟩ | ⟨c690, hf⟩
    · replace hf := gx_bs hf
      obtain ⟨a691, rfl, hf⟩ := hf
      replace hf := gx_b2s hf
      obtain ⟨x693, h694, g692, hf⟩ := hf
      refine (mh_ole hH (le_X1_stepsToDeadlock g692)).tr ?_
      have hH := hH.le (le_X1_stepsToDeadlock g692)
      replace hf := gx_b2s hf
      obtain ⟨x696, h697, g695, hf⟩ := hf
      refine (mh_le (s1 := h697)).tr ?_
      replace hf := gx_ite hf
      rcases hf with ⟨c698, hf⟩ | ⟨c698, hf⟩
      · exact le_L_law_b2499 lek23 hf hH
      · obtain ⟨rfl, rfl⟩ := Prod.mk.inj (Option.some.inj hf)
        exact gx_le.rf
    replace hf := gx_ite hf
    rcases hf with ⟨c699, hf⟩ | ⟨c699, hf⟩
    · replace hf := gx_bs hf
      obtain ⟨a700, rfl, hf⟩ := hf
      replace hf := gx_b2s hf
      obtain ⟨b702, h703, g701, hf⟩ := hf
      refine (mh_ole hH (le_X1_isConsistent g701)).tr ?_
      have hH := hH.le (le_X1_isConsistent g701)
      replace hf := gx_b2s hf
      obtain ⟨b705, h706, g704, hf⟩ := hf
      refine (mh_le (s1 := h706)).tr ?_
      replace hf := gx_ite hf
      rcases hf with ⟨c707, hf⟩ | ⟨c707, hf⟩
      · exact le_L_law_b2499 lek23 hf hH
      · obtain ⟨rfl, rfl⟩ := Prod.mk.inj (Option.some.inj hf)
        exact gx_le.rf
    replace hf := gx_ite hf
    rcases hf with ⟨c708, hf⟩ | ⟨c708, hf⟩
    · replace hf := gx_bs hf
      obtain ⟨a709, rfl, hf⟩ := hf
      replace hf := gx_bs hf
      obtain ⟨x711, g710, hf⟩ := hf
      replace hf := gx_b2s hf
      obtain ⟨x713, h714, g712, hf⟩ := hf
      refine (mh_le (s1 := h714)).tr ?_
      replace hf := gx_ite hf
      rcases hf with ⟨c715, hf⟩ | ⟨c715, hf⟩
      · exact le_L_law_b2127 lek23 hf hH
      · replace hf := gx_ite hf
        rcases hf with ⟨c716, hf⟩ | ⟨c716, hf⟩
        · obtain ⟨rfl, rfl⟩ := Prod.mk.inj (Option.some.inj hf)
          exact gx_le.rf
        · replace hf := gx_ite hf
          rcases hf with ⟨c717, hf⟩ | ⟨c717, hf⟩
          · obtain ⟨rfl, rfl⟩ := Prod.mk.inj (Option.some.inj hf)
            exact gx_le.rf
          · exact le_L_law_b2127 lek23 hf hH
    replace hf := gx_ite hf
    rcases hf with ⟨c718, hf⟩ | ⟨c718, hf⟩
    · replace hf := gx_bs hf
      obtain ⟨x719, g736, hf⟩ := hf
      replace hf := gx_b2s hf
      obtain ⟨x721, h722, g720, hf⟩ := hf
      refine (mh_ole hH (le_X0_fire g720)).tr ?_
      have hH := hH.le (le_X0_fire g720)
      replace hf := gx_bs hf
      obtain ⟨x723, g735, hf⟩ := hf
      replace hf := gx_b2s hf
      obtain ⟨x725, h726, g724, hf⟩ := hf
      refine (mh_le (s1 := h726)).tr ?_
      replace hf := gx_bs hf
      obtain ⟨x728, g727, hf⟩ := hf
      replace hf := gx_ite hf
      rcases hf with ⟨c729, hf⟩ | ⟨c729, hf⟩
      · replace hf := gx_ite hf
        rcases hf with ⟨c730, hf⟩ | ⟨c730, hf⟩
        · replace hf := gx_bs hf
          obtain ⟨a731, rfl, hf⟩ := hf
          replace hf := gx_bs hf
          obtain ⟨x732, g734, hf⟩ := hf
          replace hf := gx_ite hf
          rcases hf with ⟨c733, hf⟩ | ⟨c733, hf⟩
          · exact le_L_law_b2183 lek23 hf hH
          · obtain ⟨rfl, rfl⟩ := Prod.mk.inj (Option.some.inj hf)
            exact gx_le.rf
        · exact le_L_law_b2183 lek23 hf hH
      · obtain ⟨rfl, rfl⟩ := Prod.mk.inj (Option.some.inj hf)
        exact gx_le.rf
    replace hf := gx_ite hf
    rcases hf with ⟨c737, hf⟩ | ⟨c737, hf⟩
    · replace hf := gx_bs hf
      obtain ⟨x738, g759, hf⟩ := hf
      replace hf := gx_bs hf
      obtain ⟨x739, g758, hf⟩ := hf
      replace hf := gx_b2s hf
      obtain ⟨x741, h742, g740, hf⟩ := hf
      refine (mh_ole hH (le_X0_setValue g740)).tr ?_
      have hH := hH.le (le_X0_setValue g740)
      replace hf := gx_bs hf
      obtain ⟨x743, g757, hf⟩ := hf
      replace hf := gx_bs hf
      obtain ⟨x744, g756, hf⟩ := hf
      replace hf := gx_b2s hf
      obtain ⟨x746, h747, g745, hf⟩ := hf
      refine (mh_le (s1 := h747)).tr ?_
      replace hf := gx_bs hf
      obtain ⟨x749, g748, hf⟩ := hf
      replace hf := gx_ite hf
      rcases hf with ⟨c750, hf⟩ | ⟨c750, hf⟩
      · replace hf := gx_ite hf
        rcases hf with ⟨c751, hf⟩ | ⟨c751, hf⟩
        · replace hf := gx_bs hf
          obtain ⟨a752, rfl, hf⟩ := hf
          replace hf := gx_bs hf
          obtain ⟨x753, g755, hf⟩ := hf
          replace hf := gx_ite hf
          rcases hf with ⟨c754, hf⟩ | ⟨c754, hf⟩
          · exact le_L_law_b2251 lek23 hf hH
          · obtain ⟨rfl, rfl⟩ := Prod.mk.inj (Option.some.inj hf)
            exact gx_le.rf
        · exact le_L_law_b2251 lek23 hf hH
      · obtain ⟨rfl, rfl⟩ := Prod.mk.inj (Option.some.inj hf)
        exact gx_le.rf
    replace hf := gx_ite hf
    rcases hf with ⟨c760, hf⟩ | ⟨c760, hf⟩
    · replace hf := gx_bs hf
      obtain ⟨a761, rfl, hf⟩ := hf
      replace hf := gx_b2s hf
      obtain ⟨x763, h764, g762, hf⟩ := hf
      refine (mh_ole hH (le_X1_reset g762)).tr ?_
      have hH := hH.le (le_X1_reset g762)
      replace hf := gx_b2s hf
      obtain ⟨x766, h767, g765, hf⟩ := hf
      refine (mh_le (s1 := h767)).tr ?_
      replace hf := gx_ite hf
      rcases hf with ⟨c768, hf⟩ | ⟨c768, hf⟩
      · exact le_L_law_b2499 lek23 hf hH
      · obtain ⟨rfl, rfl⟩ := Prod.mk.inj (Option.some.inj hf)
        exact gx_le.rf
    replace hf := gx_ite hf
    rcases hf with ⟨c769, hf⟩ | ⟨c769, hf⟩
    · replace hf := gx_bs hf
      obtain ⟨a770, rfl, hf⟩ := hf
      replace hf := gx_b2s hf
      obtain ⟨x772, h773, g771, hf⟩ := hf
      refine (mh_ole hH (le_X1_clearCoverage g771)).tr ?_
      have hH := hH.le (le_X1_clearCoverage g771)
      replace hf := gx_b2s hf
      obtain ⟨x775, h776, g774, hf⟩ := hf
      refine (mh_le (s1 := h776)).tr ?_
      replace hf := gx_ite hf
      rcases hf with ⟨c777, hf⟩ | ⟨c777, hf⟩
      · exact le_L_law_b2499 lek23 hf hH
      · obtain ⟨rfl, rfl⟩ := Prod.mk.inj (Option.some.inj hf)
        exact gx_le.rf
    replace hf := gx_ite hf
    rcases hf with ⟨c778, hf⟩ | ⟨c778, hf⟩
    · replace hf := gx_bs hf
      obtain ⟨x779, g804, hf⟩ := hf
      replace hf := gx_bs hf
      obtain ⟨x780, g803, hf⟩ := hf
      replace hf := gx_bs hf
      obtain ⟨x781, g802, hf⟩ := hf
      replace hf := gx_b2s hf
      obtain ⟨x783, h784, g782, hf⟩ := hf
      refine (mh_ole hH (le_X0_addAlways g782)).tr ?_
      have hH := hH.le (le_X0_addAlways g782)
      replace hf := gx_bs hf
      obtain ⟨x785, g801, hf⟩ := hf
      replace hf := gx_bs hf
      obtain ⟨x786, g800, hf⟩ := hf
      replace hf := gx_bs hf
      obtain ⟨x787, g799, hf⟩ := hf
      replace hf := gx_b2s hf
      obtain ⟨x789, h790, g788, hf⟩ := hf
      refine (mh_le (s1 := h790)).tr ?_
      replace hf := gx_bs hf
      obtain ⟨x792, g791, hf⟩ := hf
      replace hf := gx_ite hf
      rcases hf with ⟨c793, hf⟩ | ⟨c793, hf⟩
      · replace hf := gx_ite hf
        rcases hf with ⟨c794, hf⟩ | ⟨c794, hf⟩
        · replace hf := gx_bs hf
          obtain ⟨a795, rfl, hf⟩ := hf
          replace hf := gx_bs hf
          obtain ⟨x796, g798, hf⟩ := hf
          replace hf := gx_ite hf
          rcases hf with ⟨c797, hf⟩ | ⟨c797, hf⟩
          · exact le_L_law_b2357 lek23 hf hH
          · obtain ⟨rfl, rfl⟩ := Prod.mk.inj (Option.some.inj hf)
            exact gx_le.rf
        · exact le_L_law_b2357 lek23 hf hH
      · obtain ⟨rfl, rfl⟩ := Prod.mk.inj (Option.some.inj hf)
        exact gx_le.rf
    replace hf := gx_ite hf
    rcases hf with ⟨c805, hf⟩ | ⟨c805, hf⟩
    · replace hf := gx_b2s hf
      obtain ⟨x807, h808, g806, hf⟩ := hf
      refine (mh_ole hH (le_X0_undo g806)).tr ?_
      have hH := hH.le (le_X0_undo g806)
      replace hf := gx_b2s hf
      obtain ⟨x810, h811, g809, hf⟩ := hf
      refine (mh_le (s1 := h811)).tr ?_
      replace hf := gx_bs hf
      obtain ⟨x813, g812, hf⟩ := hf
      replace hf := gx_ite hf
      rcases hf with ⟨c814, hf⟩ | ⟨c814, hf⟩
      · replace hf := gx_ite hf
        rcases hf with ⟨c815, hf⟩ | ⟨c815, hf⟩
        · replace hf := gx_bs hf
          obtain ⟨a816, rfl, hf⟩ := hf
          replace hf := gx_bs hf
          obtain ⟨x817, g819, hf⟩ := hf
          replace hf := gx_ite hf
          rcases hf with ⟨c818, hf⟩ | ⟨c818, hf⟩
          · exact le_L_law_b2401 lek23 hf hH
          · obtain ⟨rfl, rfl⟩ := Prod.mk.inj (Option.some.inj hf)
            exact gx_le.rf
        · exact le_L_law_b2401 lek23 hf hH
      · obtain ⟨rfl, rfl⟩ := Prod.mk.inj (Option.some.inj hf)
        exact gx_le.rf
    replace hf := gx_ite hf
    rcases hf with ⟨c820, hf⟩ | ⟨c820, hf⟩
    · replace hf := gx_bs hf
      obtain ⟨a821, rfl, hf⟩ := hf
      replace hf := gx_b2s hf
      obtain ⟨x823, h824, g822, hf⟩ := hf
      refine (mh_ole hH (le_X1_writeConfiguration g822)).tr ?_
      have hH := hH.le (le_X1_writeConfiguration g822)
      replace hf := gx_b2s hf
      obtain ⟨x826, h827, g825, hf⟩ := hf
      refine (mh_le (s1 := h827)).tr ?_
      replace hf := gx_ite hf
      rcases hf with ⟨c828, hf⟩ | ⟨c828, hf⟩
      · exact le_L_law_b2499 lek23 hf hH
      · obtain ⟨rfl, rfl⟩ := Prod.mk.inj (Option.some.inj hf)
        exact gx_le.rf
    replace hf := gx_ite hf
    rcases hf with ⟨c829, hf⟩ | ⟨c829, hf⟩
    · replace hf := gx_bs hf
      obtain ⟨x830, g840, hf⟩ := hf
      replace hf := gx_bs hf
      obtain ⟨a831, rfl, hf⟩ := hf
      replace hf := gx_bs hf
      obtain ⟨x833, g832, hf⟩ := hf
      replace hf := gx_bs hf
      obtain ⟨x834, g839, hf⟩ := hf
      replace hf := gx_b2s hf
      obtain ⟨x836, h837, g835, hf⟩ := hf
      refine (mh_le (s1 := h837)).tr ?_
      replace hf := gx_ite hf
      rcases hf with ⟨c838, hf⟩ | ⟨c838, hf⟩
      · exact le_L_law_b2499 lek23 hf hH
      · obtain ⟨rfl, rfl⟩ := Prod.mk.inj (Option.some.inj hf)
        exact gx_le.rf
    replace hf := gx_ite hf
    rcases hf with ⟨c841, hf⟩ | ⟨c841, hf⟩
    · replace hf := gx_bs hf
      obtain ⟨a842, rfl, hf⟩ := hf
      replace hf := gx_b2s hf
      obtain ⟨x844, h845, g843, hf⟩ := hf
      refine (mh_ole hH (le_X1_saveState g843)).tr ?_
      have hH := hH.le (le_X1_saveState g843)
      replace hf := gx_b2s hf
      obtain ⟨x847, h848, g846, hf⟩ := hf
      refine (mh_le (s1 := h848)).tr ?_
      replace hf := gx_ite hf
      rcases hf with ⟨c849, hf⟩ | ⟨c849, hf⟩
      · exact le_L_law_b2499 lek23 hf hH
      · obtain ⟨rfl, rfl⟩ := Prod.mk.inj (Option.some.inj hf)
        exact gx_le.rf
    replace hf := gx_ite hf
    rcases hf with ⟨c850, hf⟩ | ⟨c850, hf⟩
    · replace hf := gx_b2s hf
      obtain ⟨x852, h853, g851, hf⟩ := hf
      refine (mh_ole hH (le_X0_restoreState g851)).tr ?_
      have hH := hH.le (le_X0_restoreState g851)
      replace hf := gx_b2s hf
      obtain ⟨x855, h856, g854, hf⟩ := hf
      refine (mh_le (s1 := h856)).tr ?_
      replace hf := gx_bs hf
      obtain ⟨x858, g857, hf⟩ := hf
      replace hf := gx_ite hf
      rcases hf with ⟨c859, hf⟩ | ⟨c859, hf⟩
      · replace hf := gx_ite hf
        rcases hf with ⟨c860, hf⟩ | ⟨c860, hf⟩
        · replace hf := gx_bs hf
          obtain ⟨a861, rfl, hf⟩ := hf
          replace hf := gx_bs hf
          obtain ⟨x862, g864, hf⟩ := hf
          replace hf := gx_ite hf
          rcases hf with ⟨c863, hf⟩ | ⟨c863, hf⟩
          · exact le_L_law_b2496 lek23 hf hH
          · obtain ⟨rfl, rfl⟩ := Prod.mk.inj (Option.some.inj hf)
            exact gx_le.rf
        · exact le_L_law_b2496 lek23 hf hH
      · obtain ⟨rfl, rfl⟩ := Prod.mk.inj (Option.some.inj hf)
        exact gx_le.rf
    replace hf := gx_ite hf
    rcases hf with ⟨c865, hf⟩ | ⟨c865, hf⟩
    rotate_left
    · cases hf
    exact le_L_law_b2499 lek23 hf hH
theorem le_L_law_b23 {D : gx_D} {o : Nat} {r : Bool} {hz : HX} : ∀ (n : Nat) ⦃h : (HX × MS)⦄ ⦃v0 : Option Nat⦄ ⦃v1 : Option Nat⦄ ⦃v3 : Option Nat⦄ ⦃v4 : Int32⦄, f_L_law_b23 D o n h v0 v1 v3 v4 = some (r, hz) → mh_hole h.1 o → gx_le (mh h.1 o h.2) hz := by
  intro n
  induction n with
  | zero => intro h v0 v1 v3 v4 hf hH; unfold f_L_law_b23 at hf; cases hf
  | succ n lek23 =>
    intro h v0 v1 v3 v4 hf hH
    unfold f_L_law_b23 at hf
    refine (gx_le.frz (P := law_P h.1 o v1 v3)).tr ?_
    rw [law_fz_mh]
    exact le_L_law_it lek23 hf (law_hole hH)
def f_L_law (D : gx_D) (h : HX) (p0 : Option Nat) : Option ((Bool) × HX) :=
  gx_b2 (hx_new h 15 9 gx_df9) fun a1 h2 =>
  (f_X1_init D h2 a1).bind fun h4 =>
  gx_b2 (hx_new h4 31 31 gx_df31) fun a5 h6 =>
  (f_X9_init D h6 a5).bind fun h8 =>
  gx_b2 (hx_newa h8 2 (1 : Int32) (fun _ => .inr (.inl fun _ => 0))) fun a9 h10 =>
  (mh_sw h10 a5).bind fun x11 =>
  f_L_law_b23 D a5 gx_fuel (x11.1, x11.2) p0 (some a1) (some a9) ((0 : Int32))
theorem w_L_law_b {l : Launch} (hlt : l.stackTraces = false) {p : Program} {e : Env} {R : Room} {s : State} {m : MethodId} {args : Array Value} {below : List Frame} {meth : Method} {c : Code} {D : gx_D} {h0 : HX} {r : Bool} {hz : HX} (C : gx_Ctx p R s m args meth c "ContractMachineLaw" cL_law 9 (some .boolean) 17 396 D h0 hz) (hx : meth.name = "law") {p0 : Option Nat} (hf : f_L_law D h0 p0 = some (r, hz)) : gx_G p l e R s m args below meth c D h0 hz 9 (gx_MQ below args s D h0 hz (some (.int (b2i r)))) 0 [(0, (va_rf p0))] [] h0 := by
  unfold f_L_law at hf
  replace hf := gx_b2s hf
  obtain ⟨a1, h2, g870, hf⟩ := hf
  refine gx_newN C g870 gz_108 tyX1_ok gx_df9_ok q182 q183 q121 dL_law_0 rfl ?_
  refine gx_dup C dL_law_3 rfl ?_
  replace hf := gx_bs hf
  obtain ⟨h4, g3, hf⟩ := hf
  refine gx_callI (st := [(va_rf (some a1))]) C (w_X1_init hlt g3) q184 q185 q121 q186 rfl gz_754 (by decide) rfl rfl (gx_catn (Nat.le_of_ble_eq_true rfl)) dL_law_4 ?_
  refine gx_astn C dL_law_7 1 rfl (by decide) [0]  rfl (gx_okr rfl gx_catv_r gx_ok0) ?_
  replace hf := gx_b2s hf
  obtain ⟨a5, h6, g869, hf⟩ := hf
  refine gx_newN C g869 gz_497 tyX9_ok gx_df31_ok q2596 q2597 q151 dL_law_8 rfl ?_
  refine gx_dup C dL_law_11 rfl ?_
  replace hf := gx_bs hf
  obtain ⟨h8, g7, hf⟩ := hf
  refine gx_callI (st := [(va_rf (some a5))]) C (w_X9_init hlt g7) q2598 q2599 q151 q2600 rfl gz_753 (by decide) rfl rfl (gx_catn (Nat.le_of_ble_eq_true rfl)) dL_law_12 ?_
  refine gx_astn C dL_law_15 2 rfl (by decide) [0, 1]  rfl (gx_okr rfl gx_catv_r (gx_okn rfl rfl gx_ok0)) ?_
  refine gx_iconst (v := 1) C dL_law_16 rfl ?_
  replace hf := gx_b2s hf
  obtain ⟨a9, h10, g868, hf⟩ := hf
  refine gx_newarr_long C g868 q3260 dL_law_17 ?_
  refine gx_astn C dL_law_19 3 rfl (by decide) [0, 1, 2]  rfl (gx_okr rfl gx_catv_r (gx_okn rfl rfl (gx_okn rfl rfl gx_ok0))) ?_
  refine gx_iconst (v := 0) C dL_law_20 rfl ?_
  refine gx_ist C dL_law_21 (by decide) [0, 1, 2, 3]  rfl (gx_okr rfl gx_catv_r (gx_okn rfl rfl (gx_okn rfl rfl (gx_okn rfl rfl gx_ok0)))) ?_
  replace hf := gx_bs hf
  obtain ⟨x11, g12, hf⟩ := hf
  have hH := (mh_sw_ok g12).2
  refine gx_heq (mh_sw_ok g12).1 ?_
  refine gx_sub [4, 3, 2, 1, 0] rfl ?_
  exact w_L_law_b23 hlt C hx gx_fuel hf hH
theorem le_L_law {D : gx_D} {r : Bool} {hz : HX} {h : HX} {p0 : Option Nat} (hf : f_L_law D h p0 = some (r, hz)) : gx_le h hz := by
  unfold f_L_law at hf
  replace hf := gx_b2s hf
  obtain ⟨a1, h2, g870, hf⟩ := hf
  refine (hx_le_new g870).tr ?_
  replace hf := gx_bs hf
  obtain ⟨h4, g3, hf⟩ := hf
  refine (le_X1_init g3).tr ?_
  replace hf := gx_b2s hf
  obtain ⟨a5, h6, g869, hf⟩ := hf
  refine (hx_le_new g869).tr ?_
  replace hf := gx_bs hf
  obtain ⟨h8, g7, hf⟩ := hf
  refine (le_X9_init g7).tr ?_
  replace hf := gx_b2s hf
  obtain ⟨a9, h10, g868, hf⟩ := hf
  refine (hx_le_newa g868).tr ?_
  replace hf := gx_bs hf
  obtain ⟨x11, g12, hf⟩ := hf
  have hH := (mh_sw_ok g12).2
  refine mh_leq (mh_sw_ok g12).1 ?_
  exact le_L_law_b23 gx_fuel hf hH
theorem w_L_law {l : Launch} (hlt : l.stackTraces = false) {D : gx_D} {h : HX} {p0 : Option Nat} {r : Bool} {hz : HX} (hf : f_L_law D h p0 = some (r, hz)) : gx_Met l (⟨"ContractMachineLaw", "law", "([I)Z"⟩ : MethodName) cL_law 9 (some .boolean) 17 396 D [(va_rf p0)] h (some (.int (b2i r))) hz :=
  gx_ofG gz_606 (by simp only [gx_lsr, gx_lsi, gx_lsj, gx_ls0]; decide) (le_L_law hf) (fun p e R s m args below meth c C hx => by
    simp only [gx_lar, gx_lai, gx_laj, gx_la0, Nat.reduceAdd]
    exact w_L_law_b hlt C hx hf)
