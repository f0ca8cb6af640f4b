/-! walks of the component's methods (printed by gen/run.py) -/
set_option maxRecDepth 100000
def f_X6_isOpen (D : gx_D) (h : HX) (a0 : Nat) (p1 : Int32) : Option Bool :=
  (hx_is h a0 [13]).bind fun _ =>
  (hx_gr h a0 [13] 3).bind fun r1 =>
  gx_on r1 (
  some true) fun a2 =>
  (hx_gr h a0 [13] 3).bind fun r3 =>
  r3.bind fun a4 =>
  (f_X7_holds D h a4 p1).bind fun b6 =>
  if b6 = true then
  some true
  else
  some false
theorem is_X6_isOpen {D : gx_D} {h : HX} {a0 : Nat} {p1 : Int32} {z} (hf : f_X6_isOpen D h a0 p1 = some z) : gx_isC h a0 [13] := by
  unfold f_X6_isOpen at hf
  obtain ⟨_, g, -⟩ := gx_bs hf
  exact hx_is_of g
theorem w_X6_isOpen_b {l : Launch} (hlt : l.stackTraces = false) {p : Program} {e : Env} {R : Room} {s : State} {m : MethodId} {args : Array Value} {below : List Frame} {meth : Method} {c : Code} {D : gx_D} {h0 : HX} {r : Bool} (C : gx_Ctx p R s m args meth c "ContractMachine$Transition" cX6_isOpen 2 (some .boolean) 4 86 D h0 h0) (hx : meth.name = "isOpen") {a0 : Nat} {p1 : Int32} (hf : f_X6_isOpen D h0 a0 p1 = some r) : gx_G p l e R s m args below meth c D h0 h0 2 (gx_MQ below args s D h0 h0 (some (.int (b2i r)))) 0 [(0, (va_rf (some a0))), (1, (.int p1))] [] h0 := by
  unfold f_X6_isOpen at hf
  replace hf := gx_bs hf
  obtain ⟨_, -, hf⟩ := hf
  refine gx_aload_n C dX6_isOpen_0 0 rfl ?_
  replace hf := gx_bs hf
  obtain ⟨r1, g9, hf⟩ := hf
  refine gx_gr C g9 gz_4 q818 dX6_isOpen_1 ?_
  rcases r1 with _ | a2
  · replace hf := gx_on_n hf
    refine gx_ifnull_t (tgt := 18) C dX6_isOpen_4 rfl ?_
    refine gx_iconst (v := 1) C dX6_isOpen_18 rfl ?_
    refine gx_goto (tgt := 23) C dX6_isOpen_19 rfl ?_
    obtain rfl := Option.some.inj hf
    exact gx_zret (b := true) C dX6_isOpen_23
  · replace hf := gx_on_s hf
    refine gx_ifnull_f C dX6_isOpen_4 ?_
    refine gx_aload_n C dX6_isOpen_7 0 rfl ?_
    replace hf := gx_bs hf
    obtain ⟨r3, g8, hf⟩ := hf
    refine gx_gr C g8 gz_4 q818 dX6_isOpen_8 ?_
    refine gx_iload_n C dX6_isOpen_11 1 rfl ?_
    replace hf := gx_bs hf
    obtain ⟨a4, rfl, hf⟩ := hf
    replace hf := gx_bs hf
    obtain ⟨b6, g5, hf⟩ := hf
    refine gx_callV (st := []) C (w_X7_holds hlt g5) (is_X7_holds g5) gz_107 rfl (lw_V q1798 q1444 q1445 q149 q1446) gz_217 (by decide) rfl rfl (gx_catn (Nat.le_of_ble_eq_true rfl)) dX6_isOpen_12 ?_
    replace hf := gx_ite hf
    rcases hf with ⟨c7, hf⟩ | ⟨c7, hf⟩
    · refine gx_ifz_eq_f (tgt := 22) C dX6_isOpen_15 rfl c7 ?_
      refine gx_iconst (v := 1) C dX6_isOpen_18 rfl ?_
      refine gx_goto (tgt := 23) C dX6_isOpen_19 rfl ?_
      obtain rfl := Option.some.inj hf
      exact gx_zret (b := true) C dX6_isOpen_23
    · refine gx_ifz_eq_t (tgt := 22) C dX6_isOpen_15 rfl c7 ?_
      refine gx_iconst (v := 0) C dX6_isOpen_22 rfl ?_
      obtain rfl := Option.some.inj hf
      exact gx_zret (b := false) C dX6_isOpen_23
theorem w_X6_isOpen {l : Launch} (hlt : l.stackTraces = false) {D : gx_D} {h : HX} {a0 : Nat} {p1 : Int32} {r : Bool} (hf : f_X6_isOpen D h a0 p1 = some r) : gx_Met l yX6_isOpen cX6_isOpen 2 (some .boolean) 4 86 D [(va_rf (some a0)), (.int p1)] h (some (.int (b2i r))) h :=
  gx_ofG gz_8 (by simp only [gx_lsr, gx_lsi, gx_lsj, gx_ls0]; decide) gx_le.rf (fun p e R s m args below meth c C hx => by
    simp only [gx_lar, gx_lai, gx_laj, gx_la0, Nat.reduceAdd]
    exact w_X6_isOpen_b hlt C hx hf)
def f_X3_choose_b66 (D : gx_D) (k9 : HX → Nat → Int32 → Int32 → Int32 → Int32 → Option Int32) (h : HX) (v0 : Nat) (v1 : Int32) (v2 : Int32) (v3 : Int32) (v4 : Int32) : Option Int32 :=
  k9 h v0 v1 v2 v3 ((v4 + (1 : Int32)))
theorem w_X3_choose_b66 {l : Launch} (hlt : l.stackTraces = false) {p : Program} {e : Env} {R : Room} {s : State} {m : MethodId} {args : Array Value} {below : List Frame} {meth : Method} {c : Code} {D : gx_D} {h0 : HX} {r : Int32} (C : gx_Ctx p R s m args meth c "ContractMachine$Definition" cX3_choose 6 (some .int) 5 107 D h0 h0) (hx : meth.name = "choose")  {k9 : HX → Nat → Int32 → Int32 → Int32 → Int32 → Option Int32} (wk9 : ∀ ⦃v0 : Nat⦄ ⦃v1 : Int32⦄ ⦃v2 : Int32⦄ ⦃v3 : Int32⦄ ⦃v4 : Int32⦄, k9 h0 v0 v1 v2 v3 v4 = some r → gx_G p l e R s m args below meth c D h0 h0 6 (gx_MQ below args s D h0 h0 (some (.int r))) 9 [(0, (va_rf (some v0))), (1, (.int v1)), (2, (.int v2)), (3, (.int v3)), (4, (.int v4))] [] h0) {v0 : Nat} {v1 : Int32} {v2 : Int32} {v3 : Int32} {v4 : Int32} (hf : f_X3_choose_b66 D k9 h0 v0 v1 v2 v3 v4 = some r) : gx_G p l e R s m args below meth c D h0 h0 6 (gx_MQ below args s D h0 h0 (some (.int r))) 66 [(0, (va_rf (some v0))), (1, (.int v1)), (2, (.int v2)), (3, (.int v3)), (4, (.int v4))] [] h0 := by
  unfold f_X3_choose_b66 at hf
  refine gx_inc (v := 1) C dX3_choose_66 4 rfl rfl (by decide) [0, 1, 2, 3] rfl (gx_okn rfl rfl (gx_okn rfl rfl (gx_okn rfl rfl (gx_okr rfl gx_catv_i gx_ok0)))) ?_
  refine gx_goto (tgt := 9) C dX3_choose_69 rfl ?_
  refine gx_sub [1, 2, 3, 4, 0] rfl ?_
  exact wk9 hf
def f_X3_choose_b9 (D : gx_D) : Nat → HX → Nat → Int32 → Int32 → Int32 → Int32 → Option Int32
  | 0, _, _, _, _, _, _ => none
  | n + 1, h, v0, v1, v2, v3, v4 =>
  (hx_gr h v0 [10] 3).bind fun r1 =>
  r1.bind fun a2 =>
  (f_J2_size D h a2).bind fun x4 =>
  if x4 ≤ v4 then
  some ((-1 : Int32))
  else
  (hx_gr h v0 [10] 3).bind fun r6 =>
  r6.bind fun a7 =>
  (f_J2_get D h a7 v4).bind fun r9 =>
  (hx_cast h r9 [13]).bind fun u10 =>
  (f_X3_isFor D h v0 r9 v3 v2).bind fun b12 =>
  if b12 = true then
  r9.bind fun a14 =>
  (f_X6_isOpen D h a14 (v1 - v1 / (1000 : Int32) * (1000 : Int32))).bind fun b16 =>
  if b16 = true then
  some v4
  else
  f_X3_choose_b66 D (f_X3_choose_b9 D n) h v0 v1 v2 v3 v4
  else
  f_X3_choose_b66 D (f_X3_choose_b9 D n) h v0 v1 v2 v3 v4
theorem w_X3_choose_b9 {l : Launch} (hlt : l.stackTraces = false) {p : Program} {e : Env} {R : Room} {s : State} {m : MethodId} {args : Array Value} {below : List Frame} {meth : Method} {c : Code} {D : gx_D} {h0 : HX} {r : Int32} (C : gx_Ctx p R s m args meth c "ContractMachine$Definition" cX3_choose 6 (some .int) 5 107 D h0 h0) (hx : meth.name = "choose")  : ∀ (n : Nat) ⦃v0 : Nat⦄ ⦃v1 : Int32⦄ ⦃v2 : Int32⦄ ⦃v3 : Int32⦄ ⦃v4 : Int32⦄, f_X3_choose_b9 D n h0 v0 v1 v2 v3 v4 = some r → gx_G p l e R s m args below meth c D h0 h0 6 (gx_MQ below args s D h0 h0 (some (.int r))) 9 [(0, (va_rf (some v0))), (1, (.int v1)), (2, (.int v2)), (3, (.int v3)), (4, (.int v4))] [] h0 := by
  intro n
  induction n with
  | zero => intro v0 v1 v2 v3 v4 hf; unfold f_X3_choose_b9 at hf; cases hf
  | succ n wk9 =>
    intro v0 v1 v2 v3 v4 hf
    unfold f_X3_choose_b9 at hf
    refine gx_iload C dX3_choose_9 4 rfl ?_
    refine gx_aload_n C dX3_choose_11 0 rfl ?_
    replace hf := gx_bs hf
    obtain ⟨r1, g20, hf⟩ := hf
    refine gx_gr C g20 gz_21 q570 dX3_choose_12 ?_
    replace hf := gx_bs hf
    obtain ⟨a2, rfl, hf⟩ := hf
    replace hf := gx_bs hf
    obtain ⟨x4, g3, hf⟩ := hf
    refine gx_callF (st := [(.int v4)]) C (w_J2_size hlt g3) (is_J2_size g3) q767 (gx_cis1 gz_19 ⟨gz_51, q770⟩ gx_cis0) q772 q127 q774 gz_50 (by decide) rfl rfl (gx_catn (Nat.le_of_ble_eq_true rfl)) dX3_choose_15 ?_
    replace hf := gx_ite hf
    rcases hf with ⟨c5, hf⟩ | ⟨c5, hf⟩
    · refine gx_icmp_ge_t (tgt := 72) C dX3_choose_20 rfl c5 ?_
      refine gx_iconst (v := -1) C dX3_choose_72 rfl ?_
      obtain rfl := Option.some.inj hf
      exact gx_iret C dX3_choose_73
    · refine gx_icmp_ge_f (tgt := 72) C dX3_choose_20 rfl c5 ?_
      refine gx_aload_n C dX3_choose_23 0 rfl ?_
      replace hf := gx_bs hf
      obtain ⟨r6, g19, hf⟩ := hf
      refine gx_gr C g19 gz_21 q570 dX3_choose_24 ?_
      refine gx_iload C dX3_choose_27 4 rfl ?_
      replace hf := gx_bs hf
      obtain ⟨a7, rfl, hf⟩ := hf
      replace hf := gx_bs hf
      obtain ⟨r9, g8, hf⟩ := hf
      refine gx_callF (st := []) C (w_J2_get hlt g8) (is_J2_get g8) q1304 (gx_cis1 gz_19 ⟨gz_222, q1307⟩ gx_cis0) q1309 q127 q1311 gz_221 (by decide) rfl rfl (gx_catn (Nat.le_of_ble_eq_true rfl)) dX3_choose_29 ?_
      replace hf := gx_bs hf
      obtain ⟨u10, g18, hf⟩ := hf
      refine gx_cast C g18 gz_295 q1789 dX3_choose_34 ?_
      refine gx_ast C dX3_choose_37 (by decide) [0, 1, 2, 3, 4]  rfl (gx_okn rfl rfl (gx_okn rfl rfl (gx_okn rfl rfl (gx_okn rfl rfl (gx_okr rfl gx_catv_i gx_ok0))))) ?_
      refine gx_aload_n C dX3_choose_39 1 rfl ?_
      refine gx_aload C dX3_choose_40 0 rfl ?_
      refine gx_iload_n C dX3_choose_42 4 rfl ?_
      refine gx_iload_n C dX3_choose_43 3 rfl ?_
      replace hf := gx_bs hf
      obtain ⟨b12, g11, hf⟩ := hf
      refine gx_callV (st := []) C (w_X3_isFor hlt g11) (is_X3_isFor g11) gz_111 rfl (lw_V q1790 q1792 qs34 q124 q1793) gz_296 (by decide) rfl rfl (gx_catn (Nat.le_of_ble_eq_true rfl)) dX3_choose_44 ?_
      replace hf := gx_ite hf
      rcases hf with ⟨c13, hf⟩ | ⟨c13, hf⟩
      · refine gx_ifz_eq_f (tgt := 66) C dX3_choose_47 rfl c13 ?_
        refine gx_aload C dX3_choose_50 0 rfl ?_
        refine gx_iload_n C dX3_choose_52 2 rfl ?_
        refine gx_sipush (v := 1000) C dX3_choose_53 rfl ?_
        refine gx_irem C dX3_choose_56 (by decide) ?_
        replace hf := gx_bs hf
        obtain ⟨a14, rfl, hf⟩ := hf
        replace hf := gx_bs hf
        obtain ⟨b16, g15, hf⟩ := hf
        refine gx_callV (st := []) C (w_X6_isOpen hlt g15) (is_X6_isOpen g15) gz_12 rfl (lw_V q1794 q1795 q1796 q148 q1797) gz_297 (by decide) rfl rfl (gx_catn (Nat.le_of_ble_eq_true rfl)) dX3_choose_57 ?_
        replace hf := gx_ite hf
        rcases hf with ⟨c17, hf⟩ | ⟨c17, hf⟩
        · refine gx_ifz_eq_f (tgt := 66) C dX3_choose_60 rfl c17 ?_
          refine gx_iload C dX3_choose_63 5 rfl ?_
          obtain rfl := Option.some.inj hf
          exact gx_iret C dX3_choose_65
        · refine gx_ifz_eq_t (tgt := 66) C dX3_choose_60 rfl c17 ?_
          refine gx_sub [1, 2, 3, 4, 5] rfl ?_
          exact w_X3_choose_b66 hlt C hx wk9 hf
      · refine gx_ifz_eq_t (tgt := 66) C dX3_choose_47 rfl c13 ?_
        refine gx_sub [1, 2, 3, 4, 5] rfl ?_
        exact w_X3_choose_b66 hlt C hx wk9 hf
def f_X3_choose (D : gx_D) (h : HX) (a0 : Nat) (p1 : Int32) (p2 : Int32) : Option Int32 :=
  (hx_is h a0 [10]).bind fun _ =>
  f_X3_choose_b9 D gx_fuel h a0 p1 p2 ((p1 / (1000 : Int32))) ((0 : Int32))
theorem is_X3_choose {D : gx_D} {h : HX} {a0 : Nat} {p1 : Int32} {p2 : Int32} {z} (hf : f_X3_choose D h a0 p1 p2 = some z) : gx_isC h a0 [10] := by
  unfold f_X3_choose at hf
  obtain ⟨_, g, -⟩ := gx_bs hf
  exact hx_is_of g
theorem w_X3_choose_b {l : Launch} (hlt : l.stackTraces = false) {p : Program} {e : Env} {R : Room} {s : State} {m : MethodId} {args : Array Value} {below : List Frame} {meth : Method} {c : Code} {D : gx_D} {h0 : HX} {r : Int32} (C : gx_Ctx p R s m args meth c "ContractMachine$Definition" cX3_choose 6 (some .int) 5 107 D h0 h0) (hx : meth.name = "choose") {a0 : Nat} {p1 : Int32} {p2 : Int32} (hf : f_X3_choose D h0 a0 p1 p2 = some r) : gx_G p l e R s m args below meth c D h0 h0 6 (gx_MQ below args s D h0 h0 (some (.int r))) 0 [(0, (va_rf (some a0))), (1, (.int p1)), (2, (.int p2))] [] h0 := by
  unfold f_X3_choose at hf
  replace hf := gx_bs hf
  obtain ⟨_, -, hf⟩ := hf
  refine gx_iload_n C dX3_choose_0 1 rfl ?_
  refine gx_sipush (v := 1000) C dX3_choose_1 rfl ?_
  refine gx_idiv C dX3_choose_4 (by decide) ?_
  refine gx_istn C dX3_choose_5 3 rfl (by decide) [0, 1, 2]  rfl (gx_okn rfl rfl (gx_okn rfl rfl (gx_okr rfl gx_catv_i gx_ok0))) ?_
  refine gx_iconst (v := 0) C dX3_choose_6 rfl ?_
  refine gx_ist C dX3_choose_7 (by decide) [0, 1, 2, 3]  rfl (gx_okr rfl gx_catv_i (gx_okn rfl rfl (gx_okn rfl rfl (gx_okn rfl rfl gx_ok0)))) ?_
  refine gx_sub [2, 3, 4, 1, 0] rfl ?_
  exact w_X3_choose_b9 hlt C hx gx_fuel hf
theorem w_X3_choose {l : Launch} (hlt : l.stackTraces = false) {D : gx_D} {h : HX} {a0 : Nat} {p1 : Int32} {p2 : Int32} {r : Int32} (hf : f_X3_choose D h a0 p1 p2 = some r) : gx_Met l yX3_choose cX3_choose 6 (some .int) 5 107 D [(va_rf (some a0)), (.int p1), (.int p2)] h (some (.int r)) h :=
  gx_ofG gz_48 (by simp only [gx_lsr, gx_lsi, gx_lsj, gx_ls0]; decide) gx_le.rf (fun p e R s m args below meth c C hx => by
    simp only [gx_lar, gx_lai, gx_laj, gx_la0, Nat.reduceAdd]
    exact w_X3_choose_b hlt C hx hf)
def f_X28_apply (D : gx_D) (h : HX) (a0 : Nat) (p1 : Int32) (p2 : Int32) : Option Int32 :=
  some ((p1 + p2))
theorem w_X28_apply_b {l : Launch} (hlt : l.stackTraces = false) {p : Program} {e : Env} {R : Room} {s : State} {m : MethodId} {args : Array Value} {below : List Frame} {meth : Method} {c : Code} {D : gx_D} {h0 : HX} {r : Int32} (C : gx_Ctx p R s m args meth c "ContractMachine$Effect$1" cX28_apply 3 (some .int) 1 24 D h0 h0) (hx : meth.name = "apply") {a0 : Nat} {p1 : Int32} {p2 : Int32} (hf : f_X28_apply D h0 a0 p1 p2 = some r) : gx_G p l e R s m args below meth c D h0 h0 3 (gx_MQ below args s D h0 h0 (some (.int r))) 0 [(0, (va_rf (some a0))), (1, (.int p1)), (2, (.int p2))] [] h0 := by
  unfold f_X28_apply at hf
  refine gx_iload_n C dX28_apply_0 1 rfl ?_
  refine gx_iload_n C dX28_apply_1 2 rfl ?_
  refine gx_iadd C dX28_apply_2 ?_
  obtain rfl := Option.some.inj hf
  exact gx_iret C dX28_apply_3
theorem w_X28_apply {l : Launch} (hlt : l.stackTraces = false) {D : gx_D} {h : HX} {a0 : Nat} {p1 : Int32} {p2 : Int32} {r : Int32} (hf : f_X28_apply D h a0 p1 p2 = some r) : gx_NMet l yX28_apply cX28_apply 3 (some .int) 1 24 D [(va_rf (some a0)), (.int p1), (.int p2)] h (some (.int r)) h :=
  gx_ofGN gz_298 (by simp only [gx_lsr, gx_lsi, gx_lsj, gx_ls0]; decide) gx_le.rf (fun p e R s m args below meth c C hx => by
    simp only [gx_lar, gx_lai, gx_laj, gx_la0, Nat.reduceAdd]
    exact w_X28_apply_b hlt C hx hf)
def f_X29_apply (D : gx_D) (h : HX) (a0 : Nat) (p1 : Int32) (p2 : Int32) : Option Int32 :=
  some ((p1 - p2))
theorem w_X29_apply_b {l : Launch} (hlt : l.stackTraces = false) {p : Program} {e : Env} {R : Room} {s : State} {m : MethodId} {args : Array Value} {below : List Frame} {meth : Method} {c : Code} {D : gx_D} {h0 : HX} {r : Int32} (C : gx_Ctx p R s m args meth c "ContractMachine$Effect$2" cX29_apply 3 (some .int) 1 24 D h0 h0) (hx : meth.name = "apply") {a0 : Nat} {p1 : Int32} {p2 : Int32} (hf : f_X29_apply D h0 a0 p1 p2 = some r) : gx_G p l e R s m args below meth c D h0 h0 3 (gx_MQ below args s D h0 h0 (some (.int r))) 0 [(0, (va_rf (some a0))), (1, (.int p1)), (2, (.int p2))] [] h0 := by
  unfold f_X29_apply at hf
  refine gx_iload_n C dX29_apply_0 1 rfl ?_
  refine gx_iload_n C dX29_apply_1 2 rfl ?_
  refine gx_isub C dX29_apply_2 ?_
  obtain rfl := Option.some.inj hf
  exact gx_iret C dX29_apply_3
theorem w_X29_apply {l : Launch} (hlt : l.stackTraces = false) {D : gx_D} {h : HX} {a0 : Nat} {p1 : Int32} {p2 : Int32} {r : Int32} (hf : f_X29_apply D h a0 p1 p2 = some r) : gx_NMet l yX29_apply cX29_apply 3 (some .int) 1 24 D [(va_rf (some a0)), (.int p1), (.int p2)] h (some (.int r)) h :=
  gx_ofGN gz_299 (by simp only [gx_lsr, gx_lsi, gx_lsj, gx_ls0]; decide) gx_le.rf (fun p e R s m args below meth c C hx => by
    simp only [gx_lar, gx_lai, gx_laj, gx_la0, Nat.reduceAdd]
    exact w_X29_apply_b hlt C hx hf)
def f_X30_apply (D : gx_D) (h : HX) (a0 : Nat) (p1 : Int32) (p2 : Int32) : Option Int32 :=
  some p2
theorem w_X30_apply_b {l : Launch} (hlt : l.stackTraces = false) {p : Program} {e : Env} {R : Room} {s : State} {m : MethodId} {args : Array Value} {below : List Frame} {meth : Method} {c : Code} {D : gx_D} {h0 : HX} {r : Int32} (C : gx_Ctx p R s m args meth c "ContractMachine$Effect$3" cX30_apply 3 (some .int) 1 24 D h0 h0) (hx : meth.name = "apply") {a0 : Nat} {p1 : Int32} {p2 : Int32} (hf : f_X30_apply D h0 a0 p1 p2 = some r) : gx_G p l e R s m args below meth c D h0 h0 3 (gx_MQ below args s D h0 h0 (some (.int r))) 0 [(0, (va_rf (some a0))), (1, (.int p1)), (2, (.int p2))] [] h0 := by
  unfold f_X30_apply at hf
  refine gx_iload_n C dX30_apply_0 2 rfl ?_
  obtain rfl := Option.some.inj hf
  exact gx_iret C dX30_apply_1
theorem w_X30_apply {l : Launch} (hlt : l.stackTraces = false) {D : gx_D} {h : HX} {a0 : Nat} {p1 : Int32} {p2 : Int32} {r : Int32} (hf : f_X30_apply D h a0 p1 p2 = some r) : gx_NMet l yX30_apply cX30_apply 3 (some .int) 1 24 D [(va_rf (some a0)), (.int p1), (.int p2)] h (some (.int r)) h :=
  gx_ofGN gz_300 (by simp only [gx_lsr, gx_lsi, gx_lsj, gx_ls0]; decide) gx_le.rf (fun p e R s m args below meth c C hx => by
    simp only [gx_lar, gx_lai, gx_laj, gx_la0, Nat.reduceAdd]
    exact w_X30_apply_b hlt C hx hf)
def f_X5_apply_b21 (D : gx_D) (h : HX) (v0 : Nat) (v1 : Int32) (v2 : Int32) (s0 : Int32) : Option Int32 :=
  (f_X1_isWithin D h (Int32.toInt64 s0) (0 : Int64) (9 : Int64)).bind fun b11 =>
  if b11 = true then
  (hx_gi h v0 [12] 0).bind fun x13 =>
  (f_X1_weight D h x13).bind fun x15 =>
  some ((v1 + ((s0 - v2) * x15)))
  else
  some ((-1 : Int32))
theorem w_X5_apply_b21 {l : Launch} (hlt : l.stackTraces = false) {p : Program} {e : Env} {R : Room} {s : State} {m : MethodId} {args : Array Value} {below : List Frame} {meth : Method} {c : Code} {D : gx_D} {h0 : HX} {r : Int32} (C : gx_Ctx p R s m args meth c "ContractMachine$Action" cX5_apply 4 (some .int) 3 65 D h0 h0) (hx : meth.name = "apply")  {v0 : Nat} {v1 : Int32} {v2 : Int32} {s0 : Int32} (hf : f_X5_apply_b21 D h0 v0 v1 v2 s0 = some r) : gx_G p l e R s m args below meth c D h0 h0 4 (gx_MQ below args s D h0 h0 (some (.int r))) 21 [(0, (va_rf (some v0))), (1, (.int v1)), (2, (.int v2))] [(.int s0)] h0 := by
  unfold f_X5_apply_b21 at hf
  refine gx_istn C dX5_apply_21 3 rfl (by decide) [0, 1, 2]  rfl (gx_okn rfl rfl (gx_okn rfl rfl (gx_okr rfl gx_catv_i gx_ok0))) ?_
  refine gx_iload_n C dX5_apply_22 0 rfl ?_
  refine gx_i2l C dX5_apply_23 ?_
  refine gx_lconst (v := 0) C dX5_apply_24 rfl ?_
  refine gx_ldc2 C q1826 dX5_apply_25 ?_
  replace hf := gx_bs hf
  obtain ⟨b11, g10, hf⟩ := hf
  refine gx_callSN (st := []) C (w_X1_isWithin hlt g10) q1827 q954 q121 q955 gz_121 (by decide) rfl rfl (gx_catn (Nat.le_of_ble_eq_true rfl)) dX5_apply_28 ?_
  replace hf := gx_ite hf
  rcases hf with ⟨c12, hf⟩ | ⟨c12, hf⟩
  · refine gx_ifz_eq_f (tgt := 50) C dX5_apply_31 rfl c12 ?_
    refine gx_iload_n C dX5_apply_34 2 rfl ?_
    refine gx_iload_n C dX5_apply_35 0 rfl ?_
    refine gx_iload_n C dX5_apply_36 3 rfl ?_
    refine gx_isub C dX5_apply_37 ?_
    refine gx_aload_n C dX5_apply_38 1 rfl ?_
    replace hf := gx_bs hf
    obtain ⟨x13, g16, hf⟩ := hf
    refine gx_gi C g16 gz_29 q789 dX5_apply_39 ?_
    replace hf := gx_bs hf
    obtain ⟨x15, g14, hf⟩ := hf
    refine gx_callSN (st := [(.int (s0 - v2)), (.int v1)]) C (w_X1_weight hlt g14) q1828 q776 q121 q777 gz_52 (by decide) rfl rfl (gx_catn (Nat.le_of_ble_eq_true rfl)) dX5_apply_42 ?_
    refine gx_imul C dX5_apply_45 ?_
    refine gx_iadd C dX5_apply_46 ?_
    refine gx_goto (tgt := 51) C dX5_apply_47 rfl ?_
    obtain rfl := Option.some.inj hf
    exact gx_iret C dX5_apply_51
  · refine gx_ifz_eq_t (tgt := 50) C dX5_apply_31 rfl c12 ?_
    refine gx_iconst (v := -1) C dX5_apply_50 rfl ?_
    obtain rfl := Option.some.inj hf
    exact gx_iret C dX5_apply_51
def f_X5_apply (D : gx_D) (h : HX) (a0 : Nat) (p1 : Int32) : Option Int32 :=
  (hx_is h a0 [12]).bind fun _ =>
  (hx_gi h a0 [12] 0).bind fun x1 =>
  (f_X1_valueIn D h p1 x1).bind fun x3 =>
  (hx_gr h a0 [12] 2).bind fun r4 =>
  (hx_gi h a0 [12] 1).bind fun x5 =>
  r4.bind fun a6 =>
  if a6 = D.2.2.1 110 then
  (f_X28_apply D h (D.2.2.1 110) x3 x5).bind fun x9 =>
  f_X5_apply_b21 D h a0 p1 x3 x9
  else
  if a6 = D.2.2.1 111 then
  (f_X29_apply D h (D.2.2.1 111) x3 x5).bind fun x19 =>
  f_X5_apply_b21 D h a0 p1 x3 x19
  else
  if a6 = D.2.2.1 112 then
  (f_X30_apply D h (D.2.2.1 112) x3 x5).bind fun x22 =>
  f_X5_apply_b21 D h a0 p1 x3 x22
  else
  none
theorem is_X5_apply {D : gx_D} {h : HX} {a0 : Nat} {p1 : Int32} {z} (hf : f_X5_apply D h a0 p1 = some z) : gx_isC h a0 [12] := by
  unfold f_X5_apply at hf
  obtain ⟨_, g, -⟩ := gx_bs hf
  exact hx_is_of g
theorem w_X5_apply_b {l : Launch} (hlt : l.stackTraces = false) {p : Program} {e : Env} {R : Room} {s : State} {m : MethodId} {args : Array Value} {below : List Frame} {meth : Method} {c : Code} {D : gx_D} {h0 : HX} {r : Int32} (C : gx_Ctx p R s m args meth c "ContractMachine$Action" cX5_apply 4 (some .int) 3 65 D h0 h0) (hx : meth.name = "apply") {a0 : Nat} {p1 : Int32} (hf : f_X5_apply D h0 a0 p1 = some r) : gx_G p l e R s m args below meth c D h0 h0 4 (gx_MQ below args s D h0 h0 (some (.int r))) 0 [(0, (va_rf (some a0))), (1, (.int p1))] [] h0 := by
  unfold f_X5_apply at hf
  replace hf := gx_bs hf
  obtain ⟨_, -, hf⟩ := hf
  refine gx_iload_n C dX5_apply_0 1 rfl ?_
  refine gx_aload_n C dX5_apply_1 0 rfl ?_
  replace hf := gx_bs hf
  obtain ⟨x1, g25, hf⟩ := hf
  refine gx_gi C g25 gz_29 q789 dX5_apply_2 ?_
  replace hf := gx_bs hf
  obtain ⟨x3, g2, hf⟩ := hf
  refine gx_callSN (st := []) C (w_X1_valueIn hlt g2) q1813 q1448 q121 q1449 gz_216 (by decide) rfl rfl (gx_catn (Nat.le_of_ble_eq_true rfl)) dX5_apply_5 ?_
  refine gx_istn C dX5_apply_8 2 rfl (by decide) [0, 1]  rfl (gx_okn rfl rfl (gx_okr rfl gx_catv_i gx_ok0)) ?_
  refine gx_aload_n C dX5_apply_9 1 rfl ?_
  replace hf := gx_bs hf
  obtain ⟨r4, g24, hf⟩ := hf
  refine gx_gr C g24 gz_30 q791 dX5_apply_10 ?_
  refine gx_iload_n C dX5_apply_13 0 rfl ?_
  refine gx_aload_n C dX5_apply_14 1 rfl ?_
  replace hf := gx_bs hf
  obtain ⟨x5, g23, hf⟩ := hf
  refine gx_gi C g23 gz_32 q790 dX5_apply_15 ?_
  replace hf := gx_bs hf
  obtain ⟨a6, rfl, hf⟩ := hf
  replace hf := gx_ite hf
  rcases hf with ⟨c7, hf⟩ | ⟨c7, hf⟩
  · subst c7
    replace hf := gx_bs hf
    obtain ⟨x9, g8, hf⟩ := hf
    refine gx_callEN (st := []) C 6 rfl (w_X28_apply hlt g8) q1814 q1816 q1815 ⟨by decide, by decide⟩ q1817 q1818 q1819 gz_301 (by decide) rfl rfl (gx_catn (Nat.le_of_ble_eq_true rfl)) dX5_apply_18 ?_
    refine gx_sub [1, 2, 0] rfl ?_
    exact w_X5_apply_b21 hlt C hx hf
  replace hf := gx_ite hf
  rcases hf with ⟨c17, hf⟩ | ⟨c17, hf⟩
  · subst c17
    replace hf := gx_bs hf
    obtain ⟨x19, g18, hf⟩ := hf
    refine gx_callEN (st := []) C 7 rfl (w_X29_apply hlt g18) q1814 q1816 q1815 ⟨by decide, by decide⟩ q1820 q1821 q1822 gz_301 (by decide) rfl rfl (gx_catn (Nat.le_of_ble_eq_true rfl)) dX5_apply_18 ?_
    refine gx_sub [1, 2, 0] rfl ?_
    exact w_X5_apply_b21 hlt C hx hf
  replace hf := gx_ite hf
  rcases hf with ⟨c20, hf⟩ | ⟨c20, hf⟩
  · subst c20
    replace hf := gx_bs hf
    obtain ⟨x22, g21, hf⟩ := hf
    refine gx_callEN (st := []) C 8 rfl (w_X30_apply hlt g21) q1814 q1816 q1815 ⟨by decide, by decide⟩ q1823 q1824 q1825 gz_301 (by decide) rfl rfl (gx_catn (Nat.le_of_ble_eq_true rfl)) dX5_apply_18 ?_
    refine gx_sub [1, 2, 0] rfl ?_
    exact w_X5_apply_b21 hlt C hx hf
  cases hf
theorem w_X5_apply {l : Launch} (hlt : l.stackTraces = false) {D : gx_D} {h : HX} {a0 : Nat} {p1 : Int32} {r : Int32} (hf : f_X5_apply D h a0 p1 = some r) : gx_Met l yX5_apply cX5_apply 4 (some .int) 3 65 D [(va_rf (some a0)), (.int p1)] h (some (.int r)) h :=
  gx_ofG gz_33 (by simp only [gx_lsr, gx_lsi, gx_lsj, gx_ls0]; decide) gx_le.rf (fun p e R s m args below meth c C hx => by
    simp only [gx_lar, gx_lai, gx_laj, gx_la0, Nat.reduceAdd]
    exact w_X5_apply_b hlt C hx hf)
def f_X6_next_b19 (D : gx_D) (h : HX) (v0 : Nat) (s0 : Int32) : Option Int32 :=
  if s0 = (-1 : Int32) then
  some ((-1 : Int32))
  else
  (hx_gi h v0 [13] 2).bind fun x4 =>
  some (((x4 * (1000 : Int32)) + s0))
theorem w_X6_next_b19 {l : Launch} (hlt : l.stackTraces = false) {p : Program} {e : Env} {R : Room} {s : State} {m : MethodId} {args : Array Value} {below : List Frame} {meth : Method} {c : Code} {D : gx_D} {h0 : HX} {r : Int32} (C : gx_Ctx p R s m args meth c "ContractMachine$Transition" cX6_next 3 (some .int) 4 88 D h0 h0) (hx : meth.name = "next")  {v0 : Nat} {s0 : Int32} (hf : f_X6_next_b19 D h0 v0 s0 = some r) : gx_G p l e R s m args below meth c D h0 h0 3 (gx_MQ below args s D h0 h0 (some (.int r))) 19 [(0, (va_rf (some v0)))] [(.int s0)] h0 := by
  unfold f_X6_next_b19 at hf
  refine gx_istn C dX6_next_19 2 rfl (by decide) [0]  rfl (gx_okn rfl rfl gx_ok0) ?_
  refine gx_iload_n C dX6_next_20 0 rfl ?_
  refine gx_iconst (v := -1) C dX6_next_21 rfl ?_
  replace hf := gx_ite hf
  rcases hf with ⟨c3, hf⟩ | ⟨c3, hf⟩
  · refine gx_icmp_ne_f (tgt := 29) C dX6_next_22 rfl c3 ?_
    refine gx_iconst (v := -1) C dX6_next_25 rfl ?_
    refine gx_goto (tgt := 39) C dX6_next_26 rfl ?_
    obtain rfl := Option.some.inj hf
    exact gx_iret C dX6_next_39
  · refine gx_icmp_ne_t (tgt := 29) C dX6_next_22 rfl c3 ?_
    refine gx_aload_n C dX6_next_29 1 rfl ?_
    replace hf := gx_bs hf
    obtain ⟨x4, g5, hf⟩ := hf
    refine gx_gi C g5 gz_3 q816 dX6_next_30 ?_
    refine gx_sipush (v := 1000) C dX6_next_33 rfl ?_
    refine gx_imul C dX6_next_36 ?_
    refine gx_iload_n C dX6_next_37 0 rfl ?_
    refine gx_iadd C dX6_next_38 ?_
    obtain rfl := Option.some.inj hf
    exact gx_iret C dX6_next_39
def f_X6_next (D : gx_D) (h : HX) (a0 : Nat) (p1 : Int32) : Option Int32 :=
  (hx_is h a0 [13]).bind fun _ =>
  (hx_gr h a0 [13] 4).bind fun r1 =>
  gx_on r1 (
  f_X6_next_b19 D h a0 p1) fun a2 =>
  (hx_gr h a0 [13] 4).bind fun r6 =>
  r6.bind fun a7 =>
  (f_X5_apply D h a7 p1).bind fun x9 =>
  f_X6_next_b19 D h a0 x9
theorem is_X6_next {D : gx_D} {h : HX} {a0 : Nat} {p1 : Int32} {z} (hf : f_X6_next D h a0 p1 = some z) : gx_isC h a0 [13] := by
  unfold f_X6_next at hf
  obtain ⟨_, g, -⟩ := gx_bs hf
  exact hx_is_of g
theorem w_X6_next_b {l : Launch} (hlt : l.stackTraces = false) {p : Program} {e : Env} {R : Room} {s : State} {m : MethodId} {args : Array Value} {below : List Frame} {meth : Method} {c : Code} {D : gx_D} {h0 : HX} {r : Int32} (C : gx_Ctx p R s m args meth c "ContractMachine$Transition" cX6_next 3 (some .int) 4 88 D h0 h0) (hx : meth.name = "next") {a0 : Nat} {p1 : Int32} (hf : f_X6_next D h0 a0 p1 = some r) : gx_G p l e R s m args below meth c D h0 h0 3 (gx_MQ below args s D h0 h0 (some (.int r))) 0 [(0, (va_rf (some a0))), (1, (.int p1))] [] h0 := by
  unfold f_X6_next at hf
  replace hf := gx_bs hf
  obtain ⟨_, -, hf⟩ := hf
  refine gx_aload_n C dX6_next_0 0 rfl ?_
  replace hf := gx_bs hf
  obtain ⟨r1, g11, hf⟩ := hf
  refine gx_gr C g11 gz_6 q820 dX6_next_1 ?_
  rcases r1 with _ | a2
  · replace hf := gx_on_n hf
    refine gx_ifnonnull_f C dX6_next_4 ?_
    refine gx_iload_n C dX6_next_7 1 rfl ?_
    refine gx_goto (tgt := 19) C dX6_next_8 rfl ?_
    refine gx_sub [0] rfl ?_
    exact w_X6_next_b19 hlt C hx hf
  · replace hf := gx_on_s hf
    refine gx_ifnonnull_t (tgt := 11) C dX6_next_4 rfl ?_
    refine gx_aload_n C dX6_next_11 0 rfl ?_
    replace hf := gx_bs hf
    obtain ⟨r6, g10, hf⟩ := hf
    refine gx_gr C g10 gz_6 q820 dX6_next_12 ?_
    refine gx_iload_n C dX6_next_15 1 rfl ?_
    replace hf := gx_bs hf
    obtain ⟨a7, rfl, hf⟩ := hf
    replace hf := gx_bs hf
    obtain ⟨x9, g8, hf⟩ := hf
    refine gx_callV (st := []) C (w_X5_apply hlt g8) (is_X5_apply g8) gz_110 rfl (lw_V q1809 q1810 q1811 q146 q1812) gz_302 (by decide) rfl rfl (gx_catn (Nat.le_of_ble_eq_true rfl)) dX6_next_16 ?_
    refine gx_sub [0] rfl ?_
    exact w_X6_next_b19 hlt C hx hf
theorem w_X6_next {l : Launch} (hlt : l.stackTraces = false) {D : gx_D} {h : HX} {a0 : Nat} {p1 : Int32} {r : Int32} (hf : f_X6_next D h a0 p1 = some r) : gx_Met l yX6_next cX6_next 3 (some .int) 4 88 D [(va_rf (some a0)), (.int p1)] h (some (.int r)) h :=
  gx_ofG gz_8 (by simp only [gx_lsr, gx_lsi, gx_lsj, gx_ls0]; decide) gx_le.rf (fun p e R s m args below meth c C hx => by
    simp only [gx_lar, gx_lai, gx_laj, gx_la0, Nat.reduceAdd]
    exact w_X6_next_b hlt C hx hf)
def f_X1_next (D : gx_D) (h : HX) (a0 : Nat) (p1 : Int32) (p2 : Int32) : Option Int32 :=
  (hx_is h a0 [9]).bind fun _ =>
  (hx_gr h a0 [9] 5).bind fun r1 =>
  r1.bind fun a2 =>
  (f_X3_choose D h a2 p1 p2).bind fun x4 =>
  if x4 = (-1 : Int32) then
  some ((-1 : Int32))
  else
  (hx_gr h a0 [9] 5).bind fun r6 =>
  r6.bind fun a7 =>
  (hx_gr h a7 [10] 3).bind fun r8 =>
  r8.bind fun a9 =>
  (f_J2_get D h a9 x4).bind fun r11 =>
  (hx_cast h r11 [13]).bind fun u12 =>
  r11.bind fun a13 =>
  (f_X6_next D h a13 (p1 - p1 / (1000 : Int32) * (1000 : Int32))).bind fun x15 =>
  if x15 = (-1 : Int32) then
  some ((-1 : Int32))
  else
  (hx_gr h a0 [9] 6).bind fun r17 =>
  r17.bind fun a18 =>
  (f_X4_broken D h a18 x15).bind fun x20 =>
  if x20 = (-1 : Int32) then
  some x15
  else
  some ((-1 : Int32))
theorem is_X1_next {D : gx_D} {h : HX} {a0 : Nat} {p1 : Int32} {p2 : Int32} {z} (hf : f_X1_next D h a0 p1 p2 = some z) : gx_isC h a0 [9] := by
  unfold f_X1_next at hf
  obtain ⟨_, g, -⟩ := gx_bs hf
  exact hx_is_of g
theorem w_X1_next_b {l : Launch} (hlt : l.stackTraces = false) {p : Program} {e : Env} {R : Room} {s : State} {m : MethodId} {args : Array Value} {below : List Frame} {meth : Method} {c : Code} {D : gx_D} {h0 : HX} {r : Int32} (C : gx_Ctx p R s m args meth c "ContractMachine" cX1_next 5 (some .int) 6 132 D h0 h0) (hx : meth.name = "next") {a0 : Nat} {p1 : Int32} {p2 : Int32} (hf : f_X1_next D h0 a0 p1 p2 = some r) : gx_G p l e R s m args below meth c D h0 h0 5 (gx_MQ below args s D h0 h0 (some (.int r))) 0 [(0, (va_rf (some a0))), (1, (.int p1)), (2, (.int p2))] [] h0 := by
  unfold f_X1_next at hf
  replace hf := gx_bs hf
  obtain ⟨_, -, hf⟩ := hf
  refine gx_aload_n C dX1_next_0 0 rfl ?_
  replace hf := gx_bs hf
  obtain ⟨r1, g26, hf⟩ := hf
  refine gx_gr C g26 gz_20 q892 dX1_next_1 ?_
  refine gx_iload_n C dX1_next_4 1 rfl ?_
  refine gx_iload_n C dX1_next_5 2 rfl ?_
  replace hf := gx_bs hf
  obtain ⟨a2, rfl, hf⟩ := hf
  replace hf := gx_bs hf
  obtain ⟨x4, g3, hf⟩ := hf
  refine gx_callV (st := []) C (w_X3_choose hlt g3) (is_X3_choose g3) gz_111 rfl (lw_V q1785 q1786 q1787 q124 q1788) gz_303 (by decide) rfl rfl (gx_catn (Nat.le_of_ble_eq_true rfl)) dX1_next_6 ?_
  refine gx_istn C dX1_next_9 3 rfl (by decide) [0, 1]  rfl (gx_okn rfl rfl (gx_okn rfl rfl gx_ok0)) ?_
  refine gx_iload_n C dX1_next_10 0 rfl ?_
  refine gx_iconst (v := -1) C dX1_next_11 rfl ?_
  replace hf := gx_ite hf
  rcases hf with ⟨c5, hf⟩ | ⟨c5, hf⟩
  · refine gx_icmp_ne_f (tgt := 17) C dX1_next_12 rfl c5 ?_
    refine gx_iconst (v := -1) C dX1_next_15 rfl ?_
    obtain rfl := Option.some.inj hf
    exact gx_iret C dX1_next_16
  · refine gx_icmp_ne_t (tgt := 17) C dX1_next_12 rfl c5 ?_
    refine gx_aload_n C dX1_next_17 1 rfl ?_
    replace hf := gx_bs hf
    obtain ⟨r6, g25, hf⟩ := hf
    refine gx_gr C g25 gz_20 q892 dX1_next_18 ?_
    replace hf := gx_bs hf
    obtain ⟨a7, rfl, hf⟩ := hf
    replace hf := gx_bs hf
    obtain ⟨r8, g24, hf⟩ := hf
    refine gx_grN C g24 gz_21 q572 dX1_next_21 ?_
    refine gx_iload_n C dX1_next_24 0 rfl ?_
    replace hf := gx_bs hf
    obtain ⟨a9, rfl, hf⟩ := hf
    replace hf := gx_bs hf
    obtain ⟨r11, g10, hf⟩ := hf
    refine gx_callF (st := []) C (w_J2_get hlt g10) (is_J2_get g10) q1804 (gx_cis1 gz_19 ⟨gz_222, q1307⟩ gx_cis0) q1309 q127 q1311 gz_221 (by decide) rfl rfl (gx_catn (Nat.le_of_ble_eq_true rfl)) dX1_next_25 ?_
    replace hf := gx_bs hf
    obtain ⟨u12, g23, hf⟩ := hf
    refine gx_cast C g23 gz_295 q803 dX1_next_30 ?_
    refine gx_iload_n C dX1_next_33 2 rfl ?_
    refine gx_sipush (v := 1000) C dX1_next_34 rfl ?_
    refine gx_irem C dX1_next_37 (by decide) ?_
    replace hf := gx_bs hf
    obtain ⟨a13, rfl, hf⟩ := hf
    replace hf := gx_bs hf
    obtain ⟨x15, g14, hf⟩ := hf
    refine gx_callV (st := []) C (w_X6_next hlt g14) (is_X6_next g14) gz_12 rfl (lw_V q1805 q1806 q1807 q148 q1808) gz_304 (by decide) rfl rfl (gx_catn (Nat.le_of_ble_eq_true rfl)) dX1_next_38 ?_
    refine gx_ist C dX1_next_41 (by decide) [1]  rfl (gx_okn rfl rfl gx_ok0) ?_
    refine gx_iload C dX1_next_43 0 rfl ?_
    refine gx_iconst (v := -1) C dX1_next_45 rfl ?_
    replace hf := gx_ite hf
    rcases hf with ⟨c16, hf⟩ | ⟨c16, hf⟩
    · refine gx_icmp_eq_t (tgt := 62) C dX1_next_46 rfl c16 ?_
      refine gx_iconst (v := -1) C dX1_next_62 rfl ?_
      refine gx_goto (tgt := 68) C dX1_next_63 rfl ?_
      obtain rfl := Option.some.inj hf
      exact gx_iret C dX1_next_68
    · refine gx_icmp_eq_f (tgt := 62) C dX1_next_46 rfl c16 ?_
      refine gx_aload_n C dX1_next_49 1 rfl ?_
      replace hf := gx_bs hf
      obtain ⟨r17, g22, hf⟩ := hf
      refine gx_gr C g22 gz_85 q896 dX1_next_50 ?_
      refine gx_iload C dX1_next_53 0 rfl ?_
      replace hf := gx_bs hf
      obtain ⟨a18, rfl, hf⟩ := hf
      replace hf := gx_bs hf
      obtain ⟨x20, g19, hf⟩ := hf
      refine gx_callV (st := []) C (w_X4_broken hlt g19) (is_X4_broken g19) gz_13 rfl (lw_V q1829 q1431 q1432 q144 q1433) gz_258 (by decide) rfl rfl (gx_catn (Nat.le_of_ble_eq_true rfl)) dX1_next_55 ?_
      refine gx_iconst (v := -1) C dX1_next_58 rfl ?_
      replace hf := gx_ite hf
      rcases hf with ⟨c21, hf⟩ | ⟨c21, hf⟩
      · refine gx_icmp_eq_t (tgt := 66) C dX1_next_59 rfl c21 ?_
        refine gx_iload C dX1_next_66 0 rfl ?_
        obtain rfl := Option.some.inj hf
        exact gx_iret C dX1_next_68
      · refine gx_icmp_eq_f (tgt := 66) C dX1_next_59 rfl c21 ?_
        refine gx_iconst (v := -1) C dX1_next_62 rfl ?_
        refine gx_goto (tgt := 68) C dX1_next_63 rfl ?_
        obtain rfl := Option.some.inj hf
        exact gx_iret C dX1_next_68
theorem w_X1_next {l : Launch} (hlt : l.stackTraces = false) {D : gx_D} {h : HX} {a0 : Nat} {p1 : Int32} {p2 : Int32} {r : Int32} (hf : f_X1_next D h a0 p1 p2 = some r) : gx_Met l yX1_next cX1_next 5 (some .int) 6 132 D [(va_rf (some a0)), (.int p1), (.int p2)] h (some (.int r)) h :=
  gx_ofG gz_26 (by simp only [gx_lsr, gx_lsi, gx_lsj, gx_ls0]; decide) gx_le.rf (fun p e R s m args below meth c C hx => by
    simp only [gx_lar, gx_lai, gx_laj, gx_la0, Nat.reduceAdd]
    exact w_X1_next_b hlt C hx hf)
def f_X3_hasTransition_b2 (D : gx_D) : Nat → HX → Nat → Int32 → Int32 → Int32 → Option Bool
  | 0, _, _, _, _, _ => none
  | n + 1, h, v0, v1, v2, v3 =>
  (hx_gr h v0 [10] 3).bind fun r1 =>
  r1.bind fun a2 =>
  (f_J2_size D h a2).bind fun x4 =>
  if x4 ≤ v3 then
  some false
  else
  (hx_gr h v0 [10] 3).bind fun r6 =>
  r6.bind fun a7 =>
  (f_J2_get D h a7 v3).bind fun r9 =>
  (hx_cast h r9 [13]).bind fun u10 =>
  (f_X3_isFor D h v0 r9 v1 v2).bind fun b12 =>
  if b12 = true then
  some true
  else
  (f_X3_hasTransition_b2 D n) h v0 v1 v2 ((v3 + (1 : Int32)))
theorem w_X3_hasTransition_b2 {l : Launch} (hlt : l.stackTraces = false) {p : Program} {e : Env} {R : Room} {s : State} {m : MethodId} {args : Array Value} {below : List Frame} {meth : Method} {c : Code} {D : gx_D} {h0 : HX} {r : Bool} (C : gx_Ctx p R s m args meth c "ContractMachine$Definition" cX3_hasTransition 4 (some .boolean) 4 88 D h0 h0) (hx : meth.name = "hasTransition")  : ∀ (n : Nat) ⦃v0 : Nat⦄ ⦃v1 : Int32⦄ ⦃v2 : Int32⦄ ⦃v3 : Int32⦄, f_X3_hasTransition_b2 D n h0 v0 v1 v2 v3 = some r → gx_G p l e R s m args below meth c D h0 h0 4 (gx_MQ below args s D h0 h0 (some (.int (b2i r)))) 2 [(0, (va_rf (some v0))), (1, (.int v1)), (2, (.int v2)), (3, (.int v3))] [] h0 := by
  intro n
  induction n with
  | zero => intro v0 v1 v2 v3 hf; unfold f_X3_hasTransition_b2 at hf; cases hf
  | succ n wk2 =>
    intro v0 v1 v2 v3 hf
    unfold f_X3_hasTransition_b2 at hf
    refine gx_iload_n C dX3_hasTransition_2 3 rfl ?_
    refine gx_aload_n C dX3_hasTransition_3 0 rfl ?_
    replace hf := gx_bs hf
    obtain ⟨r1, g16, hf⟩ := hf
    refine gx_gr C g16 gz_21 q570 dX3_hasTransition_4 ?_
    replace hf := gx_bs hf
    obtain ⟨a2, rfl, hf⟩ := hf
    replace hf := gx_bs hf
    obtain ⟨x4, g3, hf⟩ := hf
    refine gx_callF (st := [(.int v3)]) C (w_J2_size hlt g3) (is_J2_size g3) q767 (gx_cis1 gz_19 ⟨gz_51, q770⟩ gx_cis0) q772 q127 q774 gz_50 (by decide) rfl rfl (gx_catn (Nat.le_of_ble_eq_true rfl)) dX3_hasTransition_7 ?_
    replace hf := gx_ite hf
    rcases hf with ⟨c5, hf⟩ | ⟨c5, hf⟩
    · refine gx_icmp_ge_t (tgt := 45) C dX3_hasTransition_12 rfl c5 ?_
      refine gx_iconst (v := 0) C dX3_hasTransition_45 rfl ?_
      obtain rfl := Option.some.inj hf
      exact gx_zret (b := false) C dX3_hasTransition_46
    · refine gx_icmp_ge_f (tgt := 45) C dX3_hasTransition_12 rfl c5 ?_
      refine gx_aload_n C dX3_hasTransition_15 0 rfl ?_
      refine gx_aload_n C dX3_hasTransition_16 0 rfl ?_
      replace hf := gx_bs hf
      obtain ⟨r6, g15, hf⟩ := hf
      refine gx_gr C g15 gz_21 q570 dX3_hasTransition_17 ?_
      refine gx_iload_n C dX3_hasTransition_20 3 rfl ?_
      replace hf := gx_bs hf
      obtain ⟨a7, rfl, hf⟩ := hf
      replace hf := gx_bs hf
      obtain ⟨r9, g8, hf⟩ := hf
      refine gx_callF (st := [(va_rf (some v0))]) C (w_J2_get hlt g8) (is_J2_get g8) q1304 (gx_cis1 gz_19 ⟨gz_222, q1307⟩ gx_cis0) q1309 q127 q1311 gz_221 (by decide) rfl rfl (gx_catn (Nat.le_of_ble_eq_true rfl)) dX3_hasTransition_21 ?_
      replace hf := gx_bs hf
      obtain ⟨u10, g14, hf⟩ := hf
      refine gx_cast C g14 gz_295 q1789 dX3_hasTransition_26 ?_
      refine gx_iload_n C dX3_hasTransition_29 1 rfl ?_
      refine gx_iload_n C dX3_hasTransition_30 2 rfl ?_
      replace hf := gx_bs hf
      obtain ⟨b12, g11, hf⟩ := hf
      refine gx_callV (st := []) C (w_X3_isFor hlt g11) (is_X3_isFor g11) gz_111 rfl (lw_V q1790 q1792 qs34 q124 q1793) gz_296 (by decide) rfl rfl (gx_catn (Nat.le_of_ble_eq_true rfl)) dX3_hasTransition_31 ?_
      replace hf := gx_ite hf
      rcases hf with ⟨c13, hf⟩ | ⟨c13, hf⟩
      · refine gx_ifz_eq_f (tgt := 39) C dX3_hasTransition_34 rfl c13 ?_
        refine gx_iconst (v := 1) C dX3_hasTransition_37 rfl ?_
        obtain rfl := Option.some.inj hf
        exact gx_zret (b := true) C dX3_hasTransition_38
      · refine gx_ifz_eq_t (tgt := 39) C dX3_hasTransition_34 rfl c13 ?_
        refine gx_inc (v := 1) C dX3_hasTransition_39 3 rfl rfl (by decide) [0, 1, 2] rfl (gx_okn rfl rfl (gx_okn rfl rfl (gx_okr rfl gx_catv_i gx_ok0))) ?_
        refine gx_goto (tgt := 2) C dX3_hasTransition_42 rfl ?_
        refine gx_sub [1, 2, 3, 0] rfl ?_
        exact wk2 hf
def f_X3_hasTransition (D : gx_D) (h : HX) (a0 : Nat) (p1 : Int32) (p2 : Int32) : Option Bool :=
  (hx_is h a0 [10]).bind fun _ =>
  f_X3_hasTransition_b2 D gx_fuel h a0 p1 p2 ((0 : Int32))
theorem is_X3_hasTransition {D : gx_D} {h : HX} {a0 : Nat} {p1 : Int32} {p2 : Int32} {z} (hf : f_X3_hasTransition D h a0 p1 p2 = some z) : gx_isC h a0 [10] := by
  unfold f_X3_hasTransition at hf
  obtain ⟨_, g, -⟩ := gx_bs hf
  exact hx_is_of g
theorem w_X3_hasTransition_b {l : Launch} (hlt : l.stackTraces = false) {p : Program} {e : Env} {R : Room} {s : State} {m : MethodId} {args : Array Value} {below : List Frame} {meth : Method} {c : Code} {D : gx_D} {h0 : HX} {r : Bool} (C : gx_Ctx p R s m args meth c "ContractMachine$Definition" cX3_hasTransition 4 (some .boolean) 4 88 D h0 h0) (hx : meth.name = "hasTransition") {a0 : Nat} {p1 : Int32} {p2 : Int32} (hf : f_X3_hasTransition D h0 a0 p1 p2 = some r) : gx_G p l e R s m args below meth c D h0 h0 4 (gx_MQ below args s D h0 h0 (some (.int (b2i r)))) 0 [(0, (va_rf (some a0))), (1, (.int p1)), (2, (.int p2))] [] h0 := by
  unfold f_X3_hasTransition at hf
  replace hf := gx_bs hf
  obtain ⟨_, -, hf⟩ := hf
  refine gx_iconst (v := 0) C dX3_hasTransition_0 rfl ?_
  refine gx_istn C dX3_hasTransition_1 3 rfl (by decide) [0, 1, 2]  rfl (gx_okn rfl rfl (gx_okn rfl rfl (gx_okr rfl gx_catv_i gx_ok0))) ?_
  refine gx_sub [1, 2, 3, 0] rfl ?_
  exact w_X3_hasTransition_b2 hlt C hx gx_fuel hf
theorem w_X3_hasTransition {l : Launch} (hlt : l.stackTraces = false) {D : gx_D} {h : HX} {a0 : Nat} {p1 : Int32} {p2 : Int32} {r : Bool} (hf : f_X3_hasTransition D h a0 p1 p2 = some r) : gx_Met l yX3_hasTransition cX3_hasTransition 4 (some .boolean) 4 88 D [(va_rf (some a0)), (.int p1), (.int p2)] h (some (.int (b2i r))) h :=
  gx_ofG gz_48 (by simp only [gx_lsr, gx_lsi, gx_lsj, gx_ls0]; decide) gx_le.rf (fun p e R s m args below meth c C hx => by
    simp only [gx_lar, gx_lai, gx_laj, gx_la0, Nat.reduceAdd]
    exact w_X3_hasTransition_b hlt C hx hf)
def f_X1_verdict (D : gx_D) (h : HX) (a0 : Nat) (p1 : Int32) (p2 : Int32) : Option Int32 :=
  (hx_is h a0 [9]).bind fun _ =>
  (hx_gr h a0 [9] 5).bind fun r1 =>
  r1.bind fun a2 =>
  (f_X3_choose D h a2 p1 p2).bind fun x4 =>
  if x4 = (-1 : Int32) then
  (hx_gr h a0 [9] 5).bind fun r6 =>
  r6.bind fun a7 =>
  (f_X3_hasTransition D h a7 (p1 / (1000 : Int32)) p2).bind fun b9 =>
  if b9 = true then
  some ((2 : Int32))
  else
  some ((1 : Int32))
  else
  (hx_gr h a0 [9] 5).bind fun r12 =>
  r12.bind fun a13 =>
  (hx_gr h a13 [10] 3).bind fun r14 =>
  r14.bind fun a15 =>
  (f_J2_get D h a15 x4).bind fun r17 =>
  (hx_cast h r17 [13]).bind fun u18 =>
  r17.bind fun a19 =>
  (f_X6_next D h a19 (p1 - p1 / (1000 : Int32) * (1000 : Int32))).bind fun x21 =>
  if x21 = (-1 : Int32) then
  some ((3 : Int32))
  else
  (hx_gr h a0 [9] 6).bind fun r23 =>
  r23.bind fun a24 =>
  (f_X4_broken D h a24 x21).bind fun x26 =>
  if x26 = (-1 : Int32) then
  some ((0 : Int32))
  else
  some ((4 : Int32))
theorem is_X1_verdict {D : gx_D} {h : HX} {a0 : Nat} {p1 : Int32} {p2 : Int32} {z} (hf : f_X1_verdict D h a0 p1 p2 = some z) : gx_isC h a0 [9] := by
  unfold f_X1_verdict at hf
  obtain ⟨_, g, -⟩ := gx_bs hf
  exact hx_is_of g
theorem w_X1_verdict_b {l : Launch} (hlt : l.stackTraces = false) {p : Program} {e : Env} {R : Room} {s : State} {m : MethodId} {args : Array Value} {below : List Frame} {meth : Method} {c : Code} {D : gx_D} {h0 : HX} {r : Int32} (C : gx_Ctx p R s m args meth c "ContractMachine" cX1_verdict 5 (some .int) 6 132 D h0 h0) (hx : meth.name = "verdict") {a0 : Nat} {p1 : Int32} {p2 : Int32} (hf : f_X1_verdict D h0 a0 p1 p2 = some r) : gx_G p l e R s m args below meth c D h0 h0 5 (gx_MQ below args s D h0 h0 (some (.int r))) 0 [(0, (va_rf (some a0))), (1, (.int p1)), (2, (.int p2))] [] h0 := by
  unfold f_X1_verdict at hf
  replace hf := gx_bs hf
  obtain ⟨_, -, hf⟩ := hf
  refine gx_aload_n C dX1_verdict_0 0 rfl ?_
  replace hf := gx_bs hf
  obtain ⟨r1, g32, hf⟩ := hf
  refine gx_gr C g32 gz_20 q892 dX1_verdict_1 ?_
  refine gx_iload_n C dX1_verdict_4 1 rfl ?_
  refine gx_iload_n C dX1_verdict_5 2 rfl ?_
  replace hf := gx_bs hf
  obtain ⟨a2, rfl, hf⟩ := hf
  replace hf := gx_bs hf
  obtain ⟨x4, g3, hf⟩ := hf
  refine gx_callV (st := []) C (w_X3_choose hlt g3) (is_X3_choose g3) gz_111 rfl (lw_V q1785 q1786 q1787 q124 q1788) gz_303 (by decide) rfl rfl (gx_catn (Nat.le_of_ble_eq_true rfl)) dX1_verdict_6 ?_
  refine gx_istn C dX1_verdict_9 3 rfl (by decide) [0, 1, 2]  rfl (gx_okn rfl rfl (gx_okn rfl rfl (gx_okr rfl gx_catv_i gx_ok0))) ?_
  refine gx_iload_n C dX1_verdict_10 0 rfl ?_
  refine gx_iconst (v := -1) C dX1_verdict_11 rfl ?_
  replace hf := gx_ite hf
  rcases hf with ⟨c5, hf⟩ | ⟨c5, hf⟩
  · refine gx_icmp_ne_f (tgt := 37) C dX1_verdict_12 rfl c5 ?_
    refine gx_aload_n C dX1_verdict_15 1 rfl ?_
    replace hf := gx_bs hf
    obtain ⟨r6, g11, hf⟩ := hf
    refine gx_gr C g11 gz_20 q892 dX1_verdict_16 ?_
    refine gx_iload_n C dX1_verdict_19 2 rfl ?_
    refine gx_sipush (v := 1000) C dX1_verdict_20 rfl ?_
    refine gx_idiv C dX1_verdict_23 (by decide) ?_
    refine gx_iload_n C dX1_verdict_24 3 rfl ?_
    replace hf := gx_bs hf
    obtain ⟨a7, rfl, hf⟩ := hf
    replace hf := gx_bs hf
    obtain ⟨b9, g8, hf⟩ := hf
    refine gx_callV (st := []) C (w_X3_hasTransition hlt g8) (is_X3_hasTransition g8) gz_111 rfl (lw_V q1799 q1800 q1801 q124 q1802) gz_305 (by decide) rfl rfl (gx_catn (Nat.le_of_ble_eq_true rfl)) dX1_verdict_25 ?_
    replace hf := gx_ite hf
    rcases hf with ⟨c10, hf⟩ | ⟨c10, hf⟩
    · refine gx_ifz_eq_f (tgt := 35) C dX1_verdict_28 rfl c10 ?_
      refine gx_iconst (v := 2) C dX1_verdict_31 rfl ?_
      refine gx_goto (tgt := 36) C dX1_verdict_32 rfl ?_
      obtain rfl := Option.some.inj hf
      exact gx_iret C dX1_verdict_36
    · refine gx_ifz_eq_t (tgt := 35) C dX1_verdict_28 rfl c10 ?_
      refine gx_iconst (v := 1) C dX1_verdict_35 rfl ?_
      obtain rfl := Option.some.inj hf
      exact gx_iret C dX1_verdict_36
  · refine gx_icmp_ne_t (tgt := 37) C dX1_verdict_12 rfl c5 ?_
    refine gx_aload_n C dX1_verdict_37 1 rfl ?_
    replace hf := gx_bs hf
    obtain ⟨r12, g31, hf⟩ := hf
    refine gx_gr C g31 gz_20 q892 dX1_verdict_38 ?_
    replace hf := gx_bs hf
    obtain ⟨a13, rfl, hf⟩ := hf
    replace hf := gx_bs hf
    obtain ⟨r14, g30, hf⟩ := hf
    refine gx_grN C g30 gz_21 q572 dX1_verdict_41 ?_
    refine gx_iload_n C dX1_verdict_44 0 rfl ?_
    replace hf := gx_bs hf
    obtain ⟨a15, rfl, hf⟩ := hf
    replace hf := gx_bs hf
    obtain ⟨r17, g16, hf⟩ := hf
    refine gx_callF (st := []) C (w_J2_get hlt g16) (is_J2_get g16) q1804 (gx_cis1 gz_19 ⟨gz_222, q1307⟩ gx_cis0) q1309 q127 q1311 gz_221 (by decide) rfl rfl (gx_catn (Nat.le_of_ble_eq_true rfl)) dX1_verdict_45 ?_
    replace hf := gx_bs hf
    obtain ⟨u18, g29, hf⟩ := hf
    refine gx_cast C g29 gz_295 q803 dX1_verdict_50 ?_
    refine gx_iload_n C dX1_verdict_53 2 rfl ?_
    refine gx_sipush (v := 1000) C dX1_verdict_54 rfl ?_
    refine gx_irem C dX1_verdict_57 (by decide) ?_
    replace hf := gx_bs hf
    obtain ⟨a19, rfl, hf⟩ := hf
    replace hf := gx_bs hf
    obtain ⟨x21, g20, hf⟩ := hf
    refine gx_callV (st := []) C (w_X6_next hlt g20) (is_X6_next g20) gz_12 rfl (lw_V q1805 q1806 q1807 q148 q1808) gz_304 (by decide) rfl rfl (gx_catn (Nat.le_of_ble_eq_true rfl)) dX1_verdict_58 ?_
    refine gx_ist C dX1_verdict_61 (by decide) [1]  rfl (gx_okn rfl rfl gx_ok0) ?_
    refine gx_iload C dX1_verdict_63 0 rfl ?_
    refine gx_iconst (v := -1) C dX1_verdict_65 rfl ?_
    replace hf := gx_ite hf
    rcases hf with ⟨c22, hf⟩ | ⟨c22, hf⟩
    · refine gx_icmp_ne_f (tgt := 71) C dX1_verdict_66 rfl c22 ?_
      refine gx_iconst (v := 3) C dX1_verdict_69 rfl ?_
      obtain rfl := Option.some.inj hf
      exact gx_iret C dX1_verdict_70
    · refine gx_icmp_ne_t (tgt := 71) C dX1_verdict_66 rfl c22 ?_
      refine gx_aload_n C dX1_verdict_71 1 rfl ?_
      replace hf := gx_bs hf
      obtain ⟨r23, g28, hf⟩ := hf
      refine gx_gr C g28 gz_85 q896 dX1_verdict_72 ?_
      refine gx_iload C dX1_verdict_75 0 rfl ?_
      replace hf := gx_bs hf
      obtain ⟨a24, rfl, hf⟩ := hf
      replace hf := gx_bs hf
      obtain ⟨x26, g25, hf⟩ := hf
      refine gx_callV (st := []) C (w_X4_broken hlt g25) (is_X4_broken g25) gz_13 rfl (lw_V q1829 q1431 q1432 q144 q1433) gz_258 (by decide) rfl rfl (gx_catn (Nat.le_of_ble_eq_true rfl)) dX1_verdict_77 ?_
      refine gx_iconst (v := -1) C dX1_verdict_80 rfl ?_
      replace hf := gx_ite hf
      rcases hf with ⟨c27, hf⟩ | ⟨c27, hf⟩
      · refine gx_icmp_ne_f (tgt := 88) C dX1_verdict_81 rfl c27 ?_
        refine gx_iconst (v := 0) C dX1_verdict_84 rfl ?_
        refine gx_goto (tgt := 89) C dX1_verdict_85 rfl ?_
        obtain rfl := Option.some.inj hf
        exact gx_iret C dX1_verdict_89
      · refine gx_icmp_ne_t (tgt := 88) C dX1_verdict_81 rfl c27 ?_
        refine gx_iconst (v := 4) C dX1_verdict_88 rfl ?_
        obtain rfl := Option.some.inj hf
        exact gx_iret C dX1_verdict_89
theorem w_X1_verdict {l : Launch} (hlt : l.stackTraces = false) {D : gx_D} {h : HX} {a0 : Nat} {p1 : Int32} {p2 : Int32} {r : Int32} (hf : f_X1_verdict D h a0 p1 p2 = some r) : gx_Met l yX1_verdict cX1_verdict 5 (some .int) 6 132 D [(va_rf (some a0)), (.int p1), (.int p2)] h (some (.int r)) h :=
  gx_ofG gz_26 (by simp only [gx_lsr, gx_lsi, gx_lsj, gx_ls0]; decide) gx_le.rf (fun p e R s m args below meth c C hx => by
    simp only [gx_lar, gx_lai, gx_laj, gx_la0, Nat.reduceAdd]
    exact w_X1_verdict_b hlt C hx hf)
def f_X20_init (D : gx_D) (h : HX) (a0 : Nat) (p1 : Int32) (p2 : Int32) (p3 : Int32) : Option HX :=
  (hx_pi h a0 [24] 0 p1).bind fun h1 =>
  (hx_pi h1 a0 [24] 1 p2).bind fun h2 =>
  (hx_pi h2 a0 [24] 2 p3).bind fun h3 =>
  some h3
theorem w_X20_init_b {l : Launch} (hlt : l.stackTraces = false) {p : Program} {e : Env} {R : Room} {s : State} {m : MethodId} {args : Array Value} {below : List Frame} {meth : Method} {c : Code} {D : gx_D} {h0 : HX} {hz : HX} (C : gx_Ctx p R s m args meth c "ContractMachine$Accepted" cX20_init 4 none 1 24 D h0 hz) (hx : meth.name = "<init>") {a0 : Nat} {p1 : Int32} {p2 : Int32} {p3 : Int32} (hf : f_X20_init D h0 a0 p1 p2 p3 = some hz) : gx_G p l e R s m args below meth c D h0 hz 4 (gx_MQ below args s D h0 hz none) 0 [(0, (va_rf (some a0))), (1, (.int p1)), (2, (.int p2)), (3, (.int p3))] [] h0 := by
  unfold f_X20_init at hf
  refine gx_aload_n C dX20_init_0 0 rfl ?_
  refine gx_objInit (st := []) C q1849 q188 q189 (by decide) (by decide) dX20_init_1 ?_
  refine gx_aload_n C dX20_init_4 0 rfl ?_
  refine gx_iload_n C dX20_init_5 1 rfl ?_
  replace hf := gx_bs hf
  obtain ⟨h1, g6, hf⟩ := hf
  refine gx_putvF C hx g6 gz_306 gz_1 rfl rfl q1850 dX20_init_6 ?_
  refine gx_aload_n C dX20_init_9 0 rfl ?_
  refine gx_iload_n C dX20_init_10 2 rfl ?_
  replace hf := gx_bs hf
  obtain ⟨h2, g5, hf⟩ := hf
  refine gx_putvF C hx g5 gz_307 gz_1 rfl rfl q1851 dX20_init_11 ?_
  refine gx_aload_n C dX20_init_14 0 rfl ?_
  refine gx_iload_n C dX20_init_15 3 rfl ?_
  replace hf := gx_bs hf
  obtain ⟨h3, g4, hf⟩ := hf
  refine gx_putvF C hx g4 gz_308 gz_1 rfl rfl q1852 dX20_init_16 ?_
  obtain rfl := Option.some.inj hf
  exact gx_vret C dX20_init_19
theorem le_X20_init {D : gx_D} {hz : HX} {h : HX} {a0 : Nat} {p1 : Int32} {p2 : Int32} {p3 : Int32} (hf : f_X20_init D h a0 p1 p2 p3 = some hz) : gx_le h hz := by
  unfold f_X20_init at hf
  replace hf := gx_bs hf
  obtain ⟨h1, g6, hf⟩ := hf
  refine (hx_le_pv g6).tr ?_
  replace hf := gx_bs hf
  obtain ⟨h2, g5, hf⟩ := hf
  refine (hx_le_pv g5).tr ?_
  replace hf := gx_bs hf
  obtain ⟨h3, g4, hf⟩ := hf
  refine (hx_le_pv g4).tr ?_
  obtain rfl := Option.some.inj hf
  exact gx_le.rf
theorem w_X20_init {l : Launch} (hlt : l.stackTraces = false) {D : gx_D} {h : HX} {a0 : Nat} {p1 : Int32} {p2 : Int32} {p3 : Int32} {hz : HX} (hf : f_X20_init D h a0 p1 p2 p3 = some hz) : gx_Met l yX20_init cX20_init 4 none 1 24 D [(va_rf (some a0)), (.int p1), (.int p2), (.int p3)] h none hz :=
  gx_ofG gz_309 (by simp only [gx_lsr, gx_lsi, gx_lsj, gx_ls0]; decide) (le_X20_init hf) (fun p e R s m args below meth c C hx => by
    simp only [gx_lar, gx_lai, gx_laj, gx_la0, Nat.reduceAdd]
    exact w_X20_init_b hlt C hx hf)
def f_X19_init (D : gx_D) (h : HX) (a0 : Nat) (p1 : Int32) : Option HX :=
  (hx_pi h a0 [23] 0 p1).bind fun h1 =>
  some h1
theorem w_X19_init_b {l : Launch} (hlt : l.stackTraces = false) {p : Program} {e : Env} {R : Room} {s : State} {m : MethodId} {args : Array Value} {below : List Frame} {meth : Method} {c : Code} {D : gx_D} {h0 : HX} {hz : HX} (C : gx_Ctx p R s m args meth c "ContractMachine$Rejected" cX19_init 2 none 1 24 D h0 hz) (hx : meth.name = "<init>") {a0 : Nat} {p1 : Int32} (hf : f_X19_init D h0 a0 p1 = some hz) : gx_G p l e R s m args below meth c D h0 hz 2 (gx_MQ below args s D h0 hz none) 0 [(0, (va_rf (some a0))), (1, (.int p1))] [] h0 := by
  unfold f_X19_init at hf
  refine gx_aload_n C dX19_init_0 0 rfl ?_
  refine gx_objInit (st := []) C q1835 q188 q189 (by decide) (by decide) dX19_init_1 ?_
  refine gx_aload_n C dX19_init_4 0 rfl ?_
  refine gx_iload_n C dX19_init_5 1 rfl ?_
  replace hf := gx_bs hf
  obtain ⟨h1, g2, hf⟩ := hf
  refine gx_putvF C hx g2 gz_310 gz_1 rfl rfl q1836 dX19_init_6 ?_
  obtain rfl := Option.some.inj hf
  exact gx_vret C dX19_init_9
theorem le_X19_init {D : gx_D} {hz : HX} {h : HX} {a0 : Nat} {p1 : Int32} (hf : f_X19_init D h a0 p1 = some hz) : gx_le h hz := by
  unfold f_X19_init at hf
  replace hf := gx_bs hf
  obtain ⟨h1, g2, hf⟩ := hf
  refine (hx_le_pv g2).tr ?_
  obtain rfl := Option.some.inj hf
  exact gx_le.rf
theorem w_X19_init {l : Launch} (hlt : l.stackTraces = false) {D : gx_D} {h : HX} {a0 : Nat} {p1 : Int32} {hz : HX} (hf : f_X19_init D h a0 p1 = some hz) : gx_Met l yX19_init cX19_init 2 none 1 24 D [(va_rf (some a0)), (.int p1)] h none hz :=
  gx_ofG gz_311 (by simp only [gx_lsr, gx_lsi, gx_lsj, gx_ls0]; decide) (le_X19_init hf) (fun p e R s m args below meth c C hx => by
    simp only [gx_lar, gx_lai, gx_laj, gx_la0, Nat.reduceAdd]
    exact w_X19_init_b hlt C hx hf)
def f_X1_outcome (D : gx_D) (h : HX) (a0 : Nat) (p1 : Int32) : Option ((Option Nat) × HX) :=
  (hx_is h a0 [9]).bind fun _ =>
  (hx_gr h a0 [9] 6).bind fun r1 =>
  r1.bind fun a2 =>
  (hx_gi h a2 [11] 6).bind fun x3 =>
  (f_X1_verdict D h a0 x3 p1).bind fun x5 =>
  if x5 = 0 then
  gx_b2 (hx_new h 3 24 gx_df24) fun a7 h8 =>
  (hx_gr h8 a0 [9] 5).bind fun r9 =>
  (hx_gr h8 a0 [9] 6).bind fun r10 =>
  r10.bind fun a11 =>
  (hx_gi h8 a11 [11] 6).bind fun x12 =>
  r9.bind fun a13 =>
  (f_X3_choose D h8 a13 x12 p1).bind fun x15 =>
  (hx_gr h8 a0 [9] 6).bind fun r16 =>
  r16.bind fun a17 =>
  (hx_gi h8 a17 [11] 6).bind fun x18 =>
  (f_X1_next D h8 a0 x18 p1).bind fun x20 =>
  (f_X20_init D h8 a7 p1 x15 x20).bind fun h22 =>
  some ((some a7), h22)
  else
  gx_b2 (hx_new h 1 23 gx_df23) fun a29 h30 =>
  (f_X19_init D h30 a29 x5).bind fun h32 =>
  some ((some a29), h32)
theorem is_X1_outcome {D : gx_D} {h : HX} {a0 : Nat} {p1 : Int32} {z} (hf : f_X1_outcome D h a0 p1 = some z) : gx_isC h a0 [9] := by
  unfold f_X1_outcome at hf
  obtain ⟨_, g, -⟩ := gx_bs hf
  exact hx_is_of g
theorem w_X1_outcome_b {l : Launch} (hlt : l.stackTraces = false) {p : Program} {e : Env} {R : Room} {s : State} {m : MethodId} {args : Array Value} {below : List Frame} {meth : Method} {c : Code} {D : gx_D} {h0 : HX} {r : Option Nat} {hz : HX} (C : gx_Ctx p R s m args meth c "ContractMachine" cX1_outcome 3 (some (.object "ContractMachine$Outcome")) 7 156 D h0 hz) (hx : meth.name = "outcome") {a0 : Nat} {p1 : Int32} (hf : f_X1_outcome D h0 a0 p1 = some (r, hz)) : gx_G p l e R s m args below meth c D h0 hz 3 (gx_MQ below args s D h0 hz (some (va_rf r))) 0 [(0, (va_rf (some a0))), (1, (.int p1))] [] h0 := by
  unfold f_X1_outcome at hf
  replace hf := gx_bs hf
  obtain ⟨_, -, hf⟩ := hf
  refine gx_aload_n C dX1_outcome_0 0 rfl ?_
  refine gx_aload_n C dX1_outcome_1 0 rfl ?_
  replace hf := gx_bs hf
  obtain ⟨r1, g35, hf⟩ := hf
  refine gx_gr C g35 gz_85 q896 dX1_outcome_2 ?_
  replace hf := gx_bs hf
  obtain ⟨a2, rfl, hf⟩ := hf
  replace hf := gx_bs hf
  obtain ⟨x3, g34, hf⟩ := hf
  refine gx_giN C g34 gz_65 q614 dX1_outcome_5 ?_
  refine gx_iload_n C dX1_outcome_8 1 rfl ?_
  replace hf := gx_bs hf
  obtain ⟨x5, g4, hf⟩ := hf
  refine gx_callV (st := []) C (w_X1_verdict hlt g4) (is_X1_verdict g4) gz_108 rfl (lw_V q1781 q1783 qs33 q121 q1784) gz_312 (by decide) rfl rfl (gx_catn (Nat.le_of_ble_eq_true rfl)) dX1_outcome_9 ?_
  refine gx_istn C dX1_outcome_12 2 rfl (by decide) [0, 1]  rfl (gx_okn rfl rfl (gx_okr rfl gx_catv_i gx_ok0)) ?_
  refine gx_iload_n C dX1_outcome_13 0 rfl ?_
  replace hf := gx_ite hf
  rcases hf with ⟨c6, hf⟩ | ⟨c6, hf⟩
  · refine gx_if_eq_t (tgt := 26) C dX1_outcome_14 rfl c6 ?_
    replace hf := gx_b2s hf
    obtain ⟨a7, h8, g28, hf⟩ := hf
    refine gx_newN C g28 gz_316 tyX20_ok gx_df24_ok q1840 q1841 q171 dX1_outcome_26 rfl ?_
    refine gx_dup C dX1_outcome_29 rfl ?_
    refine gx_iload_n C dX1_outcome_30 2 rfl ?_
    refine gx_aload_n C dX1_outcome_31 1 rfl ?_
    replace hf := gx_bs hf
    obtain ⟨r9, g27, hf⟩ := hf
    refine gx_gr C g27 gz_20 q892 dX1_outcome_32 ?_
    refine gx_aload_n C dX1_outcome_35 1 rfl ?_
    replace hf := gx_bs hf
    obtain ⟨r10, g26, hf⟩ := hf
    refine gx_gr C g26 gz_85 q896 dX1_outcome_36 ?_
    replace hf := gx_bs hf
    obtain ⟨a11, rfl, hf⟩ := hf
    replace hf := gx_bs hf
    obtain ⟨x12, g25, hf⟩ := hf
    refine gx_giN C g25 gz_65 q614 dX1_outcome_39 ?_
    refine gx_iload_n C dX1_outcome_42 2 rfl ?_
    replace hf := gx_bs hf
    obtain ⟨a13, rfl, hf⟩ := hf
    replace hf := gx_bs hf
    obtain ⟨x15, g14, hf⟩ := hf
    refine gx_callV (st := [(.int p1), (va_rf (some a7)), (va_rf (some a7))]) C (w_X3_choose hlt g14) (is_X3_choose g14) gz_111 rfl (lw_V q1785 q1786 q1787 q124 q1788) gz_303 (by decide) rfl rfl (gx_catn (Nat.le_of_ble_eq_true rfl)) dX1_outcome_43 ?_
    refine gx_aload_n C dX1_outcome_46 1 rfl ?_
    refine gx_aload_n C dX1_outcome_47 1 rfl ?_
    replace hf := gx_bs hf
    obtain ⟨r16, g24, hf⟩ := hf
    refine gx_gr C g24 gz_85 q896 dX1_outcome_48 ?_
    replace hf := gx_bs hf
    obtain ⟨a17, rfl, hf⟩ := hf
    replace hf := gx_bs hf
    obtain ⟨x18, g23, hf⟩ := hf
    refine gx_giN C g23 gz_65 q614 dX1_outcome_51 ?_
    refine gx_iload_n C dX1_outcome_54 2 rfl ?_
    replace hf := gx_bs hf
    obtain ⟨x20, g19, hf⟩ := hf
    refine gx_callV (st := [(.int x15), (.int p1), (va_rf (some a7)), (va_rf (some a7))]) C (w_X1_next hlt g19) (is_X1_next g19) gz_108 rfl (lw_V q1842 q1844 qs35 q121 q1845) gz_314 (by decide) rfl rfl (gx_catn (Nat.le_of_ble_eq_true rfl)) dX1_outcome_55 ?_
    replace hf := gx_bs hf
    obtain ⟨h22, g21, hf⟩ := hf
    refine gx_callI (st := [(va_rf (some a7))]) C (w_X20_init hlt g21) q1846 q1847 q171 q1848 rfl gz_315 (by decide) rfl rfl (gx_catn (Nat.le_of_ble_eq_true rfl)) dX1_outcome_58 ?_
    obtain ⟨rfl, rfl⟩ := Prod.mk.inj (Option.some.inj hf)
    exact gx_aret C rfl rfl dX1_outcome_61
  · refine gx_if_eq_f (tgt := 26) C dX1_outcome_14 rfl c6 ?_
    replace hf := gx_b2s hf
    obtain ⟨a29, h30, g33, hf⟩ := hf
    refine gx_newN C g33 gz_319 tyX19_ok gx_df23_ok q1830 q1831 q170 dX1_outcome_17 rfl ?_
    refine gx_dup C dX1_outcome_20 rfl ?_
    refine gx_iload_n C dX1_outcome_21 0 rfl ?_
    replace hf := gx_bs hf
    obtain ⟨h32, g31, hf⟩ := hf
    refine gx_callI (st := [(va_rf (some a29))]) C (w_X19_init hlt g31) q1832 q1833 q170 q1834 rfl gz_318 (by decide) rfl rfl (gx_catn (Nat.le_of_ble_eq_true rfl)) dX1_outcome_22 ?_
    obtain ⟨rfl, rfl⟩ := Prod.mk.inj (Option.some.inj hf)
    exact gx_aret C rfl rfl dX1_outcome_25
theorem le_X1_outcome {D : gx_D} {r : Option Nat} {hz : HX} {h : HX} {a0 : Nat} {p1 : Int32} (hf : f_X1_outcome D h a0 p1 = some (r, hz)) : gx_le h hz := by
  unfold f_X1_outcome at hf
  replace hf := gx_bs hf
  obtain ⟨_, -, hf⟩ := hf
  replace hf := gx_bs hf
  obtain ⟨r1, g35, hf⟩ := hf
  replace hf := gx_bs hf
  obtain ⟨a2, rfl, hf⟩ := hf
  replace hf := gx_bs hf
  obtain ⟨x3, g34, hf⟩ := hf
  replace hf := gx_bs hf
  obtain ⟨x5, g4, hf⟩ := hf
  replace hf := gx_ite hf
  rcases hf with ⟨c6, hf⟩ | ⟨c6, hf⟩
  · replace hf := gx_b2s hf
    obtain ⟨a7, h8, g28, hf⟩ := hf
    refine (hx_le_new g28).tr ?_
    replace hf := gx_bs hf
    obtain ⟨r9, g27, hf⟩ := hf
    replace hf := gx_bs hf
    obtain ⟨r10, g26, hf⟩ := hf
    replace hf := gx_bs hf
    obtain ⟨a11, rfl, hf⟩ := hf
    replace hf := gx_bs hf
    obtain ⟨x12, g25, hf⟩ := hf
    replace hf := gx_bs hf
    obtain ⟨a13, rfl, hf⟩ := hf
    replace hf := gx_bs hf
    obtain ⟨x15, g14, hf⟩ := hf
    replace hf := gx_bs hf
    obtain ⟨r16, g24, hf⟩ := hf
    replace hf := gx_bs hf
    obtain ⟨a17, rfl, hf⟩ := hf
    replace hf := gx_bs hf
    obtain ⟨x18, g23, hf⟩ := hf
    replace hf := gx_bs hf
    obtain ⟨x20, g19, hf⟩ := hf
    replace hf := gx_bs hf
    obtain ⟨h22, g21, hf⟩ := hf
    refine (le_X20_init g21).tr ?_
    obtain ⟨rfl, rfl⟩ := Prod.mk.inj (Option.some.inj hf)
    exact gx_le.rf
  · replace hf := gx_b2s hf
    obtain ⟨a29, h30, g33, hf⟩ := hf
    refine (hx_le_new g33).tr ?_
    replace hf := gx_bs hf
    obtain ⟨h32, g31, hf⟩ := hf
    refine (le_X19_init g31).tr ?_
    obtain ⟨rfl, rfl⟩ := Prod.mk.inj (Option.some.inj hf)
    exact gx_le.rf
theorem w_X1_outcome {l : Launch} (hlt : l.stackTraces = false) {D : gx_D} {h : HX} {a0 : Nat} {p1 : Int32} {r : Option Nat} {hz : HX} (hf : f_X1_outcome D h a0 p1 = some (r, hz)) : gx_Met l yX1_outcome cX1_outcome 3 (some (.object "ContractMachine$Outcome")) 7 156 D [(va_rf (some a0)), (.int p1)] h (some (va_rf r)) hz :=
  gx_ofG gz_26 (by simp only [gx_lsr, gx_lsi, gx_lsj, gx_ls0]; decide) (le_X1_outcome hf) (fun p e R s m args below meth c C hx => by
    simp only [gx_lar, gx_lai, gx_laj, gx_la0, Nat.reduceAdd]
    exact w_X1_outcome_b hlt C hx hf)
def f_X4_trace_b41 (D : gx_D) (h : HX) (v0 : Nat) (v1 : Int32) (v2 : Int32) : Option HX :=
  (hx_gr h v0 [11] 4).bind fun r2 =>
  r2.bind fun a3 =>
  (hx_si h a3 (0 : Int32) v1).bind fun h4 =>
  (hx_gr h4 v0 [11] 5).bind fun r5 =>
  r5.bind fun a6 =>
  (hx_si h4 a6 (0 : Int32) v2).bind fun h7 =>
  (hx_gi h7 v0 [11] 8).bind fun x8 =>
  (f_J12_min D h7 (20 : Int32) (x8 + (1 : Int32))).bind fun x10 =>
  (hx_pi h7 v0 [11] 8 x10).bind fun h11 =>
  some h11
theorem w_X4_trace_b41 {l : Launch} (hlt : l.stackTraces = false) {p : Program} {e : Env} {R : Room} {s : State} {m : MethodId} {args : Array Value} {below : List Frame} {meth : Method} {c : Code} {D : gx_D} {h0 : HX} {hz : HX} (C : gx_Ctx p R s m args meth c "ContractMachine$Run" cX4_trace 4 none 2 45 D h0 hz) (hx : meth.name = "trace")  {h : HX} {v0 : Nat} {v1 : Int32} {v2 : Int32} (hf : f_X4_trace_b41 D h v0 v1 v2 = some hz) : gx_G p l e R s m args below meth c D h0 hz 4 (gx_MQ below args s D h0 hz none) 41 [(0, (va_rf (some v0))), (1, (.int v1)), (2, (.int v2))] [] h := by
  unfold f_X4_trace_b41 at hf
  refine gx_aload_n C dX4_trace_41 0 rfl ?_
  replace hf := gx_bs hf
  obtain ⟨r2, g17, hf⟩ := hf
  refine gx_gr C g17 gz_62 q607 dX4_trace_42 ?_
  refine gx_iconst (v := 0) C dX4_trace_45 rfl ?_
  refine gx_iload_n C dX4_trace_46 1 rfl ?_
  replace hf := gx_bs hf
  obtain ⟨a3, rfl, hf⟩ := hf
  replace hf := gx_bs hf
  obtain ⟨h4, g16, hf⟩ := hf
  refine gx_iast C g16 dX4_trace_47 ?_
  refine gx_aload_n C dX4_trace_48 0 rfl ?_
  replace hf := gx_bs hf
  obtain ⟨r5, g15, hf⟩ := hf
  refine gx_gr C g15 gz_63 q609 dX4_trace_49 ?_
  refine gx_iconst (v := 0) C dX4_trace_52 rfl ?_
  refine gx_iload_n C dX4_trace_53 2 rfl ?_
  replace hf := gx_bs hf
  obtain ⟨a6, rfl, hf⟩ := hf
  replace hf := gx_bs hf
  obtain ⟨h7, g14, hf⟩ := hf
  refine gx_iast C g14 dX4_trace_54 ?_
  refine gx_aload_n C dX4_trace_55 0 rfl ?_
  refine gx_bipush (v := 20) C dX4_trace_56 rfl ?_
  refine gx_aload_n C dX4_trace_58 0 rfl ?_
  replace hf := gx_bs hf
  obtain ⟨x8, g13, hf⟩ := hf
  refine gx_gi C g13 gz_67 q619 dX4_trace_59 ?_
  refine gx_iconst (v := 1) C dX4_trace_62 rfl ?_
  refine gx_iadd C dX4_trace_63 ?_
  replace hf := gx_bs hf
  obtain ⟨x10, g9, hf⟩ := hf
  refine gx_callS (st := [(va_rf (some v0))]) C (w_J12_min hlt g9) (lw_S q1875 q344 q137 q345) gz_135 (by decide) rfl rfl (gx_catn (Nat.le_of_ble_eq_true rfl)) dX4_trace_64 ?_
  replace hf := gx_bs hf
  obtain ⟨h11, g12, hf⟩ := hf
  refine gx_putv C g12 gz_67 gz_1 rfl rfl q619 dX4_trace_67 ?_
  obtain rfl := Option.some.inj hf
  exact gx_vret C dX4_trace_70
theorem le_X4_trace_b41 {D : gx_D} {hz : HX} {h : HX} {v0 : Nat} {v1 : Int32} {v2 : Int32} (hf : f_X4_trace_b41 D h v0 v1 v2 = some hz) : gx_le h hz := by
  unfold f_X4_trace_b41 at hf
  replace hf := gx_bs hf
  obtain ⟨r2, g17, hf⟩ := hf
  replace hf := gx_bs hf
  obtain ⟨a3, rfl, hf⟩ := hf
  replace hf := gx_bs hf
  obtain ⟨h4, g16, hf⟩ := hf
  refine (hx_le_si g16).tr ?_
  replace hf := gx_bs hf
  obtain ⟨r5, g15, hf⟩ := hf
  replace hf := gx_bs hf
  obtain ⟨a6, rfl, hf⟩ := hf
  replace hf := gx_bs hf
  obtain ⟨h7, g14, hf⟩ := hf
  refine (hx_le_si g14).tr ?_
  replace hf := gx_bs hf
  obtain ⟨x8, g13, hf⟩ := hf
  replace hf := gx_bs hf
  obtain ⟨x10, g9, hf⟩ := hf
  replace hf := gx_bs hf
  obtain ⟨h11, g12, hf⟩ := hf
  refine (hx_le_pv g12).tr ?_
  obtain rfl := Option.some.inj hf
  exact gx_le.rf
def f_X4_trace_b3 (D : gx_D) : Nat → HX → Nat → Int32 → Int32 → Int32 → Option HX
  | 0, _, _, _, _, _ => none
  | n + 1, h, v0, v1, v2, v3 =>
  if v3 ≤ 0 then
  f_X4_trace_b41 D h v0 v1 v2
  else
  (hx_gr h v0 [11] 4).bind fun r18 =>
  (hx_gr h v0 [11] 4).bind fun r19 =>
  r19.bind fun a20 =>
  (hx_ai h a20 0 (v3 - (1 : Int32))).bind fun x21 =>
  r18.bind fun a22 =>
  (hx_si h a22 v3 x21).bind fun h23 =>
  (hx_gr h23 v0 [11] 5).bind fun r24 =>
  (hx_gr h23 v0 [11] 5).bind fun r25 =>
  r25.bind fun a26 =>
  (hx_ai h23 a26 0 (v3 - (1 : Int32))).bind fun x27 =>
  r24.bind fun a28 =>
  (hx_si h23 a28 v3 x27).bind fun h29 =>
  (f_X4_trace_b3 D n) h29 v0 v1 v2 ((v3 + (-1 : Int32)))
theorem w_X4_trace_b3 {l : Launch} (hlt : l.stackTraces = false) {p : Program} {e : Env} {R : Room} {s : State} {m : MethodId} {args : Array Value} {below : List Frame} {meth : Method} {c : Code} {D : gx_D} {h0 : HX} {hz : HX} (C : gx_Ctx p R s m args meth c "ContractMachine$Run" cX4_trace 4 none 2 45 D h0 hz) (hx : meth.name = "trace")  : ∀ (n : Nat) ⦃h : HX⦄ ⦃v0 : Nat⦄ ⦃v1 : Int32⦄ ⦃v2 : Int32⦄ ⦃v3 : Int32⦄, f_X4_trace_b3 D n h v0 v1 v2 v3 = some hz → gx_G p l e R s m args below meth c D h0 hz 4 (gx_MQ below args s D h0 hz none) 3 [(0, (va_rf (some v0))), (1, (.int v1)), (2, (.int v2)), (3, (.int v3))] [] h := by
  intro n
  induction n with
  | zero => intro h v0 v1 v2 v3 hf; unfold f_X4_trace_b3 at hf; cases hf
  | succ n wk3 =>
    intro h v0 v1 v2 v3 hf
    unfold f_X4_trace_b3 at hf
    refine gx_iload_n C dX4_trace_3 3 rfl ?_
    replace hf := gx_ite hf
    rcases hf with ⟨c1, hf⟩ | ⟨c1, hf⟩
    · refine gx_if_le_t (tgt := 41) C dX4_trace_4 rfl c1 ?_
      refine gx_sub [0, 1, 2] rfl ?_
      exact w_X4_trace_b41 hlt C hx hf
    · refine gx_if_le_f (tgt := 41) C dX4_trace_4 rfl c1 ?_
      refine gx_aload_n C dX4_trace_7 0 rfl ?_
      replace hf := gx_bs hf
      obtain ⟨r18, g37, hf⟩ := hf
      refine gx_gr C g37 gz_62 q607 dX4_trace_8 ?_
      refine gx_iload_n C dX4_trace_11 3 rfl ?_
      refine gx_aload_n C dX4_trace_12 0 rfl ?_
      replace hf := gx_bs hf
      obtain ⟨r19, g36, hf⟩ := hf
      refine gx_gr C g36 gz_62 q607 dX4_trace_13 ?_
      refine gx_iload_n C dX4_trace_16 3 rfl ?_
      refine gx_iconst (v := 1) C dX4_trace_17 rfl ?_
      refine gx_isub C dX4_trace_18 ?_
      replace hf := gx_bs hf
      obtain ⟨a20, rfl, hf⟩ := hf
      replace hf := gx_bs hf
      obtain ⟨x21, g35, hf⟩ := hf
      refine gx_iald C g35 dX4_trace_19 ?_
      replace hf := gx_bs hf
      obtain ⟨a22, rfl, hf⟩ := hf
      replace hf := gx_bs hf
      obtain ⟨h23, g34, hf⟩ := hf
      refine gx_iast C g34 dX4_trace_20 ?_
      refine gx_aload_n C dX4_trace_21 0 rfl ?_
      replace hf := gx_bs hf
      obtain ⟨r24, g33, hf⟩ := hf
      refine gx_gr C g33 gz_63 q609 dX4_trace_22 ?_
      refine gx_iload_n C dX4_trace_25 3 rfl ?_
      refine gx_aload_n C dX4_trace_26 0 rfl ?_
      replace hf := gx_bs hf
      obtain ⟨r25, g32, hf⟩ := hf
      refine gx_gr C g32 gz_63 q609 dX4_trace_27 ?_
      refine gx_iload_n C dX4_trace_30 3 rfl ?_
      refine gx_iconst (v := 1) C dX4_trace_31 rfl ?_
      refine gx_isub C dX4_trace_32 ?_
      replace hf := gx_bs hf
      obtain ⟨a26, rfl, hf⟩ := hf
      replace hf := gx_bs hf
      obtain ⟨x27, g31, hf⟩ := hf
      refine gx_iald C g31 dX4_trace_33 ?_
      replace hf := gx_bs hf
      obtain ⟨a28, rfl, hf⟩ := hf
      replace hf := gx_bs hf
      obtain ⟨h29, g30, hf⟩ := hf
      refine gx_iast C g30 dX4_trace_34 ?_
      refine gx_inc (v := -1) C dX4_trace_35 3 rfl rfl (by decide) [0, 1, 2] rfl (gx_okn rfl rfl (gx_okn rfl rfl (gx_okr rfl gx_catv_i gx_ok0))) ?_
      refine gx_goto (tgt := 3) C dX4_trace_38 rfl ?_
      refine gx_sub [1, 2, 3, 0] rfl ?_
      exact wk3 hf
theorem le_X4_trace_b3 {D : gx_D} {hz : HX} : ∀ (n : Nat) ⦃h : HX⦄ ⦃v0 : Nat⦄ ⦃v1 : Int32⦄ ⦃v2 : Int32⦄ ⦃v3 : Int32⦄, f_X4_trace_b3 D n h v0 v1 v2 v3 = some hz → gx_le h hz := by
  intro n
  induction n with
  | zero => intro h v0 v1 v2 v3 hf; unfold f_X4_trace_b3 at hf; cases hf
  | succ n lek3 =>
    intro h v0 v1 v2 v3 hf
    unfold f_X4_trace_b3 at hf
    replace hf := gx_ite hf
    rcases hf with ⟨c1, hf⟩ | ⟨c1, hf⟩
    · exact le_X4_trace_b41 hf
    · replace hf := gx_bs hf
      obtain ⟨r18, g37, hf⟩ := hf
      replace hf := gx_bs hf
      obtain ⟨r19, g36, hf⟩ := hf
      replace hf := gx_bs hf
      obtain ⟨a20, rfl, hf⟩ := hf
      replace hf := gx_bs hf
      obtain ⟨x21, g35, hf⟩ := hf
      replace hf := gx_bs hf
      obtain ⟨a22, rfl, hf⟩ := hf
      replace hf := gx_bs hf
      obtain ⟨h23, g34, hf⟩ := hf
      refine (hx_le_si g34).tr ?_
      replace hf := gx_bs hf
      obtain ⟨r24, g33, hf⟩ := hf
      replace hf := gx_bs hf
      obtain ⟨r25, g32, hf⟩ := hf
      replace hf := gx_bs hf
      obtain ⟨a26, rfl, hf⟩ := hf
      replace hf := gx_bs hf
      obtain ⟨x27, g31, hf⟩ := hf
      replace hf := gx_bs hf
      obtain ⟨a28, rfl, hf⟩ := hf
      replace hf := gx_bs hf
      obtain ⟨h29, g30, hf⟩ := hf
      refine (hx_le_si g30).tr ?_
      exact lek3 hf
def f_X4_trace (D : gx_D) (h : HX) (a0 : Nat) (p1 : Int32) (p2 : Int32) : Option HX :=
  (hx_is h a0 [11]).bind fun _ =>
  f_X4_trace_b3 D gx_fuel h a0 p1 p2 ((19 : Int32))
theorem is_X4_trace {D : gx_D} {h : HX} {a0 : Nat} {p1 : Int32} {p2 : Int32} {z} (hf : f_X4_trace D h a0 p1 p2 = some z) : gx_isC h a0 [11] := by
  unfold f_X4_trace at hf
  obtain ⟨_, g, -⟩ := gx_bs hf
  exact hx_is_of g
theorem w_X4_trace_b {l : Launch} (hlt : l.stackTraces = false) {p : Program} {e : Env} {R : Room} {s : State} {m : MethodId} {args : Array Value} {below : List Frame} {meth : Method} {c : Code} {D : gx_D} {h0 : HX} {hz : HX} (C : gx_Ctx p R s m args meth c "ContractMachine$Run" cX4_trace 4 none 2 45 D h0 hz) (hx : meth.name = "trace") {a0 : Nat} {p1 : Int32} {p2 : Int32} (hf : f_X4_trace D h0 a0 p1 p2 = some hz) : gx_G p l e R s m args below meth c D h0 hz 4 (gx_MQ below args s D h0 hz none) 0 [(0, (va_rf (some a0))), (1, (.int p1)), (2, (.int p2))] [] h0 := by
  unfold f_X4_trace at hf
  replace hf := gx_bs hf
  obtain ⟨_, -, hf⟩ := hf
  refine gx_bipush (v := 19) C dX4_trace_0 rfl ?_
  refine gx_istn C dX4_trace_2 3 rfl (by decide) [0, 1, 2]  rfl (gx_okn rfl rfl (gx_okn rfl rfl (gx_okr rfl gx_catv_i gx_ok0))) ?_
  refine gx_sub [1, 2, 3, 0] rfl ?_
  exact w_X4_trace_b3 hlt C hx gx_fuel hf
theorem le_X4_trace {D : gx_D} {hz : HX} {h : HX} {a0 : Nat} {p1 : Int32} {p2 : Int32} (hf : f_X4_trace D h a0 p1 p2 = some hz) : gx_le h hz := by
  unfold f_X4_trace at hf
  replace hf := gx_bs hf
  obtain ⟨_, -, hf⟩ := hf
  exact le_X4_trace_b3 gx_fuel hf
theorem w_X4_trace {l : Launch} (hlt : l.stackTraces = false) {D : gx_D} {h : HX} {a0 : Nat} {p1 : Int32} {p2 : Int32} {hz : HX} (hf : f_X4_trace D h a0 p1 p2 = some hz) : gx_Met l yX4_trace cX4_trace 4 none 2 45 D [(va_rf (some a0)), (.int p1), (.int p2)] h none hz :=
  gx_ofG gz_64 (by simp only [gx_lsr, gx_lsi, gx_lsj, gx_ls0]; decide) (le_X4_trace hf) (fun p e R s m args below meth c C hx => by
    simp only [gx_lar, gx_lai, gx_laj, gx_la0, Nat.reduceAdd]
    exact w_X4_trace_b hlt C hx hf)
def f_X20_applyTo (D : gx_D) (h : HX) (a0 : Nat) (p1 : Option Nat) : Option HX :=
  (hx_is h a0 [24]).bind fun _ =>
  (hx_gi h a0 [24] 2).bind fun x1 =>
  p1.bind fun a2 =>
  (hx_pi h a2 [11] 6 x1).bind fun h3 =>
  (hx_gr h3 a2 [11] 1).bind fun r4 =>
  (hx_gi h3 a0 [24] 1).bind fun x5 =>
  r4.bind fun a6 =>
  (hx_ai h3 a6 0 x5).bind fun x7 =>
  (hx_si h3 a6 x5 (x7 + (1 : Int32))).bind fun h8 =>
  (hx_gr h8 a2 [11] 2).bind fun r9 =>
  (f_X4_state D h8 a2).bind fun x11 =>
  r9.bind fun a12 =>
  (hx_ai h8 a12 0 x11).bind fun x13 =>
  (hx_si h8 a12 x11 (x13 + (1 : Int32))).bind fun h14 =>
  (hx_gi h14 a2 [11] 7).bind fun x15 =>
  (hx_pi h14 a2 [11] 7 (x15 + (1 : Int32))).bind fun h16 =>
  (hx_gi h16 a0 [24] 0).bind fun x17 =>
  (hx_gi h16 a0 [24] 1).bind fun x18 =>
  (f_X4_trace D h16 a2 x17 x18).bind fun h20 =>
  some h20
theorem is_X20_applyTo {D : gx_D} {h : HX} {a0 : Nat} {p1 : Option Nat} {z} (hf : f_X20_applyTo D h a0 p1 = some z) : gx_isC h a0 [24] := by
  unfold f_X20_applyTo at hf
  obtain ⟨_, g, -⟩ := gx_bs hf
  exact hx_is_of g
theorem w_X20_applyTo_b {l : Launch} (hlt : l.stackTraces = false) {p : Program} {e : Env} {R : Room} {s : State} {m : MethodId} {args : Array Value} {below : List Frame} {meth : Method} {c : Code} {D : gx_D} {h0 : HX} {hz : HX} (C : gx_Ctx p R s m args meth c "ContractMachine$Accepted" cX20_applyTo 2 none 3 68 D h0 hz) (hx : meth.name = "applyTo") {a0 : Nat} {p1 : Option Nat} (hf : f_X20_applyTo D h0 a0 p1 = some hz) : gx_G p l e R s m args below meth c D h0 hz 2 (gx_MQ below args s D h0 hz none) 0 [(0, (va_rf (some a0))), (1, (va_rf p1))] [] h0 := by
  unfold f_X20_applyTo at hf
  replace hf := gx_bs hf
  obtain ⟨_, -, hf⟩ := hf
  refine gx_aload_n C dX20_applyTo_0 1 rfl ?_
  refine gx_aload_n C dX20_applyTo_1 0 rfl ?_
  replace hf := gx_bs hf
  obtain ⟨x1, g33, hf⟩ := hf
  refine gx_gi C g33 gz_308 q1852 dX20_applyTo_2 ?_
  replace hf := gx_bs hf
  obtain ⟨a2, rfl, hf⟩ := hf
  replace hf := gx_bs hf
  obtain ⟨h3, g32, hf⟩ := hf
  refine gx_putvN C g32 gz_65 gz_1 rfl rfl q612 dX20_applyTo_5 ?_
  refine gx_aload_n C dX20_applyTo_8 1 rfl ?_
  replace hf := gx_bs hf
  obtain ⟨r4, g31, hf⟩ := hf
  refine gx_grN C g31 gz_58 q599 dX20_applyTo_9 ?_
  refine gx_aload_n C dX20_applyTo_12 0 rfl ?_
  replace hf := gx_bs hf
  obtain ⟨x5, g30, hf⟩ := hf
  refine gx_gi C g30 gz_307 q1851 dX20_applyTo_13 ?_
  refine gx_dup2 C dX20_applyTo_16 rfl (gx_rfcat _) ?_
  replace hf := gx_bs hf
  obtain ⟨a6, rfl, hf⟩ := hf
  replace hf := gx_bs hf
  obtain ⟨x7, g29, hf⟩ := hf
  refine gx_iald C g29 dX20_applyTo_17 ?_
  refine gx_iconst (v := 1) C dX20_applyTo_18 rfl ?_
  refine gx_iadd C dX20_applyTo_19 ?_
  replace hf := gx_bs hf
  obtain ⟨h8, g28, hf⟩ := hf
  refine gx_iast C g28 dX20_applyTo_20 ?_
  refine gx_aload_n C dX20_applyTo_21 1 rfl ?_
  replace hf := gx_bs hf
  obtain ⟨r9, g27, hf⟩ := hf
  refine gx_grN C g27 gz_60 q602 dX20_applyTo_22 ?_
  refine gx_aload_n C dX20_applyTo_25 1 rfl ?_
  replace hf := gx_bs hf
  obtain ⟨x11, g10, hf⟩ := hf
  refine gx_callV (st := [(va_rf r9)]) C (w_X4_state hlt g10) (is_X4_state g10) gz_13 rfl (lw_V q1870 q878 q879 q144 q880) gz_68 (by decide) rfl rfl (gx_catn (Nat.le_of_ble_eq_true rfl)) dX20_applyTo_26 ?_
  refine gx_dup2 C dX20_applyTo_29 rfl (gx_rfcat _) ?_
  replace hf := gx_bs hf
  obtain ⟨a12, rfl, hf⟩ := hf
  replace hf := gx_bs hf
  obtain ⟨x13, g26, hf⟩ := hf
  refine gx_iald C g26 dX20_applyTo_30 ?_
  refine gx_iconst (v := 1) C dX20_applyTo_31 rfl ?_
  refine gx_iadd C dX20_applyTo_32 ?_
  replace hf := gx_bs hf
  obtain ⟨h14, g25, hf⟩ := hf
  refine gx_iast C g25 dX20_applyTo_33 ?_
  refine gx_aload_n C dX20_applyTo_34 1 rfl ?_
  refine gx_dup C dX20_applyTo_35 rfl ?_
  replace hf := gx_bs hf
  obtain ⟨x15, g24, hf⟩ := hf
  refine gx_giN C g24 gz_66 q617 dX20_applyTo_36 ?_
  refine gx_iconst (v := 1) C dX20_applyTo_39 rfl ?_
  refine gx_iadd C dX20_applyTo_40 ?_
  replace hf := gx_bs hf
  obtain ⟨h16, g23, hf⟩ := hf
  refine gx_putvN C g23 gz_66 gz_1 rfl rfl q617 dX20_applyTo_41 ?_
  refine gx_aload_n C dX20_applyTo_44 1 rfl ?_
  refine gx_aload_n C dX20_applyTo_45 0 rfl ?_
  replace hf := gx_bs hf
  obtain ⟨x17, g22, hf⟩ := hf
  refine gx_gi C g22 gz_306 q1850 dX20_applyTo_46 ?_
  refine gx_aload_n C dX20_applyTo_49 0 rfl ?_
  replace hf := gx_bs hf
  obtain ⟨x18, g21, hf⟩ := hf
  refine gx_gi C g21 gz_307 q1851 dX20_applyTo_50 ?_
  replace hf := gx_bs hf
  obtain ⟨h20, g19, hf⟩ := hf
  refine gx_callV (st := []) C (w_X4_trace hlt g19) (is_X4_trace g19) gz_13 rfl (lw_V q1871 q1872 q1873 q144 q1874) gz_320 (by decide) rfl rfl (gx_catn (Nat.le_of_ble_eq_true rfl)) dX20_applyTo_53 ?_
  obtain rfl := Option.some.inj hf
  exact gx_vret C dX20_applyTo_56
theorem le_X20_applyTo {D : gx_D} {hz : HX} {h : HX} {a0 : Nat} {p1 : Option Nat} (hf : f_X20_applyTo D h a0 p1 = some hz) : gx_le h hz := by
  unfold f_X20_applyTo at hf
  replace hf := gx_bs hf
  obtain ⟨_, -, hf⟩ := hf
  replace hf := gx_bs hf
  obtain ⟨x1, g33, hf⟩ := hf
  replace hf := gx_bs hf
  obtain ⟨a2, rfl, hf⟩ := hf
  replace hf := gx_bs hf
  obtain ⟨h3, g32, hf⟩ := hf
  refine (hx_le_pv g32).tr ?_
  replace hf := gx_bs hf
  obtain ⟨r4, g31, hf⟩ := hf
  replace hf := gx_bs hf
  obtain ⟨x5, g30, hf⟩ := hf
  replace hf := gx_bs hf
  obtain ⟨a6, rfl, hf⟩ := hf
  replace hf := gx_bs hf
  obtain ⟨x7, g29, hf⟩ := hf
  replace hf := gx_bs hf
  obtain ⟨h8, g28, hf⟩ := hf
  refine (hx_le_si g28).tr ?_
  replace hf := gx_bs hf
  obtain ⟨r9, g27, hf⟩ := hf
  replace hf := gx_bs hf
  obtain ⟨x11, g10, hf⟩ := hf
  replace hf := gx_bs hf
  obtain ⟨a12, rfl, hf⟩ := hf
  replace hf := gx_bs hf
  obtain ⟨x13, g26, hf⟩ := hf
  replace hf := gx_bs hf
  obtain ⟨h14, g25, hf⟩ := hf
  refine (hx_le_si g25).tr ?_
  replace hf := gx_bs hf
  obtain ⟨x15, g24, hf⟩ := hf
  replace hf := gx_bs hf
  obtain ⟨h16, g23, hf⟩ := hf
  refine (hx_le_pv g23).tr ?_
  replace hf := gx_bs hf
  obtain ⟨x17, g22, hf⟩ := hf
  replace hf := gx_bs hf
  obtain ⟨x18, g21, hf⟩ := hf
  replace hf := gx_bs hf
  obtain ⟨h20, g19, hf⟩ := hf
  refine (le_X4_trace g19).tr ?_
  obtain rfl := Option.some.inj hf
  exact gx_le.rf
theorem w_X20_applyTo {l : Launch} (hlt : l.stackTraces = false) {D : gx_D} {h : HX} {a0 : Nat} {p1 : Option Nat} {hz : HX} (hf : f_X20_applyTo D h a0 p1 = some hz) : gx_Met l yX20_applyTo cX20_applyTo 2 none 3 68 D [(va_rf (some a0)), (va_rf p1)] h none hz :=
  gx_ofG gz_309 (by simp only [gx_lsr, gx_lsi, gx_lsj, gx_ls0]; decide) (le_X20_applyTo hf) (fun p e R s m args below meth c C hx => by
    simp only [gx_lar, gx_lai, gx_laj, gx_la0, Nat.reduceAdd]
    exact w_X20_applyTo_b hlt C hx hf)
def f_X19_applyTo (D : gx_D) (h : HX) (a0 : Nat) (p1 : Option Nat) : Option HX :=
  (hx_is h a0 [23]).bind fun _ =>
  p1.bind fun a1 =>
  (hx_gr h a1 [11] 3).bind fun r2 =>
  (hx_gi h a0 [23] 0).bind fun x3 =>
  r2.bind fun a4 =>
  (hx_ai h a4 0 x3).bind fun x5 =>
  (hx_si h a4 x3 (x5 + (1 : Int32))).bind fun h6 =>
  some h6
theorem is_X19_applyTo {D : gx_D} {h : HX} {a0 : Nat} {p1 : Option Nat} {z} (hf : f_X19_applyTo D h a0 p1 = some z) : gx_isC h a0 [23] := by
  unfold f_X19_applyTo at hf
  obtain ⟨_, g, -⟩ := gx_bs hf
  exact hx_is_of g
theorem w_X19_applyTo_b {l : Launch} (hlt : l.stackTraces = false) {p : Program} {e : Env} {R : Room} {s : State} {m : MethodId} {args : Array Value} {below : List Frame} {meth : Method} {c : Code} {D : gx_D} {h0 : HX} {hz : HX} (C : gx_Ctx p R s m args meth c "ContractMachine$Rejected" cX19_applyTo 2 none 1 24 D h0 hz) (hx : meth.name = "applyTo") {a0 : Nat} {p1 : Option Nat} (hf : f_X19_applyTo D h0 a0 p1 = some hz) : gx_G p l e R s m args below meth c D h0 hz 2 (gx_MQ below args s D h0 hz none) 0 [(0, (va_rf (some a0))), (1, (va_rf p1))] [] h0 := by
  unfold f_X19_applyTo at hf
  replace hf := gx_bs hf
  obtain ⟨_, -, hf⟩ := hf
  refine gx_aload_n C dX19_applyTo_0 1 rfl ?_
  replace hf := gx_bs hf
  obtain ⟨a1, rfl, hf⟩ := hf
  replace hf := gx_bs hf
  obtain ⟨r2, g10, hf⟩ := hf
  refine gx_grN C g10 gz_61 q605 dX19_applyTo_1 ?_
  refine gx_aload_n C dX19_applyTo_4 0 rfl ?_
  replace hf := gx_bs hf
  obtain ⟨x3, g9, hf⟩ := hf
  refine gx_gi C g9 gz_310 q1836 dX19_applyTo_5 ?_
  refine gx_dup2 C dX19_applyTo_8 rfl (gx_rfcat _) ?_
  replace hf := gx_bs hf
  obtain ⟨a4, rfl, hf⟩ := hf
  replace hf := gx_bs hf
  obtain ⟨x5, g8, hf⟩ := hf
  refine gx_iald C g8 dX19_applyTo_9 ?_
  refine gx_iconst (v := 1) C dX19_applyTo_10 rfl ?_
  refine gx_iadd C dX19_applyTo_11 ?_
  replace hf := gx_bs hf
  obtain ⟨h6, g7, hf⟩ := hf
  refine gx_iast C g7 dX19_applyTo_12 ?_
  obtain rfl := Option.some.inj hf
  exact gx_vret C dX19_applyTo_13
theorem le_X19_applyTo {D : gx_D} {hz : HX} {h : HX} {a0 : Nat} {p1 : Option Nat} (hf : f_X19_applyTo D h a0 p1 = some hz) : gx_le h hz := by
  unfold f_X19_applyTo at hf
  replace hf := gx_bs hf
  obtain ⟨_, -, hf⟩ := hf
  replace hf := gx_bs hf
  obtain ⟨a1, rfl, hf⟩ := hf
  replace hf := gx_bs hf
  obtain ⟨r2, g10, hf⟩ := hf
  replace hf := gx_bs hf
  obtain ⟨x3, g9, hf⟩ := hf
  replace hf := gx_bs hf
  obtain ⟨a4, rfl, hf⟩ := hf
  replace hf := gx_bs hf
  obtain ⟨x5, g8, hf⟩ := hf
  replace hf := gx_bs hf
  obtain ⟨h6, g7, hf⟩ := hf
  refine (hx_le_si g7).tr ?_
  obtain rfl := Option.some.inj hf
  exact gx_le.rf
theorem w_X19_applyTo {l : Launch} (hlt : l.stackTraces = false) {D : gx_D} {h : HX} {a0 : Nat} {p1 : Option Nat} {hz : HX} (hf : f_X19_applyTo D h a0 p1 = some hz) : gx_Met l yX19_applyTo cX19_applyTo 2 none 1 24 D [(va_rf (some a0)), (va_rf p1)] h none hz :=
  gx_ofG gz_311 (by simp only [gx_lsr, gx_lsi, gx_lsj, gx_ls0]; decide) (le_X19_applyTo hf) (fun p e R s m args below meth c C hx => by
    simp only [gx_lar, gx_lai, gx_laj, gx_la0, Nat.reduceAdd]
    exact w_X19_applyTo_b hlt C hx hf)
def f_X15_execute (D : gx_D) (h : HX) (a0 : Nat) : Option ((Bool) × HX) :=
  (hx_is h a0 [19]).bind fun _ =>
  (hx_gr h a0 [19] 1).bind fun r1 =>
  r1.bind fun a2 =>
  (hx_gr h a2 [18] 8).bind fun r3 =>
  (hx_gi h a0 [19] 0).bind fun x4 =>
  r3.bind fun a5 =>
  gx_b2 (f_X1_outcome D h a5 x4) fun r7 h8 =>
  (hx_gr h8 a0 [19] 1).bind fun r9 =>
  r9.bind fun a10 =>
  (hx_gr h8 a10 [18] 8).bind fun r11 =>
  r11.bind fun a12 =>
  (hx_gr h8 a12 [9] 6).bind fun r13 =>
  r7.bind fun a14 =>
  if hx_isb h8 a14 [23] = true then
  (f_X19_applyTo D h8 a14 r13).bind fun h17 =>
  some (true, h17)
  else
  if hx_isb h8 a14 [24] = true then
  (f_X20_applyTo D h8 a14 r13).bind fun h20 =>
  some (true, h20)
  else
  none
theorem is_X15_execute {D : gx_D} {h : HX} {a0 : Nat} {z} (hf : f_X15_execute D h a0 = some z) : gx_isC h a0 [19] := by
  unfold f_X15_execute at hf
  obtain ⟨_, g, -⟩ := gx_bs hf
  exact hx_is_of g
theorem w_X15_execute_b {l : Launch} (hlt : l.stackTraces = false) {p : Program} {e : Env} {R : Room} {s : State} {m : MethodId} {args : Array Value} {below : List Frame} {meth : Method} {c : Code} {D : gx_D} {h0 : HX} {r : Bool} {hz : HX} (C : gx_Ctx p R s m args meth c "ContractMachine$ScriptParser$1" cX15_execute 1 (some .boolean) 8 178 D h0 hz) (hx : meth.name = "execute") {a0 : Nat} (hf : f_X15_execute D h0 a0 = some (r, hz)) : gx_G p l e R s m args below meth c D h0 hz 1 (gx_MQ below args s D h0 hz (some (.int (b2i r)))) 0 [(0, (va_rf (some a0)))] [] h0 := by
  unfold f_X15_execute at hf
  replace hf := gx_bs hf
  obtain ⟨_, -, hf⟩ := hf
  refine gx_aload_n C dX15_execute_0 0 rfl ?_
  replace hf := gx_bs hf
  obtain ⟨r1, g26, hf⟩ := hf
  refine gx_gr C g26 gz_321 q1567 dX15_execute_1 ?_
  replace hf := gx_bs hf
  obtain ⟨a2, rfl, hf⟩ := hf
  replace hf := gx_bs hf
  obtain ⟨r3, g25, hf⟩ := hf
  refine gx_gr C g25 gz_322 q1503 dX15_execute_4 ?_
  refine gx_aload_n C dX15_execute_7 0 rfl ?_
  replace hf := gx_bs hf
  obtain ⟨x4, g24, hf⟩ := hf
  refine gx_gi C g24 gz_323 q1566 dX15_execute_8 ?_
  replace hf := gx_bs hf
  obtain ⟨a5, rfl, hf⟩ := hf
  replace hf := gx_b2s hf
  obtain ⟨r7, h8, g6, hf⟩ := hf
  refine gx_callVN (st := []) C (w_X1_outcome hlt g6) (is_X1_outcome g6) gz_108 q1777 q1779 qs32 q121 q1780 gz_324 (by decide) rfl rfl (gx_catn (Nat.le_of_ble_eq_true rfl)) dX15_execute_11 ?_
  refine gx_aload_n C dX15_execute_14 0 rfl ?_
  replace hf := gx_bs hf
  obtain ⟨r9, g23, hf⟩ := hf
  refine gx_gr C g23 gz_321 q1567 dX15_execute_15 ?_
  replace hf := gx_bs hf
  obtain ⟨a10, rfl, hf⟩ := hf
  replace hf := gx_bs hf
  obtain ⟨r11, g22, hf⟩ := hf
  refine gx_gr C g22 gz_322 q1503 dX15_execute_18 ?_
  replace hf := gx_bs hf
  obtain ⟨a12, rfl, hf⟩ := hf
  replace hf := gx_bs hf
  obtain ⟨r13, g21, hf⟩ := hf
  refine gx_grN C g21 gz_85 q894 dX15_execute_21 ?_
  replace hf := gx_bs hf
  obtain ⟨a14, rfl, hf⟩ := hf
  replace hf := gx_ite hf
  rcases hf with ⟨c15, hf⟩ | ⟨c15, hf⟩
  · replace hf := gx_bs hf
    obtain ⟨h17, g16, hf⟩ := hf
    refine gx_callF (st := []) C (w_X19_applyTo hlt g16) (is_X19_applyTo g16) q1861 (gx_cis1 gz_319 ⟨gz_326, q1877⟩ gx_cis0) q1879 q170 q1881 gz_325 (by decide) rfl rfl (gx_catn (Nat.le_of_ble_eq_true rfl)) dX15_execute_24 ?_
    refine gx_iconst (v := 1) C dX15_execute_29 rfl ?_
    obtain ⟨rfl, rfl⟩ := Prod.mk.inj (Option.some.inj hf)
    exact gx_zret (b := true) C dX15_execute_30
  replace hf := gx_ite hf
  rcases hf with ⟨c18, hf⟩ | ⟨c18, hf⟩
  · replace hf := gx_bs hf
    obtain ⟨h20, g19, hf⟩ := hf
    refine gx_callF (st := []) C (w_X20_applyTo hlt g19) (is_X20_applyTo g19) q1861 (gx_cis1 gz_316 ⟨gz_327, q1865⟩ gx_cis0) q1867 q171 q1869 gz_325 (by decide) rfl rfl (gx_catn (Nat.le_of_ble_eq_true rfl)) dX15_execute_24 ?_
    refine gx_iconst (v := 1) C dX15_execute_29 rfl ?_
    obtain ⟨rfl, rfl⟩ := Prod.mk.inj (Option.some.inj hf)
    exact gx_zret (b := true) C dX15_execute_30
  cases hf
theorem le_X15_execute {D : gx_D} {r : Bool} {hz : HX} {h : HX} {a0 : Nat} (hf : f_X15_execute D h a0 = some (r, hz)) : gx_le h hz := by
  unfold f_X15_execute at hf
  replace hf := gx_bs hf
  obtain ⟨_, -, hf⟩ := hf
  replace hf := gx_bs hf
  obtain ⟨r1, g26, hf⟩ := hf
  replace hf := gx_bs hf
  obtain ⟨a2, rfl, hf⟩ := hf
  replace hf := gx_bs hf
  obtain ⟨r3, g25, hf⟩ := hf
  replace hf := gx_bs hf
  obtain ⟨x4, g24, hf⟩ := hf
  replace hf := gx_bs hf
  obtain ⟨a5, rfl, hf⟩ := hf
  replace hf := gx_b2s hf
  obtain ⟨r7, h8, g6, hf⟩ := hf
  refine (le_X1_outcome g6).tr ?_
  replace hf := gx_bs hf
  obtain ⟨r9, g23, hf⟩ := hf
  replace hf := gx_bs hf
  obtain ⟨a10, rfl, hf⟩ := hf
  replace hf := gx_bs hf
  obtain ⟨r11, g22, hf⟩ := hf
  replace hf := gx_bs hf
  obtain ⟨a12, rfl, hf⟩ := hf
  replace hf := gx_bs hf
  obtain ⟨r13, g21, hf⟩ := hf
  replace hf := gx_bs hf
  obtain ⟨a14, rfl, hf⟩ := hf
  replace hf := gx_ite hf
  rcases hf with ⟨c15, hf⟩ | ⟨c15, hf⟩
  · replace hf := gx_bs hf
    obtain ⟨h17, g16, hf⟩ := hf
    refine (le_X19_applyTo g16).tr ?_
    obtain ⟨rfl, rfl⟩ := Prod.mk.inj (Option.some.inj hf)
    exact gx_le.rf
  replace hf := gx_ite hf
  rcases hf with ⟨c18, hf⟩ | ⟨c18, hf⟩
  · replace hf := gx_bs hf
    obtain ⟨h20, g19, hf⟩ := hf
    refine (le_X20_applyTo g19).tr ?_
    obtain ⟨rfl, rfl⟩ := Prod.mk.inj (Option.some.inj hf)
    exact gx_le.rf
  cases hf
theorem w_X15_execute {l : Launch} (hlt : l.stackTraces = false) {D : gx_D} {h : HX} {a0 : Nat} {r : Bool} {hz : HX} (hf : f_X15_execute D h a0 = some (r, hz)) : gx_Met l yX15_execute cX15_execute 1 (some .boolean) 8 178 D [(va_rf (some a0))] h (some (.int (b2i r))) hz :=
  gx_ofG gz_328 (by simp only [gx_lsr, gx_lsi, gx_lsj, gx_ls0]; decide) (le_X15_execute hf) (fun p e R s m args below meth c C hx => by
    simp only [gx_lar, gx_lai, gx_laj, gx_la0, Nat.reduceAdd]
    exact w_X15_execute_b hlt C hx hf)
def f_X4_valuation (D : gx_D) (h : HX) (a0 : Nat) : Option Int32 :=
  (hx_is h a0 [11]).bind fun _ =>
  (hx_gi h a0 [11] 6).bind fun x1 =>
  some ((x1 - x1 / (1000 : Int32) * (1000 : Int32)))
theorem is_X4_valuation {D : gx_D} {h : HX} {a0 : Nat} {z} (hf : f_X4_valuation D h a0 = some z) : gx_isC h a0 [11] := by
  unfold f_X4_valuation at hf
  obtain ⟨_, g, -⟩ := gx_bs hf
  exact hx_is_of g
theorem w_X4_valuation_b {l : Launch} (hlt : l.stackTraces = false) {p : Program} {e : Env} {R : Room} {s : State} {m : MethodId} {args : Array Value} {below : List Frame} {meth : Method} {c : Code} {D : gx_D} {h0 : HX} {r : Int32} (C : gx_Ctx p R s m args meth c "ContractMachine$Run" cX4_valuation 1 (some .int) 1 24 D h0 h0) (hx : meth.name = "valuation") {a0 : Nat} (hf : f_X4_valuation D h0 a0 = some r) : gx_G p l e R s m args below meth c D h0 h0 1 (gx_MQ below args s D h0 h0 (some (.int r))) 0 [(0, (va_rf (some a0)))] [] h0 := by
  unfold f_X4_valuation at hf
  replace hf := gx_bs hf
  obtain ⟨_, -, hf⟩ := hf
  refine gx_aload_n C dX4_valuation_0 0 rfl ?_
  replace hf := gx_bs hf
  obtain ⟨x1, g2, hf⟩ := hf
  refine gx_gi C g2 gz_65 q611 dX4_valuation_1 ?_
  refine gx_sipush (v := 1000) C dX4_valuation_4 rfl ?_
  refine gx_irem C dX4_valuation_7 (by decide) ?_
  obtain rfl := Option.some.inj hf
  exact gx_iret C dX4_valuation_8
theorem w_X4_valuation {l : Launch} (hlt : l.stackTraces = false) {D : gx_D} {h : HX} {a0 : Nat} {r : Int32} (hf : f_X4_valuation D h a0 = some r) : gx_Met l yX4_valuation cX4_valuation 1 (some .int) 1 24 D [(va_rf (some a0))] h (some (.int r)) h :=
  gx_ofG gz_64 (by simp only [gx_lsr, gx_lsi, gx_lsj, gx_ls0]; decide) gx_le.rf (fun p e R s m args below meth c C hx => by
    simp only [gx_lar, gx_lai, gx_laj, gx_la0, Nat.reduceAdd]
    exact w_X4_valuation_b hlt C hx hf)
def f_X1_configurationWith (D : gx_D) (h : HX) (a0 : Nat) (p1 : Int32) (p2 : Int32) : Option Int32 :=
  (hx_is h a0 [9]).bind fun _ =>
  (hx_gr h a0 [9] 6).bind fun r1 =>
  r1.bind fun a2 =>
  (hx_gi h a2 [11] 6).bind fun x3 =>
  (hx_gr h a0 [9] 6).bind fun r4 =>
  r4.bind fun a5 =>
  (f_X4_valuation D h a5).bind fun x7 =>
  (f_X1_valueIn D h x7 p1).bind fun x9 =>
  (f_X1_weight D h p1).bind fun x11 =>
  some ((x3 + ((p2 - x9) * x11)))
theorem is_X1_configurationWith {D : gx_D} {h : HX} {a0 : Nat} {p1 : Int32} {p2 : Int32} {z} (hf : f_X1_configurationWith D h a0 p1 p2 = some z) : gx_isC h a0 [9] := by
  unfold f_X1_configurationWith at hf
  obtain ⟨_, g, -⟩ := gx_bs hf
  exact hx_is_of g
theorem w_X1_configurationWith_b {l : Launch} (hlt : l.stackTraces = false) {p : Program} {e : Env} {R : Room} {s : State} {m : MethodId} {args : Array Value} {below : List Frame} {meth : Method} {c : Code} {D : gx_D} {h0 : HX} {r : Int32} (C : gx_Ctx p R s m args meth c "ContractMachine" cX1_configurationWith 3 (some .int) 3 65 D h0 h0) (hx : meth.name = "configurationWith") {a0 : Nat} {p1 : Int32} {p2 : Int32} (hf : f_X1_configurationWith D h0 a0 p1 p2 = some r) : gx_G p l e R s m args below meth c D h0 h0 3 (gx_MQ below args s D h0 h0 (some (.int r))) 0 [(0, (va_rf (some a0))), (1, (.int p1)), (2, (.int p2))] [] h0 := by
  unfold f_X1_configurationWith at hf
  replace hf := gx_bs hf
  obtain ⟨_, -, hf⟩ := hf
  refine gx_aload_n C dX1_configurationWith_0 0 rfl ?_
  replace hf := gx_bs hf
  obtain ⟨r1, g14, hf⟩ := hf
  refine gx_gr C g14 gz_85 q896 dX1_configurationWith_1 ?_
  replace hf := gx_bs hf
  obtain ⟨a2, rfl, hf⟩ := hf
  replace hf := gx_bs hf
  obtain ⟨x3, g13, hf⟩ := hf
  refine gx_giN C g13 gz_65 q614 dX1_configurationWith_4 ?_
  refine gx_iload_n C dX1_configurationWith_7 2 rfl ?_
  refine gx_aload_n C dX1_configurationWith_8 0 rfl ?_
  replace hf := gx_bs hf
  obtain ⟨r4, g12, hf⟩ := hf
  refine gx_gr C g12 gz_85 q896 dX1_configurationWith_9 ?_
  replace hf := gx_bs hf
  obtain ⟨a5, rfl, hf⟩ := hf
  replace hf := gx_bs hf
  obtain ⟨x7, g6, hf⟩ := hf
  refine gx_callV (st := [(.int p2), (.int x3)]) C (w_X4_valuation hlt g6) (is_X4_valuation g6) gz_13 rfl (lw_V q1893 q1894 q1895 q144 q1896) gz_329 (by decide) rfl rfl (gx_catn (Nat.le_of_ble_eq_true rfl)) dX1_configurationWith_12 ?_
  refine gx_iload_n C dX1_configurationWith_15 1 rfl ?_
  replace hf := gx_bs hf
  obtain ⟨x9, g8, hf⟩ := hf
  refine gx_callS (st := [(.int p2), (.int x3)]) C (w_X1_valueIn hlt g8) (lw_S q1897 q1448 q121 q1449) gz_216 (by decide) rfl rfl (gx_catn (Nat.le_of_ble_eq_true rfl)) dX1_configurationWith_16 ?_
  refine gx_isub C dX1_configurationWith_19 ?_
  refine gx_iload_n C dX1_configurationWith_20 1 rfl ?_
  replace hf := gx_bs hf
  obtain ⟨x11, g10, hf⟩ := hf
  refine gx_callS (st := [(.int (p2 - x9)), (.int x3)]) C (w_X1_weight hlt g10) (lw_S q1450 q776 q121 q777) gz_52 (by decide) rfl rfl (gx_catn (Nat.le_of_ble_eq_true rfl)) dX1_configurationWith_21 ?_
  refine gx_imul C dX1_configurationWith_24 ?_
  refine gx_iadd C dX1_configurationWith_25 ?_
  obtain rfl := Option.some.inj hf
  exact gx_iret C dX1_configurationWith_26
theorem w_X1_configurationWith {l : Launch} (hlt : l.stackTraces = false) {D : gx_D} {h : HX} {a0 : Nat} {p1 : Int32} {p2 : Int32} {r : Int32} (hf : f_X1_configurationWith D h a0 p1 p2 = some r) : gx_Met l yX1_configurationWith cX1_configurationWith 3 (some .int) 3 65 D [(va_rf (some a0)), (.int p1), (.int p2)] h (some (.int r)) h :=
  gx_ofG gz_26 (by simp only [gx_lsr, gx_lsi, gx_lsj, gx_ls0]; decide) gx_le.rf (fun p e R s m args below meth c C hx => by
    simp only [gx_lar, gx_lai, gx_laj, gx_la0, Nat.reduceAdd]
    exact w_X1_configurationWith_b hlt C hx hf)
def f_X1_canSet (D : gx_D) (h : HX) (a0 : Nat) (p1 : Int32) (p2 : Int32) : Option Bool :=
  (hx_is h a0 [9]).bind fun _ =>
  (hx_gr h a0 [9] 6).bind fun r1 =>
  (f_X1_configurationWith D h a0 p1 p2).bind fun x3 =>
  r1.bind fun a4 =>
  (f_X4_broken D h a4 x3).bind fun x6 =>
  if x6 = (-1 : Int32) then
  some true
  else
  some false
theorem is_X1_canSet {D : gx_D} {h : HX} {a0 : Nat} {p1 : Int32} {p2 : Int32} {z} (hf : f_X1_canSet D h a0 p1 p2 = some z) : gx_isC h a0 [9] := by
  unfold f_X1_canSet at hf
  obtain ⟨_, g, -⟩ := gx_bs hf
  exact hx_is_of g
theorem w_X1_canSet_b {l : Launch} (hlt : l.stackTraces = false) {p : Program} {e : Env} {R : Room} {s : State} {m : MethodId} {args : Array Value} {below : List Frame} {meth : Method} {c : Code} {D : gx_D} {h0 : HX} {r : Bool} (C : gx_Ctx p R s m args meth c "ContractMachine" cX1_canSet 3 (some .boolean) 6 130 D h0 h0) (hx : meth.name = "canSet") {a0 : Nat} {p1 : Int32} {p2 : Int32} (hf : f_X1_canSet D h0 a0 p1 p2 = some r) : gx_G p l e R s m args below meth c D h0 h0 3 (gx_MQ below args s D h0 h0 (some (.int (b2i r)))) 0 [(0, (va_rf (some a0))), (1, (.int p1)), (2, (.int p2))] [] h0 := by
  unfold f_X1_canSet at hf
  replace hf := gx_bs hf
  obtain ⟨_, -, hf⟩ := hf
  refine gx_aload_n C dX1_canSet_0 0 rfl ?_
  replace hf := gx_bs hf
  obtain ⟨r1, g8, hf⟩ := hf
  refine gx_gr C g8 gz_85 q896 dX1_canSet_1 ?_
  refine gx_aload_n C dX1_canSet_4 0 rfl ?_
  refine gx_iload_n C dX1_canSet_5 1 rfl ?_
  refine gx_iload_n C dX1_canSet_6 2 rfl ?_
  replace hf := gx_bs hf
  obtain ⟨x3, g2, hf⟩ := hf
  refine gx_callV (st := [(va_rf r1)]) C (w_X1_configurationWith hlt g2) (is_X1_configurationWith g2) gz_108 rfl (lw_V q1889 q1891 qs37 q121 q1892) gz_330 (by decide) rfl rfl (gx_catn (Nat.le_of_ble_eq_true rfl)) dX1_canSet_7 ?_
  replace hf := gx_bs hf
  obtain ⟨a4, rfl, hf⟩ := hf
  replace hf := gx_bs hf
  obtain ⟨x6, g5, hf⟩ := hf
  refine gx_callV (st := []) C (w_X4_broken hlt g5) (is_X4_broken g5) gz_13 rfl (lw_V q1829 q1431 q1432 q144 q1433) gz_258 (by decide) rfl rfl (gx_catn (Nat.le_of_ble_eq_true rfl)) dX1_canSet_10 ?_
  refine gx_iconst (v := -1) C dX1_canSet_13 rfl ?_
  replace hf := gx_ite hf
  rcases hf with ⟨c7, hf⟩ | ⟨c7, hf⟩
  · refine gx_icmp_ne_f (tgt := 21) C dX1_canSet_14 rfl c7 ?_
    refine gx_iconst (v := 1) C dX1_canSet_17 rfl ?_
    refine gx_goto (tgt := 22) C dX1_canSet_18 rfl ?_
    obtain rfl := Option.some.inj hf
    exact gx_zret (b := true) C dX1_canSet_22
  · refine gx_icmp_ne_t (tgt := 21) C dX1_canSet_14 rfl c7 ?_
    refine gx_iconst (v := 0) C dX1_canSet_21 rfl ?_
    obtain rfl := Option.some.inj hf
    exact gx_zret (b := false) C dX1_canSet_22
theorem w_X1_canSet {l : Launch} (hlt : l.stackTraces = false) {D : gx_D} {h : HX} {a0 : Nat} {p1 : Int32} {p2 : Int32} {r : Bool} (hf : f_X1_canSet D h a0 p1 p2 = some r) : gx_Met l yX1_canSet cX1_canSet 3 (some .boolean) 6 130 D [(va_rf (some a0)), (.int p1), (.int p2)] h (some (.int (b2i r))) h :=
  gx_ofG gz_26 (by simp only [gx_lsr, gx_lsi, gx_lsj, gx_ls0]; decide) gx_le.rf (fun p e R s m args below meth c C hx => by
    simp only [gx_lar, gx_lai, gx_laj, gx_la0, Nat.reduceAdd]
    exact w_X1_canSet_b hlt C hx hf)
def f_X1_set (D : gx_D) (h : HX) (a0 : Nat) (p1 : Int32) (p2 : Int32) : Option ((Int32) × HX) :=
  (hx_is h a0 [9]).bind fun _ =>
  (hx_gr h a0 [9] 6).bind fun r1 =>
  r1.bind fun a2 =>
  (f_X4_valuation D h a2).bind fun x4 =>
  (f_X1_valueIn D h x4 p1).bind fun x6 =>
  (hx_gr h a0 [9] 6).bind fun r7 =>
  (f_X1_configurationWith D h a0 p1 p2).bind fun x9 =>
  r7.bind fun a10 =>
  (hx_pi h a10 [11] 6 x9).bind fun h11 =>
  some (x6, h11)
theorem is_X1_set {D : gx_D} {h : HX} {a0 : Nat} {p1 : Int32} {p2 : Int32} {z} (hf : f_X1_set D h a0 p1 p2 = some z) : gx_isC h a0 [9] := by
  unfold f_X1_set at hf
  obtain ⟨_, g, -⟩ := gx_bs hf
  exact hx_is_of g
theorem w_X1_set_b {l : Launch} (hlt : l.stackTraces = false) {p : Program} {e : Env} {R : Room} {s : State} {m : MethodId} {args : Array Value} {below : List Frame} {meth : Method} {c : Code} {D : gx_D} {h0 : HX} {r : Int32} {hz : HX} (C : gx_Ctx p R s m args meth c "ContractMachine" cX1_set 4 (some .int) 4 87 D h0 hz) (hx : meth.name = "set") {a0 : Nat} {p1 : Int32} {p2 : Int32} (hf : f_X1_set D h0 a0 p1 p2 = some (r, hz)) : gx_G p l e R s m args below meth c D h0 hz 4 (gx_MQ below args s D h0 hz (some (.int r))) 0 [(0, (va_rf (some a0))), (1, (.int p1)), (2, (.int p2))] [] h0 := by
  unfold f_X1_set at hf
  replace hf := gx_bs hf
  obtain ⟨_, -, hf⟩ := hf
  refine gx_aload_n C dX1_set_0 0 rfl ?_
  replace hf := gx_bs hf
  obtain ⟨r1, g14, hf⟩ := hf
  refine gx_gr C g14 gz_85 q896 dX1_set_1 ?_
  replace hf := gx_bs hf
  obtain ⟨a2, rfl, hf⟩ := hf
  replace hf := gx_bs hf
  obtain ⟨x4, g3, hf⟩ := hf
  refine gx_callV (st := []) C (w_X4_valuation hlt g3) (is_X4_valuation g3) gz_13 rfl (lw_V q1893 q1894 q1895 q144 q1896) gz_329 (by decide) rfl rfl (gx_catn (Nat.le_of_ble_eq_true rfl)) dX1_set_4 ?_
  refine gx_iload_n C dX1_set_7 1 rfl ?_
  replace hf := gx_bs hf
  obtain ⟨x6, g5, hf⟩ := hf
  refine gx_callS (st := []) C (w_X1_valueIn hlt g5) (lw_S q1897 q1448 q121 q1449) gz_216 (by decide) rfl rfl (gx_catn (Nat.le_of_ble_eq_true rfl)) dX1_set_8 ?_
  refine gx_istn C dX1_set_11 3 rfl (by decide) [0, 1, 2]  rfl (gx_okn rfl rfl (gx_okn rfl rfl (gx_okr rfl gx_catv_i gx_ok0))) ?_
  refine gx_aload_n C dX1_set_12 1 rfl ?_
  replace hf := gx_bs hf
  obtain ⟨r7, g13, hf⟩ := hf
  refine gx_gr C g13 gz_85 q896 dX1_set_13 ?_
  refine gx_aload_n C dX1_set_16 1 rfl ?_
  refine gx_iload_n C dX1_set_17 2 rfl ?_
  refine gx_iload_n C dX1_set_18 3 rfl ?_
  replace hf := gx_bs hf
  obtain ⟨x9, g8, hf⟩ := hf
  refine gx_callV (st := [(va_rf r7)]) C (w_X1_configurationWith hlt g8) (is_X1_configurationWith g8) gz_108 rfl (lw_V q1889 q1891 qs37 q121 q1892) gz_330 (by decide) rfl rfl (gx_catn (Nat.le_of_ble_eq_true rfl)) dX1_set_19 ?_
  replace hf := gx_bs hf
  obtain ⟨a10, rfl, hf⟩ := hf
  replace hf := gx_bs hf
  obtain ⟨h11, g12, hf⟩ := hf
  refine gx_putvN C g12 gz_65 gz_1 rfl rfl q614 dX1_set_22 ?_
  refine gx_iload_n C dX1_set_25 0 rfl ?_
  obtain ⟨rfl, rfl⟩ := Prod.mk.inj (Option.some.inj hf)
  exact gx_iret C dX1_set_26
theorem le_X1_set {D : gx_D} {r : Int32} {hz : HX} {h : HX} {a0 : Nat} {p1 : Int32} {p2 : Int32} (hf : f_X1_set D h a0 p1 p2 = some (r, hz)) : gx_le h hz := by
  unfold f_X1_set at hf
  replace hf := gx_bs hf
  obtain ⟨_, -, hf⟩ := hf
  replace hf := gx_bs hf
  obtain ⟨r1, g14, hf⟩ := hf
  replace hf := gx_bs hf
  obtain ⟨a2, rfl, hf⟩ := hf
  replace hf := gx_bs hf
  obtain ⟨x4, g3, hf⟩ := hf
  replace hf := gx_bs hf
  obtain ⟨x6, g5, hf⟩ := hf
  replace hf := gx_bs hf
  obtain ⟨r7, g13, hf⟩ := hf
  replace hf := gx_bs hf
  obtain ⟨x9, g8, hf⟩ := hf
  replace hf := gx_bs hf
  obtain ⟨a10, rfl, hf⟩ := hf
  replace hf := gx_bs hf
  obtain ⟨h11, g12, hf⟩ := hf
  refine (hx_le_pv g12).tr ?_
  obtain ⟨rfl, rfl⟩ := Prod.mk.inj (Option.some.inj hf)
  exact gx_le.rf
theorem w_X1_set {l : Launch} (hlt : l.stackTraces = false) {D : gx_D} {h : HX} {a0 : Nat} {p1 : Int32} {p2 : Int32} {r : Int32} {hz : HX} (hf : f_X1_set D h a0 p1 p2 = some (r, hz)) : gx_Met l yX1_set cX1_set 4 (some .int) 4 87 D [(va_rf (some a0)), (.int p1), (.int p2)] h (some (.int r)) hz :=
  gx_ofG gz_26 (by simp only [gx_lsr, gx_lsi, gx_lsj, gx_ls0]; decide) (le_X1_set hf) (fun p e R s m args below meth c C hx => by
    simp only [gx_lar, gx_lai, gx_laj, gx_la0, Nat.reduceAdd]
    exact w_X1_set_b hlt C hx hf)
def f_X16_execute (D : gx_D) (h : HX) (a0 : Nat) : Option ((Bool) × HX) :=
  (hx_is h a0 [20]).bind fun _ =>
  (hx_gr h a0 [20] 2).bind fun r1 =>
  r1.bind fun a2 =>
  (hx_gr h a2 [18] 8).bind fun r3 =>
  (hx_gi h a0 [20] 0).bind fun x4 =>
  (hx_gi h a0 [20] 1).bind fun x5 =>
  r3.bind fun a6 =>
  (f_X1_canSet D h a6 x4 x5).bind fun b8 =>
  if b8 = true then
  (hx_gr h a0 [20] 2).bind fun r10 =>
  r10.bind fun a11 =>
  (hx_gr h a11 [18] 8).bind fun r12 =>
  (hx_gi h a0 [20] 0).bind fun x13 =>
  (hx_gi h a0 [20] 1).bind fun x14 =>
  r12.bind fun a15 =>
  gx_b2 (f_X1_set D h a15 x13 x14) fun x17 h18 =>
  if x17 < 0 then
  some (false, h18)
  else
  some (true, h18)
  else
  some (false, h)
theorem is_X16_execute {D : gx_D} {h : HX} {a0 : Nat} {z} (hf : f_X16_execute D h a0 = some z) : gx_isC h a0 [20] := by
  unfold f_X16_execute at hf
  obtain ⟨_, g, -⟩ := gx_bs hf
  exact hx_is_of g
theorem w_X16_execute_b {l : Launch} (hlt : l.stackTraces = false) {p : Program} {e : Env} {R : Room} {s : State} {m : MethodId} {args : Array Value} {below : List Frame} {meth : Method} {c : Code} {D : gx_D} {h0 : HX} {r : Bool} {hz : HX} (C : gx_Ctx p R s m args meth c "ContractMachine$ScriptParser$2" cX16_execute 1 (some .boolean) 7 152 D h0 hz) (hx : meth.name = "execute") {a0 : Nat} (hf : f_X16_execute D h0 a0 = some (r, hz)) : gx_G p l e R s m args below meth c D h0 hz 1 (gx_MQ below args s D h0 hz (some (.int (b2i r)))) 0 [(0, (va_rf (some a0)))] [] h0 := by
  unfold f_X16_execute at hf
  replace hf := gx_bs hf
  obtain ⟨_, -, hf⟩ := hf
  refine gx_aload_n C dX16_execute_0 0 rfl ?_
  replace hf := gx_bs hf
  obtain ⟨r1, g27, hf⟩ := hf
  refine gx_gr C g27 gz_331 q1588 dX16_execute_1 ?_
  replace hf := gx_bs hf
  obtain ⟨a2, rfl, hf⟩ := hf
  replace hf := gx_bs hf
  obtain ⟨r3, g26, hf⟩ := hf
  refine gx_gr C g26 gz_322 q1504 dX16_execute_4 ?_
  refine gx_aload_n C dX16_execute_7 0 rfl ?_
  replace hf := gx_bs hf
  obtain ⟨x4, g25, hf⟩ := hf
  refine gx_gi C g25 gz_332 q1586 dX16_execute_8 ?_
  refine gx_aload_n C dX16_execute_11 0 rfl ?_
  replace hf := gx_bs hf
  obtain ⟨x5, g24, hf⟩ := hf
  refine gx_gi C g24 gz_333 q1587 dX16_execute_12 ?_
  replace hf := gx_bs hf
  obtain ⟨a6, rfl, hf⟩ := hf
  replace hf := gx_bs hf
  obtain ⟨b8, g7, hf⟩ := hf
  refine gx_callVN (st := []) C (w_X1_canSet hlt g7) (is_X1_canSet g7) gz_108 q1885 q1887 qs36 q121 q1888 gz_334 (by decide) rfl rfl (gx_catn (Nat.le_of_ble_eq_true rfl)) dX16_execute_15 ?_
  replace hf := gx_ite hf
  rcases hf with ⟨c9, hf⟩ | ⟨c9, hf⟩
  · refine gx_ifz_eq_f (tgt := 46) C dX16_execute_18 rfl c9 ?_
    refine gx_aload_n C dX16_execute_21 0 rfl ?_
    replace hf := gx_bs hf
    obtain ⟨r10, g23, hf⟩ := hf
    refine gx_gr C g23 gz_331 q1588 dX16_execute_22 ?_
    replace hf := gx_bs hf
    obtain ⟨a11, rfl, hf⟩ := hf
    replace hf := gx_bs hf
    obtain ⟨r12, g22, hf⟩ := hf
    refine gx_gr C g22 gz_322 q1504 dX16_execute_25 ?_
    refine gx_aload_n C dX16_execute_28 0 rfl ?_
    replace hf := gx_bs hf
    obtain ⟨x13, g21, hf⟩ := hf
    refine gx_gi C g21 gz_332 q1586 dX16_execute_29 ?_
    refine gx_aload_n C dX16_execute_32 0 rfl ?_
    replace hf := gx_bs hf
    obtain ⟨x14, g20, hf⟩ := hf
    refine gx_gi C g20 gz_333 q1587 dX16_execute_33 ?_
    replace hf := gx_bs hf
    obtain ⟨a15, rfl, hf⟩ := hf
    replace hf := gx_b2s hf
    obtain ⟨x17, h18, g16, hf⟩ := hf
    refine gx_callVN (st := []) C (w_X1_set hlt g16) (is_X1_set g16) gz_108 q1898 q1900 qs38 q121 q1901 gz_335 (by decide) rfl rfl (gx_catn (Nat.le_of_ble_eq_true rfl)) dX16_execute_36 ?_
    replace hf := gx_ite hf
    rcases hf with ⟨c19, hf⟩ | ⟨c19, hf⟩
    · refine gx_if_lt_t (tgt := 46) C dX16_execute_39 rfl c19 ?_
      refine gx_iconst (v := 0) C dX16_execute_46 rfl ?_
      obtain ⟨rfl, rfl⟩ := Prod.mk.inj (Option.some.inj hf)
      exact gx_zret (b := false) C dX16_execute_47
    · refine gx_if_lt_f (tgt := 46) C dX16_execute_39 rfl c19 ?_
      refine gx_iconst (v := 1) C dX16_execute_42 rfl ?_
      refine gx_goto (tgt := 47) C dX16_execute_43 rfl ?_
      obtain ⟨rfl, rfl⟩ := Prod.mk.inj (Option.some.inj hf)
      exact gx_zret (b := true) C dX16_execute_47
  · refine gx_ifz_eq_t (tgt := 46) C dX16_execute_18 rfl c9 ?_
    refine gx_iconst (v := 0) C dX16_execute_46 rfl ?_
    obtain ⟨rfl, rfl⟩ := Prod.mk.inj (Option.some.inj hf)
    exact gx_zret (b := false) C dX16_execute_47
theorem le_X16_execute {D : gx_D} {r : Bool} {hz : HX} {h : HX} {a0 : Nat} (hf : f_X16_execute D h a0 = some (r, hz)) : gx_le h hz := by
  unfold f_X16_execute at hf
  replace hf := gx_bs hf
  obtain ⟨_, -, hf⟩ := hf
  replace hf := gx_bs hf
  obtain ⟨r1, g27, hf⟩ := hf
  replace hf := gx_bs hf
  obtain ⟨a2, rfl, hf⟩ := hf
  replace hf := gx_bs hf
  obtain ⟨r3, g26, hf⟩ := hf
  replace hf := gx_bs hf
  obtain ⟨x4, g25, hf⟩ := hf
  replace hf := gx_bs hf
  obtain ⟨x5, g24, hf⟩ := hf
  replace hf := gx_bs hf
  obtain ⟨a6, rfl, hf⟩ := hf
  replace hf := gx_bs hf
  obtain ⟨b8, g7, hf⟩ := hf
  replace hf := gx_ite hf
  rcases hf with ⟨c9, hf⟩ | ⟨c9, hf⟩
  · replace hf := gx_bs hf
    obtain ⟨r10, g23, hf⟩ := hf
    replace hf := gx_bs hf
    obtain ⟨a11, rfl, hf⟩ := hf
    replace hf := gx_bs hf
    obtain ⟨r12, g22, hf⟩ := hf
    replace hf := gx_bs hf
    obtain ⟨x13, g21, hf⟩ := hf
    replace hf := gx_bs hf
    obtain ⟨x14, g20, hf⟩ := hf
    replace hf := gx_bs hf
    obtain ⟨a15, rfl, hf⟩ := hf
    replace hf := gx_b2s hf
    obtain ⟨x17, h18, g16, hf⟩ := hf
    refine (le_X1_set g16).tr ?_
    replace hf := gx_ite hf
    rcases hf with ⟨c19, hf⟩ | ⟨c19, hf⟩
    · obtain ⟨rfl, rfl⟩ := Prod.mk.inj (Option.some.inj hf)
      exact gx_le.rf
    · obtain ⟨rfl, rfl⟩ := Prod.mk.inj (Option.some.inj hf)
      exact gx_le.rf
  · obtain ⟨rfl, rfl⟩ := Prod.mk.inj (Option.some.inj hf)
    exact gx_le.rf
theorem w_X16_execute {l : Launch} (hlt : l.stackTraces = false) {D : gx_D} {h : HX} {a0 : Nat} {r : Bool} {hz : HX} (hf : f_X16_execute D h a0 = some (r, hz)) : gx_Met l yX16_execute cX16_execute 1 (some .boolean) 7 152 D [(va_rf (some a0))] h (some (.int (b2i r))) hz :=
  gx_ofG gz_336 (by simp only [gx_lsr, gx_lsi, gx_lsj, gx_ls0]; decide) (le_X16_execute hf) (fun p e R s m args below meth c C hx => by
    simp only [gx_lar, gx_lai, gx_laj, gx_la0, Nat.reduceAdd]
    exact w_X16_execute_b hlt C hx hf)
def f_X1_restart (D : gx_D) (h : HX) (a0 : Nat) : Option ((Int32) × HX) :=
  (hx_is h a0 [9]).bind fun _ =>
  (hx_gr h a0 [9] 6).bind fun r1 =>
  r1.bind fun a2 =>
  (f_X4_state D h a2).bind fun x4 =>
  (hx_gr h a0 [9] 6).bind fun r5 =>
  (hx_gr h a0 [9] 5).bind fun r6 =>
  r6.bind fun a7 =>
  (hx_gi h a7 [10] 4).bind fun x8 =>
  r5.bind fun a9 =>
  (hx_pi h a9 [11] 6 x8).bind fun h10 =>
  (hx_gr h10 a0 [9] 6).bind fun r11 =>
  r11.bind fun a12 =>
  (hx_pi h10 a12 [11] 8 (0 : Int32)).bind fun h13 =>
  some (x4, h13)
theorem is_X1_restart {D : gx_D} {h : HX} {a0 : Nat} {z} (hf : f_X1_restart D h a0 = some z) : gx_isC h a0 [9] := by
  unfold f_X1_restart at hf
  obtain ⟨_, g, -⟩ := gx_bs hf
  exact hx_is_of g
theorem w_X1_restart_b {l : Launch} (hlt : l.stackTraces = false) {p : Program} {e : Env} {R : Room} {s : State} {m : MethodId} {args : Array Value} {below : List Frame} {meth : Method} {c : Code} {D : gx_D} {h0 : HX} {r : Int32} {hz : HX} (C : gx_Ctx p R s m args meth c "ContractMachine" cX1_restart 2 (some .int) 2 44 D h0 hz) (hx : meth.name = "restart") {a0 : Nat} (hf : f_X1_restart D h0 a0 = some (r, hz)) : gx_G p l e R s m args below meth c D h0 hz 2 (gx_MQ below args s D h0 hz (some (.int r))) 0 [(0, (va_rf (some a0)))] [] h0 := by
  unfold f_X1_restart at hf
  replace hf := gx_bs hf
  obtain ⟨_, -, hf⟩ := hf
  refine gx_aload_n C dX1_restart_0 0 rfl ?_
  replace hf := gx_bs hf
  obtain ⟨r1, g20, hf⟩ := hf
  refine gx_gr C g20 gz_85 q896 dX1_restart_1 ?_
  replace hf := gx_bs hf
  obtain ⟨a2, rfl, hf⟩ := hf
  replace hf := gx_bs hf
  obtain ⟨x4, g3, hf⟩ := hf
  refine gx_callV (st := []) C (w_X4_state hlt g3) (is_X4_state g3) gz_13 rfl (lw_V q1909 q878 q879 q144 q880) gz_68 (by decide) rfl rfl (gx_catn (Nat.le_of_ble_eq_true rfl)) dX1_restart_4 ?_
  refine gx_istn C dX1_restart_7 1 rfl (by decide) [0]  rfl (gx_okr rfl gx_catv_r gx_ok0) ?_
  refine gx_aload_n C dX1_restart_8 1 rfl ?_
  replace hf := gx_bs hf
  obtain ⟨r5, g19, hf⟩ := hf
  refine gx_gr C g19 gz_85 q896 dX1_restart_9 ?_
  refine gx_aload_n C dX1_restart_12 1 rfl ?_
  replace hf := gx_bs hf
  obtain ⟨r6, g18, hf⟩ := hf
  refine gx_gr C g18 gz_20 q892 dX1_restart_13 ?_
  replace hf := gx_bs hf
  obtain ⟨a7, rfl, hf⟩ := hf
  replace hf := gx_bs hf
  obtain ⟨x8, g17, hf⟩ := hf
  refine gx_giN C g17 gz_49 q574 dX1_restart_16 ?_
  replace hf := gx_bs hf
  obtain ⟨a9, rfl, hf⟩ := hf
  replace hf := gx_bs hf
  obtain ⟨h10, g16, hf⟩ := hf
  refine gx_putvN C g16 gz_65 gz_1 rfl rfl q614 dX1_restart_19 ?_
  refine gx_aload_n C dX1_restart_22 1 rfl ?_
  replace hf := gx_bs hf
  obtain ⟨r11, g15, hf⟩ := hf
  refine gx_gr C g15 gz_85 q896 dX1_restart_23 ?_
  refine gx_iconst (v := 0) C dX1_restart_26 rfl ?_
  replace hf := gx_bs hf
  obtain ⟨a12, rfl, hf⟩ := hf
  replace hf := gx_bs hf
  obtain ⟨h13, g14, hf⟩ := hf
  refine gx_putvN C g14 gz_67 gz_1 rfl rfl q620 dX1_restart_27 ?_
  refine gx_iload_n C dX1_restart_30 0 rfl ?_
  obtain ⟨rfl, rfl⟩ := Prod.mk.inj (Option.some.inj hf)
  exact gx_iret C dX1_restart_31
theorem le_X1_restart {D : gx_D} {r : Int32} {hz : HX} {h : HX} {a0 : Nat} (hf : f_X1_restart D h a0 = some (r, hz)) : gx_le h hz := by
  unfold f_X1_restart at hf
  replace hf := gx_bs hf
  obtain ⟨_, -, hf⟩ := hf
  replace hf := gx_bs hf
  obtain ⟨r1, g20, hf⟩ := hf
  replace hf := gx_bs hf
  obtain ⟨a2, rfl, hf⟩ := hf
  replace hf := gx_bs hf
  obtain ⟨x4, g3, hf⟩ := hf
  replace hf := gx_bs hf
  obtain ⟨r5, g19, hf⟩ := hf
  replace hf := gx_bs hf
  obtain ⟨r6, g18, hf⟩ := hf
  replace hf := gx_bs hf
  obtain ⟨a7, rfl, hf⟩ := hf
  replace hf := gx_bs hf
  obtain ⟨x8, g17, hf⟩ := hf
  replace hf := gx_bs hf
  obtain ⟨a9, rfl, hf⟩ := hf
  replace hf := gx_bs hf
  obtain ⟨h10, g16, hf⟩ := hf
  refine (hx_le_pv g16).tr ?_
  replace hf := gx_bs hf
  obtain ⟨r11, g15, hf⟩ := hf
  replace hf := gx_bs hf
  obtain ⟨a12, rfl, hf⟩ := hf
  replace hf := gx_bs hf
  obtain ⟨h13, g14, hf⟩ := hf
  refine (hx_le_pv g14).tr ?_
  obtain ⟨rfl, rfl⟩ := Prod.mk.inj (Option.some.inj hf)
  exact gx_le.rf
theorem w_X1_restart {l : Launch} (hlt : l.stackTraces = false) {D : gx_D} {h : HX} {a0 : Nat} {r : Int32} {hz : HX} (hf : f_X1_restart D h a0 = some (r, hz)) : gx_Met l yX1_restart cX1_restart 2 (some .int) 2 44 D [(va_rf (some a0))] h (some (.int r)) hz :=
  gx_ofG gz_26 (by simp only [gx_lsr, gx_lsi, gx_lsj, gx_ls0]; decide) (le_X1_restart hf) (fun p e R s m args below meth c C hx => by
    simp only [gx_lar, gx_lai, gx_laj, gx_la0, Nat.reduceAdd]
    exact w_X1_restart_b hlt C hx hf)
def f_X17_execute (D : gx_D) (h : HX) (a0 : Nat) : Option ((Bool) × HX) :=
  (hx_is h a0 [21]).bind fun _ =>
  (hx_gr h a0 [21] 0).bind fun r1 =>
  r1.bind fun a2 =>
  (hx_gr h a2 [18] 8).bind fun r3 =>
  r3.bind fun a4 =>
  gx_b2 (f_X1_restart D h a4) fun x6 h7 =>
  if x6 < 0 then
  some (false, h7)
  else
  some (true, h7)
theorem is_X17_execute {D : gx_D} {h : HX} {a0 : Nat} {z} (hf : f_X17_execute D h a0 = some z) : gx_isC h a0 [21] := by
  unfold f_X17_execute at hf
  obtain ⟨_, g, -⟩ := gx_bs hf
  exact hx_is_of g
theorem w_X17_execute_b {l : Launch} (hlt : l.stackTraces = false) {p : Program} {e : Env} {R : Room} {s : State} {m : MethodId} {args : Array Value} {below : List Frame} {meth : Method} {c : Code} {D : gx_D} {h0 : HX} {r : Bool} {hz : HX} (C : gx_Ctx p R s m args meth c "ContractMachine$ScriptParser$3" cX17_execute 1 (some .boolean) 3 65 D h0 hz) (hx : meth.name = "execute") {a0 : Nat} (hf : f_X17_execute D h0 a0 = some (r, hz)) : gx_G p l e R s m args below meth c D h0 hz 1 (gx_MQ below args s D h0 hz (some (.int (b2i r)))) 0 [(0, (va_rf (some a0)))] [] h0 := by
  unfold f_X17_execute at hf
  replace hf := gx_bs hf
  obtain ⟨_, -, hf⟩ := hf
  refine gx_aload_n C dX17_execute_0 0 rfl ?_
  replace hf := gx_bs hf
  obtain ⟨r1, g10, hf⟩ := hf
  refine gx_gr C g10 gz_337 q1606 dX17_execute_1 ?_
  replace hf := gx_bs hf
  obtain ⟨a2, rfl, hf⟩ := hf
  replace hf := gx_bs hf
  obtain ⟨r3, g9, hf⟩ := hf
  refine gx_gr C g9 gz_322 q1505 dX17_execute_4 ?_
  replace hf := gx_bs hf
  obtain ⟨a4, rfl, hf⟩ := hf
  replace hf := gx_b2s hf
  obtain ⟨x6, h7, g5, hf⟩ := hf
  refine gx_callVN (st := []) C (w_X1_restart hlt g5) (is_X1_restart g5) gz_108 q1905 q1907 qs39 q121 q1908 gz_338 (by decide) rfl rfl (gx_catn (Nat.le_of_ble_eq_true rfl)) dX17_execute_7 ?_
  replace hf := gx_ite hf
  rcases hf with ⟨c8, hf⟩ | ⟨c8, hf⟩
  · refine gx_if_lt_t (tgt := 17) C dX17_execute_10 rfl c8 ?_
    refine gx_iconst (v := 0) C dX17_execute_17 rfl ?_
    obtain ⟨rfl, rfl⟩ := Prod.mk.inj (Option.some.inj hf)
    exact gx_zret (b := false) C dX17_execute_18
  · refine gx_if_lt_f (tgt := 17) C dX17_execute_10 rfl c8 ?_
    refine gx_iconst (v := 1) C dX17_execute_13 rfl ?_
    refine gx_goto (tgt := 18) C dX17_execute_14 rfl ?_
    obtain ⟨rfl, rfl⟩ := Prod.mk.inj (Option.some.inj hf)
    exact gx_zret (b := true) C dX17_execute_18
theorem le_X17_execute {D : gx_D} {r : Bool} {hz : HX} {h : HX} {a0 : Nat} (hf : f_X17_execute D h a0 = some (r, hz)) : gx_le h hz := by
  unfold f_X17_execute at hf
  replace hf := gx_bs hf
  obtain ⟨_, -, hf⟩ := hf
  replace hf := gx_bs hf
  obtain ⟨r1, g10, hf⟩ := hf
  replace hf := gx_bs hf
  obtain ⟨a2, rfl, hf⟩ := hf
  replace hf := gx_bs hf
  obtain ⟨r3, g9, hf⟩ := hf
  replace hf := gx_bs hf
  obtain ⟨a4, rfl, hf⟩ := hf
  replace hf := gx_b2s hf
  obtain ⟨x6, h7, g5, hf⟩ := hf
  refine (le_X1_restart g5).tr ?_
  replace hf := gx_ite hf
  rcases hf with ⟨c8, hf⟩ | ⟨c8, hf⟩
  · obtain ⟨rfl, rfl⟩ := Prod.mk.inj (Option.some.inj hf)
    exact gx_le.rf
  · obtain ⟨rfl, rfl⟩ := Prod.mk.inj (Option.some.inj hf)
    exact gx_le.rf
theorem w_X17_execute {l : Launch} (hlt : l.stackTraces = false) {D : gx_D} {h : HX} {a0 : Nat} {r : Bool} {hz : HX} (hf : f_X17_execute D h a0 = some (r, hz)) : gx_Met l yX17_execute cX17_execute 1 (some .boolean) 3 65 D [(va_rf (some a0))] h (some (.int (b2i r))) hz :=
  gx_ofG gz_339 (by simp only [gx_lsr, gx_lsi, gx_lsj, gx_ls0]; decide) (le_X17_execute hf) (fun p e R s m args below meth c C hx => by
    simp only [gx_lar, gx_lai, gx_laj, gx_la0, Nat.reduceAdd]
    exact w_X17_execute_b hlt C hx hf)
def f_X18_execute (D : gx_D) (h : HX) (a0 : Nat) : Option ((Bool) × HX) :=
  (hx_is h a0 [22]).bind fun _ =>
  (hx_gr h a0 [22] 0).bind fun r1 =>
  r1.bind fun a2 =>
  (hx_gr h a2 [18] 8).bind fun r3 =>
  r3.bind fun a4 =>
  (hx_gr h a4 [9] 6).bind fun r5 =>
  r5.bind fun a6 =>
  (f_X4_clear D h a6).bind fun h8 =>
  some (true, h8)
theorem is_X18_execute {D : gx_D} {h : HX} {a0 : Nat} {z} (hf : f_X18_execute D h a0 = some z) : gx_isC h a0 [22] := by
  unfold f_X18_execute at hf
  obtain ⟨_, g, -⟩ := gx_bs hf
  exact hx_is_of g
theorem w_X18_execute_b {l : Launch} (hlt : l.stackTraces = false) {p : Program} {e : Env} {R : Room} {s : State} {m : MethodId} {args : Array Value} {below : List Frame} {meth : Method} {c : Code} {D : gx_D} {h0 : HX} {r : Bool} {hz : HX} (C : gx_Ctx p R s m args meth c "ContractMachine$ScriptParser$4" cX18_execute 1 (some .boolean) 3 65 D h0 hz) (hx : meth.name = "execute") {a0 : Nat} (hf : f_X18_execute D h0 a0 = some (r, hz)) : gx_G p l e R s m args below meth c D h0 hz 1 (gx_MQ below args s D h0 hz (some (.int (b2i r)))) 0 [(0, (va_rf (some a0)))] [] h0 := by
  unfold f_X18_execute at hf
  replace hf := gx_bs hf
  obtain ⟨_, -, hf⟩ := hf
  refine gx_aload_n C dX18_execute_0 0 rfl ?_
  replace hf := gx_bs hf
  obtain ⟨r1, g11, hf⟩ := hf
  refine gx_gr C g11 gz_340 q1620 dX18_execute_1 ?_
  replace hf := gx_bs hf
  obtain ⟨a2, rfl, hf⟩ := hf
  replace hf := gx_bs hf
  obtain ⟨r3, g10, hf⟩ := hf
  refine gx_gr C g10 gz_322 q1506 dX18_execute_4 ?_
  replace hf := gx_bs hf
  obtain ⟨a4, rfl, hf⟩ := hf
  replace hf := gx_bs hf
  obtain ⟨r5, g9, hf⟩ := hf
  refine gx_grN C g9 gz_85 q893 dX18_execute_7 ?_
  replace hf := gx_bs hf
  obtain ⟨a6, rfl, hf⟩ := hf
  replace hf := gx_bs hf
  obtain ⟨h8, g7, hf⟩ := hf
  refine gx_callV (st := []) C (w_X4_clear hlt g7) (is_X4_clear g7) gz_13 rfl (lw_V q1913 q874 q875 q144 q876) gz_104 (by decide) rfl rfl (gx_catn (Nat.le_of_ble_eq_true rfl)) dX18_execute_10 ?_
  refine gx_iconst (v := 1) C dX18_execute_13 rfl ?_
  obtain ⟨rfl, rfl⟩ := Prod.mk.inj (Option.some.inj hf)
  exact gx_zret (b := true) C dX18_execute_14
theorem le_X18_execute {D : gx_D} {r : Bool} {hz : HX} {h : HX} {a0 : Nat} (hf : f_X18_execute D h a0 = some (r, hz)) : gx_le h hz := by
  unfold f_X18_execute at hf
  replace hf := gx_bs hf
  obtain ⟨_, -, hf⟩ := hf
  replace hf := gx_bs hf
  obtain ⟨r1, g11, hf⟩ := hf
  replace hf := gx_bs hf
  obtain ⟨a2, rfl, hf⟩ := hf
  replace hf := gx_bs hf
  obtain ⟨r3, g10, hf⟩ := hf
  replace hf := gx_bs hf
  obtain ⟨a4, rfl, hf⟩ := hf
  replace hf := gx_bs hf
  obtain ⟨r5, g9, hf⟩ := hf
  replace hf := gx_bs hf
  obtain ⟨a6, rfl, hf⟩ := hf
  replace hf := gx_bs hf
  obtain ⟨h8, g7, hf⟩ := hf
  refine (le_X4_clear g7).tr ?_
  obtain ⟨rfl, rfl⟩ := Prod.mk.inj (Option.some.inj hf)
  exact gx_le.rf
theorem w_X18_execute {l : Launch} (hlt : l.stackTraces = false) {D : gx_D} {h : HX} {a0 : Nat} {r : Bool} {hz : HX} (hf : f_X18_execute D h a0 = some (r, hz)) : gx_Met l yX18_execute cX18_execute 1 (some .boolean) 3 65 D [(va_rf (some a0))] h (some (.int (b2i r))) hz :=
  gx_ofG gz_341 (by simp only [gx_lsr, gx_lsi, gx_lsj, gx_ls0]; decide) (le_X18_execute hf) (fun p e R s m args below meth c C hx => by
    simp only [gx_lar, gx_lai, gx_laj, gx_la0, Nat.reduceAdd]
    exact w_X18_execute_b hlt C hx hf)
def f_X1_run_b24 (D : gx_D) (k7 : HX → Option Nat → Int32 → Option ((Int32) × HX)) (h : HX) (v1 : Option Nat) (v3 : Int32) (s0 : Bool) : Option ((Int32) × HX) :=
  if s0 = true then
  k7 h v1 ((v3 + (1 : Int32)))
  else
  some (v3, h)
theorem w_X1_run_b24 {l : Launch} (hlt : l.stackTraces = false) {p : Program} {e : Env} {R : Room} {s : State} {m : MethodId} {args : Array Value} {below : List Frame} {meth : Method} {c : Code} {D : gx_D} {h0 : HX} {r : Int32} {hz : HX} (C : gx_Ctx p R s m args meth c "ContractMachine" cX1_run 4 (some .int) 9 198 D h0 hz) (hx : meth.name = "run")  {k7 : HX → Option Nat → Int32 → Option ((Int32) × HX)} (wk7 : ∀ ⦃h : HX⦄ ⦃v1 : Option Nat⦄ ⦃v3 : Int32⦄, k7 h v1 v3 = some (r, hz) → gx_G p l e R s m args below meth c D h0 hz 4 (gx_MQ below args s D h0 hz (some (.int r))) 7 [(1, (va_rf v1)), (3, (.int v3))] [] h) {h : HX} {v1 : Option Nat} {v3 : Int32} {s0 : Bool} (hf : f_X1_run_b24 D k7 h v1 v3 s0 = some (r, hz)) : gx_G p l e R s m args below meth c D h0 hz 4 (gx_MQ below args s D h0 hz (some (.int r))) 24 [(1, (va_rf v1)), (3, (.int v3))] [(.int (b2i s0))] h := by
  unfold f_X1_run_b24 at hf
  replace hf := gx_ite hf
  rcases hf with ⟨c15, hf⟩ | ⟨c15, hf⟩
  · refine gx_ifz_eq_f (tgt := 33) C dX1_run_24 rfl c15 ?_
    refine gx_inc (v := 1) C dX1_run_27 1 rfl rfl (by decide) [0] rfl (gx_okn rfl rfl gx_ok0) ?_
    refine gx_goto (tgt := 7) C dX1_run_30 rfl ?_
    refine gx_sub [1, 0] rfl ?_
    exact wk7 hf
  · refine gx_ifz_eq_t (tgt := 33) C dX1_run_24 rfl c15 ?_
    refine gx_iload_n C dX1_run_33 1 rfl ?_
    obtain ⟨rfl, rfl⟩ := Prod.mk.inj (Option.some.inj hf)
    exact gx_iret C dX1_run_34
theorem le_X1_run_b24 {D : gx_D} {r : Int32} {hz : HX} {k7 : HX → Option Nat → Int32 → Option ((Int32) × HX)} (lek7 : ∀ ⦃h : HX⦄ ⦃v1 : Option Nat⦄ ⦃v3 : Int32⦄, k7 h v1 v3 = some (r, hz) → gx_le h hz) {h : HX} {v1 : Option Nat} {v3 : Int32} {s0 : Bool} (hf : f_X1_run_b24 D k7 h v1 v3 s0 = some (r, hz)) : gx_le h hz := by
  unfold f_X1_run_b24 at hf
  replace hf := gx_ite hf
  rcases hf with ⟨c15, hf⟩ | ⟨c15, hf⟩
  · exact lek7 hf
  · obtain ⟨rfl, rfl⟩ := Prod.mk.inj (Option.some.inj hf)
    exact gx_le.rf
def f_X1_run_b7 (D : gx_D) : Nat → HX → Option Nat → Int32 → Option ((Int32) × HX)
  | 0, _, _, _ => none
  | n + 1, h, v1, v3 =>
  v1.bind fun a4 =>
  (hx_gi h a4 [18] 7).bind fun x5 =>
  if x5 ≤ v3 then
  some (v3, h)
  else
  (hx_gr h a4 [18] 6).bind fun r7 =>
  r7.bind fun a8 =>
  (hx_ar h a8 v3).bind fun r9 =>
  r9.bind fun a10 =>
  if hx_isb h a10 [19] = true then
  gx_b2 (f_X15_execute D h a10) fun b13 h14 =>
  f_X1_run_b24 D (f_X1_run_b7 D n) h14 (some a4) v3 b13
  else
  if hx_isb h a10 [20] = true then
  gx_b2 (f_X16_execute D h a10) fun b18 h19 =>
  f_X1_run_b24 D (f_X1_run_b7 D n) h19 (some a4) v3 b18
  else
  if hx_isb h a10 [21] = true then
  gx_b2 (f_X17_execute D h a10) fun b22 h23 =>
  f_X1_run_b24 D (f_X1_run_b7 D n) h23 (some a4) v3 b22
  else
  if hx_isb h a10 [22] = true then
  gx_b2 (f_X18_execute D h a10) fun b26 h27 =>
  f_X1_run_b24 D (f_X1_run_b7 D n) h27 (some a4) v3 b26
  else
  none
theorem w_X1_run_b7 {l : Launch} (hlt : l.stackTraces = false) {p : Program} {e : Env} {R : Room} {s : State} {m : MethodId} {args : Array Value} {below : List Frame} {meth : Method} {c : Code} {D : gx_D} {h0 : HX} {r : Int32} {hz : HX} (C : gx_Ctx p R s m args meth c "ContractMachine" cX1_run 4 (some .int) 9 198 D h0 hz) (hx : meth.name = "run")  : ∀ (n : Nat) ⦃h : HX⦄ ⦃v1 : Option Nat⦄ ⦃v3 : Int32⦄, f_X1_run_b7 D n h v1 v3 = some (r, hz) → gx_G p l e R s m args below meth c D h0 hz 4 (gx_MQ below args s D h0 hz (some (.int r))) 7 [(1, (va_rf v1)), (3, (.int v3))] [] h := by
  intro n
  induction n with
  | zero => intro h v1 v3 hf; unfold f_X1_run_b7 at hf; cases hf
  | succ n wk7 =>
    intro h v1 v3 hf
    unfold f_X1_run_b7 at hf
    refine gx_iload_n C dX1_run_7 1 rfl ?_
    refine gx_aload_n C dX1_run_8 0 rfl ?_
    replace hf := gx_bs hf
    obtain ⟨a4, rfl, hf⟩ := hf
    replace hf := gx_bs hf
    obtain ⟨x5, g30, hf⟩ := hf
    refine gx_giN C g30 gz_343 q1501 dX1_run_9 ?_
    replace hf := gx_ite hf
    rcases hf with ⟨c6, hf⟩ | ⟨c6, hf⟩
    · refine gx_icmp_ge_t (tgt := 33) C dX1_run_12 rfl c6 ?_
      refine gx_iload_n C dX1_run_33 1 rfl ?_
      obtain ⟨rfl, rfl⟩ := Prod.mk.inj (Option.some.inj hf)
      exact gx_iret C dX1_run_34
    · refine gx_icmp_ge_f (tgt := 33) C dX1_run_12 rfl c6 ?_
      refine gx_aload_n C dX1_run_15 0 rfl ?_
      replace hf := gx_bs hf
      obtain ⟨r7, g29, hf⟩ := hf
      refine gx_grN C g29 gz_344 q1499 dX1_run_16 ?_
      refine gx_iload_n C dX1_run_19 1 rfl ?_
      replace hf := gx_bs hf
      obtain ⟨a8, rfl, hf⟩ := hf
      replace hf := gx_bs hf
      obtain ⟨r9, g28, hf⟩ := hf
      refine gx_aald C g28 dX1_run_20 ?_
      replace hf := gx_bs hf
      obtain ⟨a10, rfl, hf⟩ := hf
      replace hf := gx_ite hf
      rcases hf with ⟨c11, hf⟩ | ⟨c11, hf⟩
      · replace hf := gx_b2s hf
        obtain ⟨b13, h14, g12, hf⟩ := hf
        refine gx_callU (st := []) C (w_X15_execute hlt g12) (is_X15_execute g12) q1771 q1773 (gx_decl C q1772) ⟨by decide, by decide⟩ (gx_cis1 gz_346 (C.hts _ q1774) gx_cis0) q1775 q163 q1776 gz_345 (by decide) rfl rfl (gx_catn (Nat.le_of_ble_eq_true rfl)) dX1_run_21 ?_
        refine gx_sub [0, 1] rfl ?_
        exact w_X1_run_b24 hlt C hx wk7 hf
      replace hf := gx_ite hf
      rcases hf with ⟨c16, hf⟩ | ⟨c16, hf⟩
      · replace hf := gx_b2s hf
        obtain ⟨b18, h19, g17, hf⟩ := hf
        refine gx_callU (st := []) C (w_X16_execute hlt g17) (is_X16_execute g17) q1771 q1773 (gx_decl C q1772) ⟨by decide, by decide⟩ (gx_cis1 gz_347 (C.hts _ q1882) gx_cis0) q1883 q164 q1884 gz_345 (by decide) rfl rfl (gx_catn (Nat.le_of_ble_eq_true rfl)) dX1_run_21 ?_
        refine gx_sub [0, 1] rfl ?_
        exact w_X1_run_b24 hlt C hx wk7 hf
      replace hf := gx_ite hf
      rcases hf with ⟨c20, hf⟩ | ⟨c20, hf⟩
      · replace hf := gx_b2s hf
        obtain ⟨b22, h23, g21, hf⟩ := hf
        refine gx_callU (st := []) C (w_X17_execute hlt g21) (is_X17_execute g21) q1771 q1773 (gx_decl C q1772) ⟨by decide, by decide⟩ (gx_cis1 gz_348 (C.hts _ q1902) gx_cis0) q1903 q165 q1904 gz_345 (by decide) rfl rfl (gx_catn (Nat.le_of_ble_eq_true rfl)) dX1_run_21 ?_
        refine gx_sub [0, 1] rfl ?_
        exact w_X1_run_b24 hlt C hx wk7 hf
      replace hf := gx_ite hf
      rcases hf with ⟨c24, hf⟩ | ⟨c24, hf⟩
      · replace hf := gx_b2s hf
        obtain ⟨b26, h27, g25, hf⟩ := hf
        refine gx_callU (st := []) C (w_X18_execute hlt g25) (is_X18_execute g25) q1771 q1773 (gx_decl C q1772) ⟨by decide, by decide⟩ (gx_cis1 gz_349 (C.hts _ q1910) gx_cis0) q1911 q166 q1912 gz_345 (by decide) rfl rfl (gx_catn (Nat.le_of_ble_eq_true rfl)) dX1_run_21 ?_
        refine gx_sub [0, 1] rfl ?_
        exact w_X1_run_b24 hlt C hx wk7 hf
      cases hf
theorem le_X1_run_b7 {D : gx_D} {r : Int32} {hz : HX} : ∀ (n : Nat) ⦃h : HX⦄ ⦃v1 : Option Nat⦄ ⦃v3 : Int32⦄, f_X1_run_b7 D n h v1 v3 = some (r, hz) → gx_le h hz := by
  intro n
  induction n with
  | zero => intro h v1 v3 hf; unfold f_X1_run_b7 at hf; cases hf
  | succ n lek7 =>
    intro h v1 v3 hf
    unfold f_X1_run_b7 at hf
    replace hf := gx_bs hf
    obtain ⟨a4, rfl, hf⟩ := hf
    replace hf := gx_bs hf
    obtain ⟨x5, g30, hf⟩ := hf
    replace hf := gx_ite hf
    rcases hf with ⟨c6, hf⟩ | ⟨c6, hf⟩
    · obtain ⟨rfl, rfl⟩ := Prod.mk.inj (Option.some.inj hf)
      exact gx_le.rf
    · replace hf := gx_bs hf
      obtain ⟨r7, g29, hf⟩ := hf
      replace hf := gx_bs hf
      obtain ⟨a8, rfl, hf⟩ := hf
      replace hf := gx_bs hf
      obtain ⟨r9, g28, hf⟩ := hf
      replace hf := gx_bs hf
      obtain ⟨a10, rfl, hf⟩ := hf
      replace hf := gx_ite hf
      rcases hf with ⟨c11, hf⟩ | ⟨c11, hf⟩
      · replace hf := gx_b2s hf
        obtain ⟨b13, h14, g12, hf⟩ := hf
        refine (le_X15_execute g12).tr ?_
        exact le_X1_run_b24 lek7 hf
      replace hf := gx_ite hf
      rcases hf with ⟨c16, hf⟩ | ⟨c16, hf⟩
      · replace hf := gx_b2s hf
        obtain ⟨b18, h19, g17, hf⟩ := hf
        refine (le_X16_execute g17).tr ?_
        exact le_X1_run_b24 lek7 hf
      replace hf := gx_ite hf
      rcases hf with ⟨c20, hf⟩ | ⟨c20, hf⟩
      · replace hf := gx_b2s hf
        obtain ⟨b22, h23, g21, hf⟩ := hf
        refine (le_X17_execute g21).tr ?_
        exact le_X1_run_b24 lek7 hf
      replace hf := gx_ite hf
      rcases hf with ⟨c24, hf⟩ | ⟨c24, hf⟩
      · replace hf := gx_b2s hf
        obtain ⟨b26, h27, g25, hf⟩ := hf
        refine (le_X18_execute g25).tr ?_
        exact le_X1_run_b24 lek7 hf
      cases hf
def f_X1_run (D : gx_D) (h : HX) (a0 : Nat) (p1 : Option Nat) : Option ((Int32) × HX) :=
  (hx_is h a0 [9]).bind fun _ =>
  gx_b2 (f_X1_changed D h a0) fun r2 h3 =>
  f_X1_run_b7 D gx_fuel h3 p1 ((0 : Int32))
theorem is_X1_run {D : gx_D} {h : HX} {a0 : Nat} {p1 : Option Nat} {z} (hf : f_X1_run D h a0 p1 = some z) : gx_isC h a0 [9] := by
  unfold f_X1_run at hf
  obtain ⟨_, g, -⟩ := gx_bs hf
  exact hx_is_of g
theorem w_X1_run_b {l : Launch} (hlt : l.stackTraces = false) {p : Program} {e : Env} {R : Room} {s : State} {m : MethodId} {args : Array Value} {below : List Frame} {meth : Method} {c : Code} {D : gx_D} {h0 : HX} {r : Int32} {hz : HX} (C : gx_Ctx p R s m args meth c "ContractMachine" cX1_run 4 (some .int) 9 198 D h0 hz) (hx : meth.name = "run") {a0 : Nat} {p1 : Option Nat} (hf : f_X1_run D h0 a0 p1 = some (r, hz)) : gx_G p l e R s m args below meth c D h0 hz 4 (gx_MQ below args s D h0 hz (some (.int r))) 0 [(0, (va_rf (some a0))), (1, (va_rf p1))] [] h0 := by
  unfold f_X1_run at hf
  replace hf := gx_bs hf
  obtain ⟨_, -, hf⟩ := hf
  refine gx_aload_n C dX1_run_0 0 rfl ?_
  replace hf := gx_b2s hf
  obtain ⟨r2, h3, g1, hf⟩ := hf
  refine gx_callV (st := []) C (w_X1_changed hlt g1) (is_X1_changed g1) gz_108 rfl (lw_V q1631 q1633 qs29 q121 q1634) gz_342 (by decide) rfl rfl (gx_catn (Nat.le_of_ble_eq_true rfl)) dX1_run_1 ?_
  refine gx_astn C dX1_run_4 2 rfl (by decide) [1]  rfl (gx_okr rfl gx_catv_r gx_ok0) ?_
  refine gx_iconst (v := 0) C dX1_run_5 rfl ?_
  refine gx_istn C dX1_run_6 3 rfl (by decide) [1]  rfl (gx_okn rfl rfl gx_ok0) ?_
  refine gx_sub [1, 0] rfl ?_
  exact w_X1_run_b7 hlt C hx gx_fuel hf
theorem le_X1_run {D : gx_D} {r : Int32} {hz : HX} {h : HX} {a0 : Nat} {p1 : Option Nat} (hf : f_X1_run D h a0 p1 = some (r, hz)) : gx_le h hz := by
  unfold f_X1_run at hf
  replace hf := gx_bs hf
  obtain ⟨_, -, hf⟩ := hf
  replace hf := gx_b2s hf
  obtain ⟨r2, h3, g1, hf⟩ := hf
  refine (le_X1_changed g1).tr ?_
  exact le_X1_run_b7 gx_fuel hf
theorem w_X1_run {l : Launch} (hlt : l.stackTraces = false) {D : gx_D} {h : HX} {a0 : Nat} {p1 : Option Nat} {r : Int32} {hz : HX} (hf : f_X1_run D h a0 p1 = some (r, hz)) : gx_Met l yX1_run cX1_run 4 (some .int) 9 198 D [(va_rf (some a0)), (va_rf p1)] h (some (.int r)) hz :=
  gx_ofG gz_26 (by simp only [gx_lsr, gx_lsi, gx_lsj, gx_ls0]; decide) (le_X1_run hf) (fun p e R s m args below meth c C hx => by
    simp only [gx_lar, gx_lai, gx_laj, gx_la0, Nat.reduceAdd]
    exact w_X1_run_b hlt C hx hf)
def f_X13_init (D : gx_D) (h : HX) (a0 : Nat) (p1 : Option Nat) : Option HX :=
  (hx_pr h a0 [18] 8 p1).bind fun h1 =>
  (f_X10_init D h1 a0 p1).bind fun h3 =>
  gx_b2 (hx_newa h3 6 (30 : Int32) (fun _ => .inr (.inr (.inr (.inr fun _ => none))))) fun a4 h5 =>
  (hx_pr h5 a0 [18] 6 (some a4)).bind fun h6 =>
  some h6
theorem w_X13_init_b {l : Launch} (hlt : l.stackTraces = false) {p : Program} {e : Env} {R : Room} {s : State} {m : MethodId} {args : Array Value} {below : List Frame} {meth : Method} {c : Code} {D : gx_D} {h0 : HX} {hz : HX} (C : gx_Ctx p R s m args meth c "ContractMachine$ScriptParser" cX13_init 2 none 10 241 D h0 hz) (hx : meth.name = "<init>") {a0 : Nat} {p1 : Option Nat} (hf : f_X13_init D h0 a0 p1 = some hz) : gx_G p l e R s m args below meth c D h0 hz 2 (gx_MQ below args s D h0 hz none) 0 [(0, (va_rf (some a0))), (1, (va_rf p1))] [] h0 := by
  unfold f_X13_init at hf
  refine gx_aload_n C dX13_init_0 0 rfl ?_
  refine gx_aload_n C dX13_init_1 1 rfl ?_
  replace hf := gx_bs hf
  obtain ⟨h1, g9, hf⟩ := hf
  refine gx_putvF C hx g9 gz_322 gz_186 (gx_narrow_r rfl _).1 (gx_narrow_r rfl _).2 q1502 dX13_init_2 ?_
  refine gx_aload_n C dX13_init_5 0 rfl ?_
  refine gx_aload_n C dX13_init_6 1 rfl ?_
  replace hf := gx_bs hf
  obtain ⟨h3, g2, hf⟩ := hf
  refine gx_callI (st := []) C (w_X10_init hlt g2) q1495 q971 q152 q972 rfl gz_191 (by decide) rfl rfl (gx_catn (Nat.le_of_ble_eq_true rfl)) dX13_init_7 ?_
  refine gx_aload_n C dX13_init_10 0 rfl ?_
  refine gx_bipush (v := 30) C dX13_init_11 rfl ?_
  replace hf := gx_b2s hf
  obtain ⟨a4, h5, g8, hf⟩ := hf
  refine gx_anew C g8 rfl q1496 (by decide) dX13_init_13 ?_
  replace hf := gx_bs hf
  obtain ⟨h6, g7, hf⟩ := hf
  refine gx_putvF C hx g7 gz_344 gz_350 (gx_narrow_r rfl _).1 (gx_narrow_r rfl _).2 q1498 dX13_init_16 ?_
  obtain rfl := Option.some.inj hf
  exact gx_vret C dX13_init_19
theorem le_X13_init {D : gx_D} {hz : HX} {h : HX} {a0 : Nat} {p1 : Option Nat} (hf : f_X13_init D h a0 p1 = some hz) : gx_le h hz := by
  unfold f_X13_init at hf
  replace hf := gx_bs hf
  obtain ⟨h1, g9, hf⟩ := hf
  refine (hx_le_pv g9).tr ?_
  replace hf := gx_bs hf
  obtain ⟨h3, g2, hf⟩ := hf
  refine (le_X10_init g2).tr ?_
  replace hf := gx_b2s hf
  obtain ⟨a4, h5, g8, hf⟩ := hf
  refine (hx_le_newa g8).tr ?_
  replace hf := gx_bs hf
  obtain ⟨h6, g7, hf⟩ := hf
  refine (hx_le_pv g7).tr ?_
  obtain rfl := Option.some.inj hf
  exact gx_le.rf
theorem w_X13_init {l : Launch} (hlt : l.stackTraces = false) {D : gx_D} {h : HX} {a0 : Nat} {p1 : Option Nat} {hz : HX} (hf : f_X13_init D h a0 p1 = some hz) : gx_Met l yX13_init cX13_init 2 none 10 241 D [(va_rf (some a0)), (va_rf p1)] h none hz :=
  gx_ofG gz_351 (by simp only [gx_lsr, gx_lsi, gx_lsj, gx_ls0]; decide) (le_X13_init hf) (fun p e R s m args below meth c C hx => by
    simp only [gx_lar, gx_lai, gx_laj, gx_la0, Nat.reduceAdd]
    exact w_X13_init_b hlt C hx hf)
def f_X14_init (D : gx_D) (h : HX) (a0 : Nat) : Option Unit :=
  some ()
theorem w_X14_init_b {l : Launch} (hlt : l.stackTraces = false) {p : Program} {e : Env} {R : Room} {s : State} {m : MethodId} {args : Array Value} {below : List Frame} {meth : Method} {c : Code} {D : gx_D} {h0 : HX} {r : Unit} (C : gx_Ctx p R s m args meth c "ContractMachine$Command" cX14_init 1 none 1 24 D h0 h0) (hx : meth.name = "<init>") {a0 : Nat} (hf : f_X14_init D h0 a0 = some r) : gx_G p l e R s m args below meth c D h0 h0 1 (gx_MQ below args s D h0 h0 none) 0 [(0, (va_rf (some a0)))] [] h0 := by
  unfold f_X14_init at hf
  refine gx_aload_n C dX14_init_0 0 rfl ?_
  refine gx_objInit (st := []) C q1565 q188 q189 (by decide) (by decide) dX14_init_1 ?_
  obtain rfl := Option.some.inj hf
  exact gx_vret C dX14_init_4
theorem w_X14_init {l : Launch} (hlt : l.stackTraces = false) {D : gx_D} {h : HX} {a0 : Nat} {r : Unit} (hf : f_X14_init D h a0 = some r) : gx_Met l yX14_init cX14_init 1 none 1 24 D [(va_rf (some a0))] h none h :=
  gx_ofG gz_352 (by simp only [gx_lsr, gx_lsi, gx_lsj, gx_ls0]; decide) gx_le.rf (fun p e R s m args below meth c C hx => by
    simp only [gx_lar, gx_lai, gx_laj, gx_la0, Nat.reduceAdd]
    exact w_X14_init_b hlt C hx hf)
def f_X18_init (D : gx_D) (h : HX) (a0 : Nat) (p1 : Option Nat) : Option HX :=
  (hx_pr h a0 [22] 0 p1).bind fun h1 =>
  (f_X14_init D h1 a0).bind fun u3 =>
  some h1
theorem w_X18_init_b {l : Launch} (hlt : l.stackTraces = false) {p : Program} {e : Env} {R : Room} {s : State} {m : MethodId} {args : Array Value} {below : List Frame} {meth : Method} {c : Code} {D : gx_D} {h0 : HX} {hz : HX} (C : gx_Ctx p R s m args meth c "ContractMachine$ScriptParser$4" cX18_init 2 none 2 44 D h0 hz) (hx : meth.name = "<init>") {a0 : Nat} {p1 : Option Nat} (hf : f_X18_init D h0 a0 p1 = some hz) : gx_G p l e R s m args below meth c D h0 hz 2 (gx_MQ below args s D h0 hz none) 0 [(0, (va_rf (some a0))), (1, (va_rf p1))] [] h0 := by
  unfold f_X18_init at hf
  refine gx_aload_n C dX18_init_0 0 rfl ?_
  refine gx_aload_n C dX18_init_1 1 rfl ?_
  replace hf := gx_bs hf
  obtain ⟨h1, g4, hf⟩ := hf
  refine gx_putvF C hx g4 gz_340 gz_353 (gx_narrow_r rfl _).1 (gx_narrow_r rfl _).2 q1620 dX18_init_2 ?_
  refine gx_aload_n C dX18_init_5 0 rfl ?_
  replace hf := gx_bs hf
  obtain ⟨u3, g2, hf⟩ := hf
  refine gx_callIN (st := []) C (w_X14_init hlt g2) q1619 q1563 q162 q1564 rfl gz_354 (by decide) rfl rfl (gx_catn (Nat.le_of_ble_eq_true rfl)) dX18_init_6 ?_
  obtain rfl := Option.some.inj hf
  exact gx_vret C dX18_init_9
theorem le_X18_init {D : gx_D} {hz : HX} {h : HX} {a0 : Nat} {p1 : Option Nat} (hf : f_X18_init D h a0 p1 = some hz) : gx_le h hz := by
  unfold f_X18_init at hf
  replace hf := gx_bs hf
  obtain ⟨h1, g4, hf⟩ := hf
  refine (hx_le_pv g4).tr ?_
  replace hf := gx_bs hf
  obtain ⟨u3, g2, hf⟩ := hf
  obtain rfl := Option.some.inj hf
  exact gx_le.rf
theorem w_X18_init {l : Launch} (hlt : l.stackTraces = false) {D : gx_D} {h : HX} {a0 : Nat} {p1 : Option Nat} {hz : HX} (hf : f_X18_init D h a0 p1 = some hz) : gx_Met l yX18_init cX18_init 2 none 2 44 D [(va_rf (some a0)), (va_rf p1)] h none hz :=
  gx_ofG gz_341 (by simp only [gx_lsr, gx_lsi, gx_lsj, gx_ls0]; decide) (le_X18_init hf) (fun p e R s m args below meth c C hx => by
    simp only [gx_lar, gx_lai, gx_laj, gx_la0, Nat.reduceAdd]
    exact w_X18_init_b hlt C hx hf)
def f_X13_clearing (D : gx_D) (h : HX) (a0 : Nat) : Option ((Option Nat) × HX) :=
  (hx_is h a0 [18]).bind fun _ =>
  gx_b2 (hx_new h 1 22 gx_df22) fun a1 h2 =>
  (f_X18_init D h2 a1 (some a0)).bind fun h4 =>
  some ((some a1), h4)
theorem is_X13_clearing {D : gx_D} {h : HX} {a0 : Nat} {z} (hf : f_X13_clearing D h a0 = some z) : gx_isC h a0 [18] := by
  unfold f_X13_clearing at hf
  obtain ⟨_, g, -⟩ := gx_bs hf
  exact hx_is_of g
theorem w_X13_clearing_b {l : Launch} (hlt : l.stackTraces = false) {p : Program} {e : Env} {R : Room} {s : State} {m : MethodId} {args : Array Value} {below : List Frame} {meth : Method} {c : Code} {D : gx_D} {h0 : HX} {r : Option Nat} {hz : HX} (C : gx_Ctx p R s m args meth c "ContractMachine$ScriptParser" cX13_clearing 1 (some (.object "ContractMachine$Command")) 3 65 D h0 hz) (hx : meth.name = "clearing") {a0 : Nat} (hf : f_X13_clearing D h0 a0 = some (r, hz)) : gx_G p l e R s m args below meth c D h0 hz 1 (gx_MQ below args s D h0 hz (some (va_rf r))) 0 [(0, (va_rf (some a0)))] [] h0 := by
  unfold f_X13_clearing at hf
  replace hf := gx_bs hf
  obtain ⟨_, -, hf⟩ := hf
  replace hf := gx_b2s hf
  obtain ⟨a1, h2, g5, hf⟩ := hf
  refine gx_newN C g5 gz_349 tyX18_ok gx_df22_ok q1614 q1615 q166 dX13_clearing_0 rfl ?_
  refine gx_dup C dX13_clearing_3 rfl ?_
  refine gx_aload_n C dX13_clearing_4 0 rfl ?_
  replace hf := gx_bs hf
  obtain ⟨h4, g3, hf⟩ := hf
  refine gx_callI (st := [(va_rf (some a1))]) C (w_X18_init hlt g3) q1616 q1617 q166 q1618 rfl gz_356 (by decide) rfl rfl (gx_catn (Nat.le_of_ble_eq_true rfl)) dX13_clearing_5 ?_
  obtain ⟨rfl, rfl⟩ := Prod.mk.inj (Option.some.inj hf)
  exact gx_aret C rfl rfl dX13_clearing_8
theorem le_X13_clearing {D : gx_D} {r : Option Nat} {hz : HX} {h : HX} {a0 : Nat} (hf : f_X13_clearing D h a0 = some (r, hz)) : gx_le h hz := by
  unfold f_X13_clearing at hf
  replace hf := gx_bs hf
  obtain ⟨_, -, hf⟩ := hf
  replace hf := gx_b2s hf
  obtain ⟨a1, h2, g5, hf⟩ := hf
  refine (hx_le_new g5).tr ?_
  replace hf := gx_bs hf
  obtain ⟨h4, g3, hf⟩ := hf
  refine (le_X18_init g3).tr ?_
  obtain ⟨rfl, rfl⟩ := Prod.mk.inj (Option.some.inj hf)
  exact gx_le.rf
theorem w_X13_clearing {l : Launch} (hlt : l.stackTraces = false) {D : gx_D} {h : HX} {a0 : Nat} {r : Option Nat} {hz : HX} (hf : f_X13_clearing D h a0 = some (r, hz)) : gx_Met l yX13_clearing cX13_clearing 1 (some (.object "ContractMachine$Command")) 3 65 D [(va_rf (some a0))] h (some (va_rf r)) hz :=
  gx_ofG gz_351 (by simp only [gx_lsr, gx_lsi, gx_lsj, gx_ls0]; decide) (le_X13_clearing hf) (fun p e R s m args below meth c C hx => by
    simp only [gx_lar, gx_lai, gx_laj, gx_la0, Nat.reduceAdd]
    exact w_X13_clearing_b hlt C hx hf)
def f_X15_init (D : gx_D) (h : HX) (a0 : Nat) (p1 : Option Nat) (p2 : Int32) : Option HX :=
  (hx_pr h a0 [19] 1 p1).bind fun h1 =>
  (hx_pi h1 a0 [19] 0 p2).bind fun h2 =>
  (f_X14_init D h2 a0).bind fun u4 =>
  some h2
theorem w_X15_init_b {l : Launch} (hlt : l.stackTraces = false) {p : Program} {e : Env} {R : Room} {s : State} {m : MethodId} {args : Array Value} {below : List Frame} {meth : Method} {c : Code} {D : gx_D} {h0 : HX} {hz : HX} (C : gx_Ctx p R s m args meth c "ContractMachine$ScriptParser$1" cX15_init 3 none 2 44 D h0 hz) (hx : meth.name = "<init>") {a0 : Nat} {p1 : Option Nat} {p2 : Int32} (hf : f_X15_init D h0 a0 p1 p2 = some hz) : gx_G p l e R s m args below meth c D h0 hz 3 (gx_MQ below args s D h0 hz none) 0 [(0, (va_rf (some a0))), (1, (va_rf p1)), (2, (.int p2))] [] h0 := by
  unfold f_X15_init at hf
  refine gx_aload_n C dX15_init_0 0 rfl ?_
  refine gx_aload_n C dX15_init_1 1 rfl ?_
  replace hf := gx_bs hf
  obtain ⟨h1, g6, hf⟩ := hf
  refine gx_putvF C hx g6 gz_321 gz_353 (gx_narrow_r rfl _).1 (gx_narrow_r rfl _).2 q1567 dX15_init_2 ?_
  refine gx_aload_n C dX15_init_5 0 rfl ?_
  refine gx_iload_n C dX15_init_6 2 rfl ?_
  replace hf := gx_bs hf
  obtain ⟨h2, g5, hf⟩ := hf
  refine gx_putvF C hx g5 gz_323 gz_1 rfl rfl q1566 dX15_init_7 ?_
  refine gx_aload_n C dX15_init_10 0 rfl ?_
  replace hf := gx_bs hf
  obtain ⟨u4, g3, hf⟩ := hf
  refine gx_callIN (st := []) C (w_X14_init hlt g3) q1562 q1563 q162 q1564 rfl gz_354 (by decide) rfl rfl (gx_catn (Nat.le_of_ble_eq_true rfl)) dX15_init_11 ?_
  obtain rfl := Option.some.inj hf
  exact gx_vret C dX15_init_14
theorem le_X15_init {D : gx_D} {hz : HX} {h : HX} {a0 : Nat} {p1 : Option Nat} {p2 : Int32} (hf : f_X15_init D h a0 p1 p2 = some hz) : gx_le h hz := by
  unfold f_X15_init at hf
  replace hf := gx_bs hf
  obtain ⟨h1, g6, hf⟩ := hf
  refine (hx_le_pv g6).tr ?_
  replace hf := gx_bs hf
  obtain ⟨h2, g5, hf⟩ := hf
  refine (hx_le_pv g5).tr ?_
  replace hf := gx_bs hf
  obtain ⟨u4, g3, hf⟩ := hf
  obtain rfl := Option.some.inj hf
  exact gx_le.rf
theorem w_X15_init {l : Launch} (hlt : l.stackTraces = false) {D : gx_D} {h : HX} {a0 : Nat} {p1 : Option Nat} {p2 : Int32} {hz : HX} (hf : f_X15_init D h a0 p1 p2 = some hz) : gx_Met l yX15_init cX15_init 3 none 2 44 D [(va_rf (some a0)), (va_rf p1), (.int p2)] h none hz :=
  gx_ofG gz_328 (by simp only [gx_lsr, gx_lsi, gx_lsj, gx_ls0]; decide) (le_X15_init hf) (fun p e R s m args below meth c C hx => by
    simp only [gx_lar, gx_lai, gx_laj, gx_la0, Nat.reduceAdd]
    exact w_X15_init_b hlt C hx hf)
def f_X13_firing (D : gx_D) (h : HX) (a0 : Nat) : Option ((Option Nat ⊕ (String × Nat)) × HX) :=
  (hx_is h a0 [18]).bind fun _ =>
  (hx_gr h a0 [18] 8).bind fun r1 =>
  r1.bind fun a2 =>
  (hx_gr h a2 [9] 5).bind fun r3 =>
  r3.bind fun a4 =>
  (hx_gr h a4 [10] 1).bind fun r5 =>
  (hx_is h a0 [18]).bind fun _ =>
  gx_bx (f_X10_known D h a0 r5) (fun x8 h9 =>
  gx_b2 (hx_new h9 2 19 gx_df19) fun a12 h13 =>
  (f_X15_init D h13 a12 (some a0) x8).bind fun h15 =>
  some (.inl (some a12), h15)) fun E10 q11 h9 =>
  some (.inr (E10, q11), h9)
theorem is_X13_firing {D : gx_D} {h : HX} {a0 : Nat} {z} (hf : f_X13_firing D h a0 = some z) : gx_isC h a0 [18] := by
  unfold f_X13_firing at hf
  obtain ⟨_, g, -⟩ := gx_bs hf
  exact hx_is_of g
theorem w_X13_firing_b {l : Launch} (hlt : l.stackTraces = false) {p : Program} {e : Env} {R : Room} {s : State} {m : MethodId} {args : Array Value} {below : List Frame} {meth : Method} {c : Code} {D : gx_D} {h0 : HX} {r : Option Nat ⊕ (String × Nat)} {hz : HX} (C : gx_Ctx p R s m args meth c "ContractMachine$ScriptParser" cX13_firing 2 (some (.object "ContractMachine$Command")) 10 242 D h0 hz) (hx : ∀ x ∈ c.exceptionTable.toList, False) {a0 : Nat} (hf : f_X13_firing D h0 a0 = some (r, hz)) : gx_G p l e R s m args below meth c D h0 hz 2 (gx_MQX below args s D h0 hz (gx_xa r)) 0 [(0, (va_rf (some a0)))] [] h0 := by
  unfold f_X13_firing at hf
  replace hf := gx_bs hf
  obtain ⟨_, -, hf⟩ := hf
  refine gx_aload_n C dX13_firing_0 0 rfl ?_
  refine gx_aload_n C dX13_firing_1 0 rfl ?_
  replace hf := gx_bs hf
  obtain ⟨r1, g19, hf⟩ := hf
  refine gx_gr C g19 gz_322 q1502 dX13_firing_2 ?_
  replace hf := gx_bs hf
  obtain ⟨a2, rfl, hf⟩ := hf
  replace hf := gx_bs hf
  obtain ⟨r3, g18, hf⟩ := hf
  refine gx_grN C g18 gz_20 q890 dX13_firing_5 ?_
  replace hf := gx_bs hf
  obtain ⟨a4, rfl, hf⟩ := hf
  replace hf := gx_bs hf
  obtain ⟨r5, g17, hf⟩ := hf
  refine gx_grN C g17 gz_27 q562 dX13_firing_8 ?_
  replace hf := gx_bs hf
  obtain ⟨_, g6, hf⟩ := hf
  replace hf := gx_bxs hf
  rcases hf with ⟨x8, h9, g7, hf⟩ | ⟨E10, q11, h9, g7, hf⟩
  · refine gx_xcallU (st := []) C (w_X10_known hlt g7) (hx_is_of g6) q1554 q1555 (gx_decl C q1347) ⟨by decide, by decide⟩ (gx_cis1 gz_128 (C.hts _ q1556) gx_cis0) q1349 q152 q1350 gz_357 (by decide) rfl rfl (gx_catn (Nat.le_of_ble_eq_true rfl)) dX13_firing_11 (gx_k2l ?_)
    refine gx_istn C dX13_firing_14 1 rfl (by decide) [0]  rfl (gx_okr rfl gx_catv_r gx_ok0) ?_
    replace hf := gx_b2s hf
    obtain ⟨a12, h13, g16, hf⟩ := hf
    refine gx_newN C g16 gz_346 tyX15_ok gx_df19_ok q1557 q1558 q163 dX13_firing_15 rfl ?_
    refine gx_dup C dX13_firing_18 rfl ?_
    refine gx_aload_n C dX13_firing_19 1 rfl ?_
    refine gx_iload_n C dX13_firing_20 0 rfl ?_
    replace hf := gx_bs hf
    obtain ⟨h15, g14, hf⟩ := hf
    refine gx_callI (st := [(va_rf (some a12))]) C (w_X15_init hlt g14) q1559 q1560 q163 q1561 rfl gz_359 (by decide) rfl rfl (gx_catn (Nat.le_of_ble_eq_true rfl)) dX13_firing_21 ?_
    obtain ⟨rfl, rfl⟩ := Prod.mk.inj (Option.some.inj hf)
    exact gx_ret (gx_aret C rfl rfl dX13_firing_24)
  · refine gx_xcallU (st := []) C (w_X10_known hlt g7) (hx_is_of g6) q1554 q1555 (gx_decl C q1347) ⟨by decide, by decide⟩ (gx_cis1 gz_128 (C.hts _ q1556) gx_cis0) q1349 q152 q1350 gz_357 (by decide) rfl rfl (gx_catn (Nat.le_of_ble_eq_true rfl)) dX13_firing_11 (gx_k2r ?_)
    obtain ⟨rfl, rfl⟩ := Prod.mk.inj (Option.some.inj hf)
    exact gx_out C hx
theorem le_X13_firing {D : gx_D} {r : Option Nat ⊕ (String × Nat)} {hz : HX} {h : HX} {a0 : Nat} (hf : f_X13_firing D h a0 = some (r, hz)) : gx_le h hz := by
  unfold f_X13_firing at hf
  replace hf := gx_bs hf
  obtain ⟨_, -, hf⟩ := hf
  replace hf := gx_bs hf
  obtain ⟨r1, g19, hf⟩ := hf
  replace hf := gx_bs hf
  obtain ⟨a2, rfl, hf⟩ := hf
  replace hf := gx_bs hf
  obtain ⟨r3, g18, hf⟩ := hf
  replace hf := gx_bs hf
  obtain ⟨a4, rfl, hf⟩ := hf
  replace hf := gx_bs hf
  obtain ⟨r5, g17, hf⟩ := hf
  replace hf := gx_bs hf
  obtain ⟨_, g6, hf⟩ := hf
  replace hf := gx_bxs hf
  rcases hf with ⟨x8, h9, g7, hf⟩ | ⟨E10, q11, h9, g7, hf⟩
  · refine (le_X10_known g7).tr ?_
    replace hf := gx_b2s hf
    obtain ⟨a12, h13, g16, hf⟩ := hf
    refine (hx_le_new g16).tr ?_
    replace hf := gx_bs hf
    obtain ⟨h15, g14, hf⟩ := hf
    refine (le_X15_init g14).tr ?_
    obtain ⟨rfl, rfl⟩ := Prod.mk.inj (Option.some.inj hf)
    exact gx_le.rf
  · refine (le_X10_known g7).tr ?_
    obtain ⟨rfl, rfl⟩ := Prod.mk.inj (Option.some.inj hf)
    exact gx_le.rf
theorem w_X13_firing {l : Launch} (hlt : l.stackTraces = false) {D : gx_D} {h : HX} {a0 : Nat} {r : Option Nat ⊕ (String × Nat)} {hz : HX} (hf : f_X13_firing D h a0 = some (r, hz)) : gx_MetX l yX13_firing (ws_ yX13_firing cX13_firing 2 (some (.object "ContractMachine$Command"))) 10 242 D [(va_rf (some a0))] h (gx_xa r) hz :=
  gx_ofGX gz_351 (by simp only [gx_lsr, gx_lsi, gx_lsj, gx_ls0]; decide) (le_X13_firing hf) (fun p e R s m args below meth c C hn hx => by
    simp only [gx_lar, gx_lai, gx_laj, gx_la0, Nat.reduceAdd]
    exact w_X13_firing_b hlt C hx hf)
def f_X17_init (D : gx_D) (h : HX) (a0 : Nat) (p1 : Option Nat) : Option HX :=
  (hx_pr h a0 [21] 0 p1).bind fun h1 =>
  (f_X14_init D h1 a0).bind fun u3 =>
  some h1
theorem w_X17_init_b {l : Launch} (hlt : l.stackTraces = false) {p : Program} {e : Env} {R : Room} {s : State} {m : MethodId} {args : Array Value} {below : List Frame} {meth : Method} {c : Code} {D : gx_D} {h0 : HX} {hz : HX} (C : gx_Ctx p R s m args meth c "ContractMachine$ScriptParser$3" cX17_init 2 none 2 44 D h0 hz) (hx : meth.name = "<init>") {a0 : Nat} {p1 : Option Nat} (hf : f_X17_init D h0 a0 p1 = some hz) : gx_G p l e R s m args below meth c D h0 hz 2 (gx_MQ below args s D h0 hz none) 0 [(0, (va_rf (some a0))), (1, (va_rf p1))] [] h0 := by
  unfold f_X17_init at hf
  refine gx_aload_n C dX17_init_0 0 rfl ?_
  refine gx_aload_n C dX17_init_1 1 rfl ?_
  replace hf := gx_bs hf
  obtain ⟨h1, g4, hf⟩ := hf
  refine gx_putvF C hx g4 gz_337 gz_353 (gx_narrow_r rfl _).1 (gx_narrow_r rfl _).2 q1606 dX17_init_2 ?_
  refine gx_aload_n C dX17_init_5 0 rfl ?_
  replace hf := gx_bs hf
  obtain ⟨u3, g2, hf⟩ := hf
  refine gx_callIN (st := []) C (w_X14_init hlt g2) q1605 q1563 q162 q1564 rfl gz_354 (by decide) rfl rfl (gx_catn (Nat.le_of_ble_eq_true rfl)) dX17_init_6 ?_
  obtain rfl := Option.some.inj hf
  exact gx_vret C dX17_init_9
theorem le_X17_init {D : gx_D} {hz : HX} {h : HX} {a0 : Nat} {p1 : Option Nat} (hf : f_X17_init D h a0 p1 = some hz) : gx_le h hz := by
  unfold f_X17_init at hf
  replace hf := gx_bs hf
  obtain ⟨h1, g4, hf⟩ := hf
  refine (hx_le_pv g4).tr ?_
  replace hf := gx_bs hf
  obtain ⟨u3, g2, hf⟩ := hf
  obtain rfl := Option.some.inj hf
  exact gx_le.rf
theorem w_X17_init {l : Launch} (hlt : l.stackTraces = false) {D : gx_D} {h : HX} {a0 : Nat} {p1 : Option Nat} {hz : HX} (hf : f_X17_init D h a0 p1 = some hz) : gx_Met l yX17_init cX17_init 2 none 2 44 D [(va_rf (some a0)), (va_rf p1)] h none hz :=
  gx_ofG gz_339 (by simp only [gx_lsr, gx_lsi, gx_lsj, gx_ls0]; decide) (le_X17_init hf) (fun p e R s m args below meth c C hx => by
    simp only [gx_lar, gx_lai, gx_laj, gx_la0, Nat.reduceAdd]
    exact w_X17_init_b hlt C hx hf)
def f_X13_resetting (D : gx_D) (h : HX) (a0 : Nat) : Option ((Option Nat) × HX) :=
  (hx_is h a0 [18]).bind fun _ =>
  gx_b2 (hx_new h 1 21 gx_df21) fun a1 h2 =>
  (f_X17_init D h2 a1 (some a0)).bind fun h4 =>
  some ((some a1), h4)
theorem is_X13_resetting {D : gx_D} {h : HX} {a0 : Nat} {z} (hf : f_X13_resetting D h a0 = some z) : gx_isC h a0 [18] := by
  unfold f_X13_resetting at hf
  obtain ⟨_, g, -⟩ := gx_bs hf
  exact hx_is_of g
theorem w_X13_resetting_b {l : Launch} (hlt : l.stackTraces = false) {p : Program} {e : Env} {R : Room} {s : State} {m : MethodId} {args : Array Value} {below : List Frame} {meth : Method} {c : Code} {D : gx_D} {h0 : HX} {r : Option Nat} {hz : HX} (C : gx_Ctx p R s m args meth c "ContractMachine$ScriptParser" cX13_resetting 1 (some (.object "ContractMachine$Command")) 3 65 D h0 hz) (hx : meth.name = "resetting") {a0 : Nat} (hf : f_X13_resetting D h0 a0 = some (r, hz)) : gx_G p l e R s m args below meth c D h0 hz 1 (gx_MQ below args s D h0 hz (some (va_rf r))) 0 [(0, (va_rf (some a0)))] [] h0 := by
  unfold f_X13_resetting at hf
  replace hf := gx_bs hf
  obtain ⟨_, -, hf⟩ := hf
  replace hf := gx_b2s hf
  obtain ⟨a1, h2, g5, hf⟩ := hf
  refine gx_newN C g5 gz_348 tyX17_ok gx_df21_ok q1600 q1601 q165 dX13_resetting_0 rfl ?_
  refine gx_dup C dX13_resetting_3 rfl ?_
  refine gx_aload_n C dX13_resetting_4 0 rfl ?_
  replace hf := gx_bs hf
  obtain ⟨h4, g3, hf⟩ := hf
  refine gx_callI (st := [(va_rf (some a1))]) C (w_X17_init hlt g3) q1602 q1603 q165 q1604 rfl gz_361 (by decide) rfl rfl (gx_catn (Nat.le_of_ble_eq_true rfl)) dX13_resetting_5 ?_
  obtain ⟨rfl, rfl⟩ := Prod.mk.inj (Option.some.inj hf)
  exact gx_aret C rfl rfl dX13_resetting_8
theorem le_X13_resetting {D : gx_D} {r : Option Nat} {hz : HX} {h : HX} {a0 : Nat} (hf : f_X13_resetting D h a0 = some (r, hz)) : gx_le h hz := by
  unfold f_X13_resetting at hf
  replace hf := gx_bs hf
  obtain ⟨_, -, hf⟩ := hf
  replace hf := gx_b2s hf
  obtain ⟨a1, h2, g5, hf⟩ := hf
  refine (hx_le_new g5).tr ?_
  replace hf := gx_bs hf
  obtain ⟨h4, g3, hf⟩ := hf
  refine (le_X17_init g3).tr ?_
  obtain ⟨rfl, rfl⟩ := Prod.mk.inj (Option.some.inj hf)
  exact gx_le.rf
theorem w_X13_resetting {l : Launch} (hlt : l.stackTraces = false) {D : gx_D} {h : HX} {a0 : Nat} {r : Option Nat} {hz : HX} (hf : f_X13_resetting D h a0 = some (r, hz)) : gx_Met l yX13_resetting cX13_resetting 1 (some (.object "ContractMachine$Command")) 3 65 D [(va_rf (some a0))] h (some (va_rf r)) hz :=
  gx_ofG gz_351 (by simp only [gx_lsr, gx_lsi, gx_lsj, gx_ls0]; decide) (le_X13_resetting hf) (fun p e R s m args below meth c C hx => by
    simp only [gx_lar, gx_lai, gx_laj, gx_la0, Nat.reduceAdd]
    exact w_X13_resetting_b hlt C hx hf)
def f_X16_init (D : gx_D) (h : HX) (a0 : Nat) (p1 : Option Nat) (p2 : Int32) (p3 : Int32) : Option HX :=
  (hx_pr h a0 [20] 2 p1).bind fun h1 =>
  (hx_pi h1 a0 [20] 0 p2).bind fun h2 =>
  (hx_pi h2 a0 [20] 1 p3).bind fun h3 =>
  (f_X14_init D h3 a0).bind fun u5 =>
  some h3
theorem w_X16_init_b {l : Launch} (hlt : l.stackTraces = false) {p : Program} {e : Env} {R : Room} {s : State} {m : MethodId} {args : Array Value} {below : List Frame} {meth : Method} {c : Code} {D : gx_D} {h0 : HX} {hz : HX} (C : gx_Ctx p R s m args meth c "ContractMachine$ScriptParser$2" cX16_init 4 none 2 44 D h0 hz) (hx : meth.name = "<init>") {a0 : Nat} {p1 : Option Nat} {p2 : Int32} {p3 : Int32} (hf : f_X16_init D h0 a0 p1 p2 p3 = some hz) : gx_G p l e R s m args below meth c D h0 hz 4 (gx_MQ below args s D h0 hz none) 0 [(0, (va_rf (some a0))), (1, (va_rf p1)), (2, (.int p2)), (3, (.int p3))] [] h0 := by
  unfold f_X16_init at hf
  refine gx_aload_n C dX16_init_0 0 rfl ?_
  refine gx_aload_n C dX16_init_1 1 rfl ?_
  replace hf := gx_bs hf
  obtain ⟨h1, g8, hf⟩ := hf
  refine gx_putvF C hx g8 gz_331 gz_353 (gx_narrow_r rfl _).1 (gx_narrow_r rfl _).2 q1588 dX16_init_2 ?_
  refine gx_aload_n C dX16_init_5 0 rfl ?_
  refine gx_iload_n C dX16_init_6 2 rfl ?_
  replace hf := gx_bs hf
  obtain ⟨h2, g7, hf⟩ := hf
  refine gx_putvF C hx g7 gz_332 gz_1 rfl rfl q1586 dX16_init_7 ?_
  refine gx_aload_n C dX16_init_10 0 rfl ?_
  refine gx_iload_n C dX16_init_11 3 rfl ?_
  replace hf := gx_bs hf
  obtain ⟨h3, g6, hf⟩ := hf
  refine gx_putvF C hx g6 gz_333 gz_1 rfl rfl q1587 dX16_init_12 ?_
  refine gx_aload_n C dX16_init_15 0 rfl ?_
  replace hf := gx_bs hf
  obtain ⟨u5, g4, hf⟩ := hf
  refine gx_callIN (st := []) C (w_X14_init hlt g4) q1585 q1563 q162 q1564 rfl gz_354 (by decide) rfl rfl (gx_catn (Nat.le_of_ble_eq_true rfl)) dX16_init_16 ?_
  obtain rfl := Option.some.inj hf
  exact gx_vret C dX16_init_19
theorem le_X16_init {D : gx_D} {hz : HX} {h : HX} {a0 : Nat} {p1 : Option Nat} {p2 : Int32} {p3 : Int32} (hf : f_X16_init D h a0 p1 p2 p3 = some hz) : gx_le h hz := by
  unfold f_X16_init at hf
  replace hf := gx_bs hf
  obtain ⟨h1, g8, hf⟩ := hf
  refine (hx_le_pv g8).tr ?_
  replace hf := gx_bs hf
  obtain ⟨h2, g7, hf⟩ := hf
  refine (hx_le_pv g7).tr ?_
  replace hf := gx_bs hf
  obtain ⟨h3, g6, hf⟩ := hf
  refine (hx_le_pv g6).tr ?_
  replace hf := gx_bs hf
  obtain ⟨u5, g4, hf⟩ := hf
  obtain rfl := Option.some.inj hf
  exact gx_le.rf
theorem w_X16_init {l : Launch} (hlt : l.stackTraces = false) {D : gx_D} {h : HX} {a0 : Nat} {p1 : Option Nat} {p2 : Int32} {p3 : Int32} {hz : HX} (hf : f_X16_init D h a0 p1 p2 p3 = some hz) : gx_Met l yX16_init cX16_init 4 none 2 44 D [(va_rf (some a0)), (va_rf p1), (.int p2), (.int p3)] h none hz :=
  gx_ofG gz_336 (by simp only [gx_lsr, gx_lsi, gx_lsj, gx_ls0]; decide) (le_X16_init hf) (fun p e R s m args below meth c C hx => by
    simp only [gx_lar, gx_lai, gx_laj, gx_la0, Nat.reduceAdd]
    exact w_X16_init_b hlt C hx hf)
def f_X13_setting (D : gx_D) (h : HX) (a0 : Nat) : Option ((Option Nat ⊕ (String × Nat)) × HX) :=
  (hx_is h a0 [18]).bind fun _ =>
  (hx_gr h a0 [18] 8).bind fun r1 =>
  r1.bind fun a2 =>
  (hx_gr h a2 [9] 5).bind fun r3 =>
  r3.bind fun a4 =>
  (hx_gr h a4 [10] 2).bind fun r5 =>
  (hx_is h a0 [18]).bind fun _ =>
  gx_bx (f_X10_known D h a0 r5) (fun x8 h9 =>
  (hx_is h9 a0 [18]).bind fun _ =>
  gx_bx (f_X10_digit D h9 a0) (fun x14 h15 =>
  gx_b2 (hx_new h15 3 20 gx_df20) fun a18 h19 =>
  (f_X16_init D h19 a18 (some a0) x8 x14).bind fun h21 =>
  some (.inl (some a18), h21)) fun E16 q17 h15 =>
  some (.inr (E16, q17), h15)) fun E10 q11 h9 =>
  some (.inr (E10, q11), h9)
theorem is_X13_setting {D : gx_D} {h : HX} {a0 : Nat} {z} (hf : f_X13_setting D h a0 = some z) : gx_isC h a0 [18] := by
  unfold f_X13_setting at hf
  obtain ⟨_, g, -⟩ := gx_bs hf
  exact hx_is_of g
theorem w_X13_setting_b {l : Launch} (hlt : l.stackTraces = false) {p : Program} {e : Env} {R : Room} {s : State} {m : MethodId} {args : Array Value} {below : List Frame} {meth : Method} {c : Code} {D : gx_D} {h0 : HX} {r : Option Nat ⊕ (String × Nat)} {hz : HX} (C : gx_Ctx p R s m args meth c "ContractMachine$ScriptParser" cX13_setting 3 (some (.object "ContractMachine$Command")) 11 263 D h0 hz) (hx : ∀ x ∈ c.exceptionTable.toList, False) {a0 : Nat} (hf : f_X13_setting D h0 a0 = some (r, hz)) : gx_G p l e R s m args below meth c D h0 hz 3 (gx_MQX below args s D h0 hz (gx_xa r)) 0 [(0, (va_rf (some a0)))] [] h0 := by
  unfold f_X13_setting at hf
  replace hf := gx_bs hf
  obtain ⟨_, -, hf⟩ := hf
  refine gx_aload_n C dX13_setting_0 0 rfl ?_
  refine gx_aload_n C dX13_setting_1 0 rfl ?_
  replace hf := gx_bs hf
  obtain ⟨r1, g25, hf⟩ := hf
  refine gx_gr C g25 gz_322 q1502 dX13_setting_2 ?_
  replace hf := gx_bs hf
  obtain ⟨a2, rfl, hf⟩ := hf
  replace hf := gx_bs hf
  obtain ⟨r3, g24, hf⟩ := hf
  refine gx_grN C g24 gz_20 q890 dX13_setting_5 ?_
  replace hf := gx_bs hf
  obtain ⟨a4, rfl, hf⟩ := hf
  replace hf := gx_bs hf
  obtain ⟨r5, g23, hf⟩ := hf
  refine gx_grN C g23 gz_46 q568 dX13_setting_8 ?_
  replace hf := gx_bs hf
  obtain ⟨_, g6, hf⟩ := hf
  replace hf := gx_bxs hf
  rcases hf with ⟨x8, h9, g7, hf⟩ | ⟨E10, q11, h9, g7, hf⟩
  · refine gx_xcallU (st := []) C (w_X10_known hlt g7) (hx_is_of g6) q1554 q1555 (gx_decl C q1347) ⟨by decide, by decide⟩ (gx_cis1 gz_128 (C.hts _ q1556) gx_cis0) q1349 q152 q1350 gz_357 (by decide) rfl rfl (gx_catn (Nat.le_of_ble_eq_true rfl)) dX13_setting_11 (gx_k2l ?_)
    refine gx_istn C dX13_setting_14 1 rfl (by decide) [0]  rfl (gx_okr rfl gx_catv_r gx_ok0) ?_
    refine gx_aload_n C dX13_setting_15 1 rfl ?_
    replace hf := gx_bs hf
    obtain ⟨_, g12, hf⟩ := hf
    replace hf := gx_bxs hf
    rcases hf with ⟨x14, h15, g13, hf⟩ | ⟨E16, q17, h15, g13, hf⟩
    · refine gx_xcallU (st := []) C (w_X10_digit hlt g13) (hx_is_of g12) q1577 q1578 (gx_decl C q1330) ⟨by decide, by decide⟩ (gx_cis1 gz_128 (C.hts _ q1579) gx_cis0) q1332 q152 q1333 gz_362 (by decide) rfl rfl (gx_catn (Nat.le_of_ble_eq_true rfl)) dX13_setting_16 (gx_k2l ?_)
      refine gx_istn C dX13_setting_19 2 rfl (by decide) [0, 1]  rfl (gx_okr rfl gx_catv_i (gx_okn rfl rfl gx_ok0)) ?_
      replace hf := gx_b2s hf
      obtain ⟨a18, h19, g22, hf⟩ := hf
      refine gx_newN C g22 gz_347 tyX16_ok gx_df20_ok q1580 q1581 q164 dX13_setting_20 rfl ?_
      refine gx_dup C dX13_setting_23 rfl ?_
      refine gx_aload_n C dX13_setting_24 2 rfl ?_
      refine gx_iload_n C dX13_setting_25 1 rfl ?_
      refine gx_iload_n C dX13_setting_26 0 rfl ?_
      replace hf := gx_bs hf
      obtain ⟨h21, g20, hf⟩ := hf
      refine gx_callI (st := [(va_rf (some a18))]) C (w_X16_init hlt g20) q1582 q1583 q164 q1584 rfl gz_364 (by decide) rfl rfl (gx_catn (Nat.le_of_ble_eq_true rfl)) dX13_setting_27 ?_
      obtain ⟨rfl, rfl⟩ := Prod.mk.inj (Option.some.inj hf)
      exact gx_ret (gx_aret C rfl rfl dX13_setting_30)
    · refine gx_xcallU (st := []) C (w_X10_digit hlt g13) (hx_is_of g12) q1577 q1578 (gx_decl C q1330) ⟨by decide, by decide⟩ (gx_cis1 gz_128 (C.hts _ q1579) gx_cis0) q1332 q152 q1333 gz_362 (by decide) rfl rfl (gx_catn (Nat.le_of_ble_eq_true rfl)) dX13_setting_16 (gx_k2r ?_)
      obtain ⟨rfl, rfl⟩ := Prod.mk.inj (Option.some.inj hf)
      exact gx_out C hx
  · refine gx_xcallU (st := []) C (w_X10_known hlt g7) (hx_is_of g6) q1554 q1555 (gx_decl C q1347) ⟨by decide, by decide⟩ (gx_cis1 gz_128 (C.hts _ q1556) gx_cis0) q1349 q152 q1350 gz_357 (by decide) rfl rfl (gx_catn (Nat.le_of_ble_eq_true rfl)) dX13_setting_11 (gx_k2r ?_)
    obtain ⟨rfl, rfl⟩ := Prod.mk.inj (Option.some.inj hf)
    exact gx_out C hx
theorem le_X13_setting {D : gx_D} {r : Option Nat ⊕ (String × Nat)} {hz : HX} {h : HX} {a0 : Nat} (hf : f_X13_setting D h a0 = some (r, hz)) : gx_le h hz := by
  unfold f_X13_setting at hf
  replace hf := gx_bs hf
  obtain ⟨_, -, hf⟩ := hf
  replace hf := gx_bs hf
  obtain ⟨r1, g25, hf⟩ := hf
  replace hf := gx_bs hf
  obtain ⟨a2, rfl, hf⟩ := hf
  replace hf := gx_bs hf
  obtain ⟨r3, g24, hf⟩ := hf
  replace hf := gx_bs hf
  obtain ⟨a4, rfl, hf⟩ := hf
  replace hf := gx_bs hf
  obtain ⟨r5, g23, hf⟩ := hf
  replace hf := gx_bs hf
  obtain ⟨_, g6, hf⟩ := hf
  replace hf := gx_bxs hf
  rcases hf with ⟨x8, h9, g7, hf⟩ | ⟨E10, q11, h9, g7, hf⟩
  · refine (le_X10_known g7).tr ?_
    replace hf := gx_bs hf
    obtain ⟨_, g12, hf⟩ := hf
    replace hf := gx_bxs hf
    rcases hf with ⟨x14, h15, g13, hf⟩ | ⟨E16, q17, h15, g13, hf⟩
    · refine (le_X10_digit g13).tr ?_
      replace hf := gx_b2s hf
      obtain ⟨a18, h19, g22, hf⟩ := hf
      refine (hx_le_new g22).tr ?_
      replace hf := gx_bs hf
      obtain ⟨h21, g20, hf⟩ := hf
      refine (le_X16_init g20).tr ?_
      obtain ⟨rfl, rfl⟩ := Prod.mk.inj (Option.some.inj hf)
      exact gx_le.rf
    · refine (le_X10_digit g13).tr ?_
      obtain ⟨rfl, rfl⟩ := Prod.mk.inj (Option.some.inj hf)
      exact gx_le.rf
  · refine (le_X10_known g7).tr ?_
    obtain ⟨rfl, rfl⟩ := Prod.mk.inj (Option.some.inj hf)
    exact gx_le.rf
theorem w_X13_setting {l : Launch} (hlt : l.stackTraces = false) {D : gx_D} {h : HX} {a0 : Nat} {r : Option Nat ⊕ (String × Nat)} {hz : HX} (hf : f_X13_setting D h a0 = some (r, hz)) : gx_MetX l yX13_setting (ws_ yX13_setting cX13_setting 3 (some (.object "ContractMachine$Command"))) 11 263 D [(va_rf (some a0))] h (gx_xa r) hz :=
  gx_ofGX gz_351 (by simp only [gx_lsr, gx_lsi, gx_lsj, gx_ls0]; decide) (le_X13_setting hf) (fun p e R s m args below meth c C hn hx => by
    simp only [gx_lar, gx_lai, gx_laj, gx_la0, Nat.reduceAdd]
    exact w_X13_setting_b hlt C hx hf)
def f_X13_command_b83 (D : gx_D) (h : HX) (v0 : Nat) (v3 : Int32) : Option ((Option Nat ⊕ (String × Nat)) × HX) :=
  if v3 = (0 : Int32) then
  gx_bx (f_X13_firing D h v0) (fun r11 h12 =>
  some (.inl r11, h12)) fun E13 q14 h12 =>
  some (.inr (E13, q14), h12)
  else
  if v3 = (1 : Int32) then
  gx_bx (f_X13_setting D h v0) (fun r17 h18 =>
  some (.inl r17, h18)) fun E19 q20 h18 =>
  some (.inr (E19, q20), h18)
  else
  if v3 = (2 : Int32) then
  gx_b2 (f_X13_resetting D h v0) fun r23 h24 =>
  some (.inl r23, h24)
  else
  if v3 < (0 : Int32) ∨ (2 : Int32) < v3 then
  gx_b2 (f_X13_clearing D h v0) fun r27 h28 =>
  some (.inl r27, h28)
  else none
theorem w_X13_command_b83 {l : Launch} (hlt : l.stackTraces = false) {p : Program} {e : Env} {R : Room} {s : State} {m : MethodId} {args : Array Value} {below : List Frame} {meth : Method} {c : Code} {D : gx_D} {h0 : HX} {r : Option Nat ⊕ (String × Nat)} {hz : HX} (C : gx_Ctx p R s m args meth c "ContractMachine$ScriptParser" cX13_command 4 (some (.object "ContractMachine$Command")) 12 285 D h0 hz) (hx : ∀ x ∈ c.exceptionTable.toList, False)  {h : HX} {v0 : Nat} {v3 : Int32} (hf : f_X13_command_b83 D h v0 v3 = some (r, hz)) : gx_G p l e R s m args below meth c D h0 hz 4 (gx_MQX below args s D h0 hz (gx_xa r)) 83 [(0, (va_rf (some v0))), (3, (.int v3))] [] h := by
  unfold f_X13_command_b83 at hf
  refine gx_iload_n C dX13_command_83 1 rfl ?_
  replace hf := gx_ite hf
  rcases hf with ⟨c9, hf⟩ | ⟨c9, hf⟩
  · refine gx_tswIn (tgt := 112) C dX13_command_84 (by rw [c9]; decide) (by rw [c9]; decide) (off := 28) (by rw [c9]; rfl) rfl ?_
    refine gx_aload_n C dX13_command_112 0 rfl ?_
    replace hf := gx_bxs hf
    rcases hf with ⟨r11, h12, g10, hf⟩ | ⟨E13, q14, h12, g10, hf⟩
    · refine gx_xcallV (st := []) C (w_X13_firing hlt g10) (is_X13_firing g10) gz_128 rfl (lw_V q1550 q1552 qs24 q161 q1553) gz_365 (by decide) rfl rfl (gx_catn (Nat.le_of_ble_eq_true rfl)) dX13_command_113 (gx_k2l ?_)
      refine gx_goto (tgt := 137) C dX13_command_116 rfl ?_
      obtain ⟨rfl, rfl⟩ := Prod.mk.inj (Option.some.inj hf)
      exact gx_ret (gx_aret C rfl rfl dX13_command_137)
    · refine gx_xcallV (st := []) C (w_X13_firing hlt g10) (is_X13_firing g10) gz_128 rfl (lw_V q1550 q1552 qs24 q161 q1553) gz_365 (by decide) rfl rfl (gx_catn (Nat.le_of_ble_eq_true rfl)) dX13_command_113 (gx_k2r ?_)
      obtain ⟨rfl, rfl⟩ := Prod.mk.inj (Option.some.inj hf)
      exact gx_out C hx
  replace hf := gx_ite hf
  rcases hf with ⟨c15, hf⟩ | ⟨c15, hf⟩
  · refine gx_tswIn (tgt := 119) C dX13_command_84 (by rw [c15]; decide) (by rw [c15]; decide) (off := 35) (by rw [c15]; rfl) rfl ?_
    refine gx_aload_n C dX13_command_119 0 rfl ?_
    replace hf := gx_bxs hf
    rcases hf with ⟨r17, h18, g16, hf⟩ | ⟨E19, q20, h18, g16, hf⟩
    · refine gx_xcallV (st := []) C (w_X13_setting hlt g16) (is_X13_setting g16) gz_128 rfl (lw_V q1573 q1575 qs25 q161 q1576) gz_366 (by decide) rfl rfl (gx_catn (Nat.le_of_ble_eq_true rfl)) dX13_command_120 (gx_k2l ?_)
      refine gx_goto (tgt := 137) C dX13_command_123 rfl ?_
      obtain ⟨rfl, rfl⟩ := Prod.mk.inj (Option.some.inj hf)
      exact gx_ret (gx_aret C rfl rfl dX13_command_137)
    · refine gx_xcallV (st := []) C (w_X13_setting hlt g16) (is_X13_setting g16) gz_128 rfl (lw_V q1573 q1575 qs25 q161 q1576) gz_366 (by decide) rfl rfl (gx_catn (Nat.le_of_ble_eq_true rfl)) dX13_command_120 (gx_k2r ?_)
      obtain ⟨rfl, rfl⟩ := Prod.mk.inj (Option.some.inj hf)
      exact gx_out C hx
  replace hf := gx_ite hf
  rcases hf with ⟨c21, hf⟩ | ⟨c21, hf⟩
  · refine gx_tswIn (tgt := 126) C dX13_command_84 (by rw [c21]; decide) (by rw [c21]; decide) (off := 42) (by rw [c21]; rfl) rfl ?_
    refine gx_aload_n C dX13_command_126 0 rfl ?_
    replace hf := gx_b2s hf
    obtain ⟨r23, h24, g22, hf⟩ := hf
    refine gx_callV (st := []) C (w_X13_resetting hlt g22) (is_X13_resetting g22) gz_128 rfl (lw_V q1596 q1598 qs26 q161 q1599) gz_367 (by decide) rfl rfl (gx_catn (Nat.le_of_ble_eq_true rfl)) dX13_command_127 ?_
    refine gx_goto (tgt := 137) C dX13_command_130 rfl ?_
    obtain ⟨rfl, rfl⟩ := Prod.mk.inj (Option.some.inj hf)
    exact gx_ret (gx_aret C rfl rfl dX13_command_137)
  replace hf := gx_ite hf
  rcases hf with ⟨c25, hf⟩ | ⟨c25, hf⟩
  rotate_left
  · cases hf
  refine gx_tswOut (tgt := 133) C dX13_command_84 (gx_tout c25) rfl ?_
  refine gx_aload_n C dX13_command_133 0 rfl ?_
  replace hf := gx_b2s hf
  obtain ⟨r27, h28, g26, hf⟩ := hf
  refine gx_callV (st := []) C (w_X13_clearing hlt g26) (is_X13_clearing g26) gz_128 rfl (lw_V q1610 q1612 qs27 q161 q1613) gz_368 (by decide) rfl rfl (gx_catn (Nat.le_of_ble_eq_true rfl)) dX13_command_134 ?_
  obtain ⟨rfl, rfl⟩ := Prod.mk.inj (Option.some.inj hf)
  exact gx_ret (gx_aret C rfl rfl dX13_command_137)
theorem le_X13_command_b83 {D : gx_D} {r : Option Nat ⊕ (String × Nat)} {hz : HX} {h : HX} {v0 : Nat} {v3 : Int32} (hf : f_X13_command_b83 D h v0 v3 = some (r, hz)) : gx_le h hz := by
  unfold f_X13_command_b83 at hf
  replace hf := gx_ite hf
  rcases hf with ⟨c9, hf⟩ | ⟨c9, hf⟩
  · replace hf := gx_bxs hf
    rcases hf with ⟨r11, h12, g10, hf⟩ | ⟨E13, q14, h12, g10, hf⟩
    · refine (le_X13_firing g10).tr ?_
      obtain ⟨rfl, rfl⟩ := Prod.mk.inj (Option.some.inj hf)
      exact gx_le.rf
    · refine (le_X13_firing g10).tr ?_
      obtain ⟨rfl, rfl⟩ := Prod.mk.inj (Option.some.inj hf)
      exact gx_le.rf
  replace hf := gx_ite hf
  rcases hf with ⟨c15, hf⟩ | ⟨c15, hf⟩
  · replace hf := gx_bxs hf
    rcases hf with ⟨r17, h18, g16, hf⟩ | ⟨E19, q20, h18, g16, hf⟩
    · refine (le_X13_setting g16).tr ?_
      obtain ⟨rfl, rfl⟩ := Prod.mk.inj (Option.some.inj hf)
      exact gx_le.rf
    · refine (le_X13_setting g16).tr ?_
      obtain ⟨rfl, rfl⟩ := Prod.mk.inj (Option.some.inj hf)
      exact gx_le.rf
  replace hf := gx_ite hf
  rcases hf with ⟨c21, hf⟩ | ⟨c21, hf⟩
  · replace hf := gx_b2s hf
    obtain ⟨r23, h24, g22, hf⟩ := hf
    refine (le_X13_resetting g22).tr ?_
    obtain ⟨rfl, rfl⟩ := Prod.mk.inj (Option.some.inj hf)
    exact gx_le.rf
  replace hf := gx_ite hf
  rcases hf with ⟨c25, hf⟩ | ⟨c25, hf⟩
  rotate_left
  · cases hf
  replace hf := gx_b2s hf
  obtain ⟨r27, h28, g26, hf⟩ := hf
  refine (le_X13_clearing g26).tr ?_
  obtain ⟨rfl, rfl⟩ := Prod.mk.inj (Option.some.inj hf)
  exact gx_le.rf
def f_X13_command (D : gx_D) (h : HX) (a0 : Nat) (p1 : Option Nat) : Option ((Option Nat ⊕ (String × Nat)) × HX) :=
  (hx_is h a0 [18]).bind fun _ =>
  p1.bind fun a1 =>
  gx_b2 (f_J9_hashCode D h a1) fun x3 h4 =>
  if x3 = (113762 : Int32) then
  (f_J9_equals D h4 a1 (some (D.2.2.1 22))).bind fun b7 =>
  if b7 = true then
  f_X13_command_b83 D h4 a0 ((1 : Int32))
  else
  f_X13_command_b83 D h4 a0 ((-1 : Int32))
  else
  if x3 = (3143222 : Int32) then
  (f_J9_equals D h4 a1 (some (D.2.2.1 21))).bind fun b31 =>
  if b31 = true then
  f_X13_command_b83 D h4 a0 ((0 : Int32))
  else
  f_X13_command_b83 D h4 a0 ((-1 : Int32))
  else
  if x3 = (108404047 : Int32) then
  (f_J9_equals D h4 a1 (some (D.2.2.1 23))).bind fun b35 =>
  if b35 = true then
  f_X13_command_b83 D h4 a0 ((2 : Int32))
  else
  f_X13_command_b83 D h4 a0 ((-1 : Int32))
  else
  f_X13_command_b83 D h4 a0 ((-1 : Int32))
theorem is_X13_command {D : gx_D} {h : HX} {a0 : Nat} {p1 : Option Nat} {z} (hf : f_X13_command D h a0 p1 = some z) : gx_isC h a0 [18] := by
  unfold f_X13_command at hf
  obtain ⟨_, g, -⟩ := gx_bs hf
  exact hx_is_of g
theorem w_X13_command_b {l : Launch} (hlt : l.stackTraces = false) {p : Program} {e : Env} {R : Room} {s : State} {m : MethodId} {args : Array Value} {below : List Frame} {meth : Method} {c : Code} {D : gx_D} {h0 : HX} {r : Option Nat ⊕ (String × Nat)} {hz : HX} (C : gx_Ctx p R s m args meth c "ContractMachine$ScriptParser" cX13_command 4 (some (.object "ContractMachine$Command")) 12 285 D h0 hz) (hx : ∀ x ∈ c.exceptionTable.toList, False) {a0 : Nat} {p1 : Option Nat} (hf : f_X13_command D h0 a0 p1 = some (r, hz)) : gx_G p l e R s m args below meth c D h0 hz 4 (gx_MQX below args s D h0 hz (gx_xa r)) 0 [(0, (va_rf (some a0))), (1, (va_rf p1))] [] h0 := by
  unfold f_X13_command at hf
  replace hf := gx_bs hf
  obtain ⟨_, -, hf⟩ := hf
  refine gx_aload_n C dX13_command_0 1 rfl ?_
  refine gx_astn C dX13_command_1 2 rfl (by decide) [0]  rfl (gx_okn rfl rfl gx_ok0) ?_
  refine gx_iconst (v := -1) C dX13_command_2 rfl ?_
  refine gx_istn C dX13_command_3 3 rfl (by decide) [0, 1]  rfl (gx_okr rfl gx_catv_r (gx_okn rfl rfl gx_ok0)) ?_
  refine gx_aload_n C dX13_command_4 1 rfl ?_
  replace hf := gx_bs hf
  obtain ⟨a1, rfl, hf⟩ := hf
  replace hf := gx_b2s hf
  obtain ⟨x3, h4, g2, hf⟩ := hf
  refine gx_callV (st := []) C (w_J9_hashCode hlt g2) (is_J9_hashCode g2) gz_10 rfl (lw_V q1534 q1171 q1172 q134 q1173) gz_250 (by decide) rfl rfl (gx_catn (Nat.le_of_ble_eq_true rfl)) dX13_command_5 ?_
  replace hf := gx_ite hf
  rcases hf with ⟨c5, hf⟩ | ⟨c5, hf⟩
  · refine gx_lsw (tgt := 58) (off := 50) C dX13_command_8 (by decide) (by rw [c5]; decide) rfl ?_
    refine gx_aload_n C dX13_command_58 1 rfl ?_
    refine gx_ldcS C 22 rfl dX13_command_59 ?_
    replace hf := gx_bs hf
    obtain ⟨b7, g6, hf⟩ := hf
    refine gx_callV (st := []) C (w_J9_equals hlt g6) (is_J9_equals g6) gz_10 rfl (lw_V q1536 q1229 q1230 q134 q1231) gz_227 (by decide) rfl rfl (gx_catn (Nat.le_of_ble_eq_true rfl)) dX13_command_61 ?_
    replace hf := gx_ite hf
    rcases hf with ⟨c8, hf⟩ | ⟨c8, hf⟩
    · refine gx_ifz_eq_f (tgt := 83) C dX13_command_64 rfl c8 ?_
      refine gx_iconst (v := 1) C dX13_command_67 rfl ?_
      refine gx_istn C dX13_command_68 3 rfl (by decide) [2]  rfl (gx_okn rfl rfl gx_ok0) ?_
      refine gx_goto (tgt := 83) C dX13_command_69 rfl ?_
      refine gx_sub [1, 0] rfl ?_
      exact w_X13_command_b83 hlt C hx hf
    · refine gx_ifz_eq_t (tgt := 83) C dX13_command_64 rfl c8 ?_
      refine gx_sub [2, 0] rfl ?_
      exact w_X13_command_b83 hlt C hx hf
  replace hf := gx_ite hf
  rcases hf with ⟨c29, hf⟩ | ⟨c29, hf⟩
  · refine gx_lsw (tgt := 44) (off := 36) C dX13_command_8 (by decide) (by rw [c29]; decide) rfl ?_
    refine gx_aload_n C dX13_command_44 1 rfl ?_
    refine gx_ldcS C 21 rfl dX13_command_45 ?_
    replace hf := gx_bs hf
    obtain ⟨b31, g30, hf⟩ := hf
    refine gx_callV (st := []) C (w_J9_equals hlt g30) (is_J9_equals g30) gz_10 rfl (lw_V q1536 q1229 q1230 q134 q1231) gz_227 (by decide) rfl rfl (gx_catn (Nat.le_of_ble_eq_true rfl)) dX13_command_47 ?_
    replace hf := gx_ite hf
    rcases hf with ⟨c32, hf⟩ | ⟨c32, hf⟩
    · refine gx_ifz_eq_f (tgt := 83) C dX13_command_50 rfl c32 ?_
      refine gx_iconst (v := 0) C dX13_command_53 rfl ?_
      refine gx_istn C dX13_command_54 3 rfl (by decide) [2]  rfl (gx_okn rfl rfl gx_ok0) ?_
      refine gx_goto (tgt := 83) C dX13_command_55 rfl ?_
      refine gx_sub [1, 0] rfl ?_
      exact w_X13_command_b83 hlt C hx hf
    · refine gx_ifz_eq_t (tgt := 83) C dX13_command_50 rfl c32 ?_
      refine gx_sub [2, 0] rfl ?_
      exact w_X13_command_b83 hlt C hx hf
  replace hf := gx_ite hf
  rcases hf with ⟨c33, hf⟩ | ⟨c33, hf⟩
  · refine gx_lsw (tgt := 72) (off := 64) C dX13_command_8 (by decide) (by rw [c33]; decide) rfl ?_
    refine gx_aload_n C dX13_command_72 1 rfl ?_
    refine gx_ldcS C 23 rfl dX13_command_73 ?_
    replace hf := gx_bs hf
    obtain ⟨b35, g34, hf⟩ := hf
    refine gx_callV (st := []) C (w_J9_equals hlt g34) (is_J9_equals g34) gz_10 rfl (lw_V q1536 q1229 q1230 q134 q1231) gz_227 (by decide) rfl rfl (gx_catn (Nat.le_of_ble_eq_true rfl)) dX13_command_75 ?_
    replace hf := gx_ite hf
    rcases hf with ⟨c36, hf⟩ | ⟨c36, hf⟩
    · refine gx_ifz_eq_f (tgt := 83) C dX13_command_78 rfl c36 ?_
      refine gx_iconst (v := 2) C dX13_command_81 rfl ?_
      refine gx_istn C dX13_command_82 3 rfl (by decide) [2]  rfl (gx_okn rfl rfl gx_ok0) ?_
      refine gx_sub [1, 0] rfl ?_
      exact w_X13_command_b83 hlt C hx hf
    · refine gx_ifz_eq_t (tgt := 83) C dX13_command_78 rfl c36 ?_
      refine gx_sub [2, 0] rfl ?_
      exact w_X13_command_b83 hlt C hx hf
  refine gx_lsw (tgt := 83) (off := 75) C dX13_command_8 (by decide) (gx_lswd (gx_lq1 (gx_lsn2 (by decide) c5) (gx_lq1 (gx_lsn2 (by decide) c29) (gx_lq1 (gx_lsn2 (by decide) c33) gx_lq0)))) rfl ?_
  refine gx_sub [2, 0] rfl ?_
  exact w_X13_command_b83 hlt C hx hf
theorem le_X13_command {D : gx_D} {r : Option Nat ⊕ (String × Nat)} {hz : HX} {h : HX} {a0 : Nat} {p1 : Option Nat} (hf : f_X13_command D h a0 p1 = some (r, hz)) : gx_le h hz := by
  unfold f_X13_command at hf
  replace hf := gx_bs hf
  obtain ⟨_, -, hf⟩ := hf
  replace hf := gx_bs hf
  obtain ⟨a1, rfl, hf⟩ := hf
  replace hf := gx_b2s hf
  obtain ⟨x3, h4, g2, hf⟩ := hf
  refine (le_J9_hashCode g2).tr ?_
  replace hf := gx_ite hf
  rcases hf with ⟨c5, hf⟩ | ⟨c5, hf⟩
  · replace hf := gx_bs hf
    obtain ⟨b7, g6, hf⟩ := hf
    replace hf := gx_ite hf
    rcases hf with ⟨c8, hf⟩ | ⟨c8, hf⟩
    · exact le_X13_command_b83 hf
    · exact le_X13_command_b83 hf
  replace hf := gx_ite hf
  rcases hf with ⟨c29, hf⟩ | ⟨c29, hf⟩
  · replace hf := gx_bs hf
    obtain ⟨b31, g30, hf⟩ := hf
    replace hf := gx_ite hf
    rcases hf with ⟨c32, hf⟩ | ⟨c32, hf⟩
    · exact le_X13_command_b83 hf
    · exact le_X13_command_b83 hf
  replace hf := gx_ite hf
  rcases hf with ⟨c33, hf⟩ | ⟨c33, hf⟩
  · replace hf := gx_bs hf
    obtain ⟨b35, g34, hf⟩ := hf
    replace hf := gx_ite hf
    rcases hf with ⟨c36, hf⟩ | ⟨c36, hf⟩
    · exact le_X13_command_b83 hf
    · exact le_X13_command_b83 hf
  exact le_X13_command_b83 hf
theorem w_X13_command {l : Launch} (hlt : l.stackTraces = false) {D : gx_D} {h : HX} {a0 : Nat} {p1 : Option Nat} {r : Option Nat ⊕ (String × Nat)} {hz : HX} (hf : f_X13_command D h a0 p1 = some (r, hz)) : gx_MetX l yX13_command (ws_ yX13_command cX13_command 4 (some (.object "ContractMachine$Command"))) 12 285 D [(va_rf (some a0)), (va_rf p1)] h (gx_xa r) hz :=
  gx_ofGX gz_351 (by simp only [gx_lsr, gx_lsi, gx_lsj, gx_ls0]; decide) (le_X13_command hf) (fun p e R s m args below meth c C hn hx => by
    simp only [gx_lar, gx_lai, gx_laj, gx_la0, Nat.reduceAdd]
    exact w_X13_command_b hlt C hx hf)
def f_X13_isCommand_b105 (D : gx_D) (h : HX) (v3 : Int32) : Option ((Bool) × HX) :=
  if v3 = (0 : Int32) then
  some (true, h)
  else
  if v3 = (1 : Int32) then
  some (true, h)
  else
  if v3 = (2 : Int32) then
  some (true, h)
  else
  if v3 = (3 : Int32) then
  some (true, h)
  else
  if v3 < (0 : Int32) ∨ (3 : Int32) < v3 then
  some (false, h)
  else none
theorem w_X13_isCommand_b105 {l : Launch} (hlt : l.stackTraces = false) {p : Program} {e : Env} {R : Room} {s : State} {m : MethodId} {args : Array Value} {below : List Frame} {meth : Method} {c : Code} {D : gx_D} {h0 : HX} {r : Bool} {hz : HX} (C : gx_Ctx p R s m args meth c "ContractMachine$ScriptParser" cX13_isCommand 4 (some .boolean) 5 114 D h0 hz) (hx : meth.name = "isCommand")  {h : HX} {v3 : Int32} (hf : f_X13_isCommand_b105 D h v3 = some (r, hz)) : gx_G p l e R s m args below meth c D h0 hz 4 (gx_MQ below args s D h0 hz (some (.int (b2i r)))) 105 [(3, (.int v3))] [] h := by
  unfold f_X13_isCommand_b105 at hf
  refine gx_iload_n C dX13_isCommand_105 0 rfl ?_
  replace hf := gx_ite hf
  rcases hf with ⟨c9, hf⟩ | ⟨c9, hf⟩
  · refine gx_tswIn (tgt := 136) C dX13_isCommand_106 (by rw [c9]; decide) (by rw [c9]; decide) (off := 30) (by rw [c9]; rfl) rfl ?_
    refine gx_iconst (v := 1) C dX13_isCommand_136 rfl ?_
    refine gx_goto (tgt := 141) C dX13_isCommand_137 rfl ?_
    obtain ⟨rfl, rfl⟩ := Prod.mk.inj (Option.some.inj hf)
    exact gx_zret (b := true) C dX13_isCommand_141
  replace hf := gx_ite hf
  rcases hf with ⟨c10, hf⟩ | ⟨c10, hf⟩
  · refine gx_tswIn (tgt := 136) C dX13_isCommand_106 (by rw [c10]; decide) (by rw [c10]; decide) (off := 30) (by rw [c10]; rfl) rfl ?_
    refine gx_iconst (v := 1) C dX13_isCommand_136 rfl ?_
    refine gx_goto (tgt := 141) C dX13_isCommand_137 rfl ?_
    obtain ⟨rfl, rfl⟩ := Prod.mk.inj (Option.some.inj hf)
    exact gx_zret (b := true) C dX13_isCommand_141
  replace hf := gx_ite hf
  rcases hf with ⟨c11, hf⟩ | ⟨c11, hf⟩
  · refine gx_tswIn (tgt := 136) C dX13_isCommand_106 (by rw [c11]; decide) (by rw [c11]; decide) (off := 30) (by rw [c11]; rfl) rfl ?_
    refine gx_iconst (v := 1) C dX13_isCommand_136 rfl ?_
    refine gx_goto (tgt := 141) C dX13_isCommand_137 rfl ?_
    obtain ⟨rfl, rfl⟩ := Prod.mk.inj (Option.some.inj hf)
    exact gx_zret (b := true) C dX13_isCommand_141
  replace hf := gx_ite hf
  rcases hf with ⟨c12, hf⟩ | ⟨c12, hf⟩
  · refine gx_tswIn (tgt := 136) C dX13_isCommand_106 (by rw [c12]; decide) (by rw [c12]; decide) (off := 30) (by rw [c12]; rfl) rfl ?_
    refine gx_iconst (v := 1) C dX13_isCommand_136 rfl ?_
    refine gx_goto (tgt := 141) C dX13_isCommand_137 rfl ?_
    obtain ⟨rfl, rfl⟩ := Prod.mk.inj (Option.some.inj hf)
    exact gx_zret (b := true) C dX13_isCommand_141
  replace hf := gx_ite hf
  rcases hf with ⟨c13, hf⟩ | ⟨c13, hf⟩
  rotate_left
  · cases hf
  refine gx_tswOut (tgt := 140) C dX13_isCommand_106 (gx_tout c13) rfl ?_
  refine gx_iconst (v := 0) C dX13_isCommand_140 rfl ?_
  obtain ⟨rfl, rfl⟩ := Prod.mk.inj (Option.some.inj hf)
  exact gx_zret (b := false) C dX13_isCommand_141
theorem le_X13_isCommand_b105 {D : gx_D} {r : Bool} {hz : HX} {h : HX} {v3 : Int32} (hf : f_X13_isCommand_b105 D h v3 = some (r, hz)) : gx_le h hz := by
  unfold f_X13_isCommand_b105 at hf
  replace hf := gx_ite hf
  rcases hf with ⟨c9, hf⟩ | ⟨c9, hf⟩
  · obtain ⟨rfl, rfl⟩ := Prod.mk.inj (Option.some.inj hf)
    exact gx_le.rf
  replace hf := gx_ite hf
  rcases hf with ⟨c10, hf⟩ | ⟨c10, hf⟩
  · obtain ⟨rfl, rfl⟩ := Prod.mk.inj (Option.some.inj hf)
    exact gx_le.rf
  replace hf := gx_ite hf
  rcases hf with ⟨c11, hf⟩ | ⟨c11, hf⟩
  · obtain ⟨rfl, rfl⟩ := Prod.mk.inj (Option.some.inj hf)
    exact gx_le.rf
  replace hf := gx_ite hf
  rcases hf with ⟨c12, hf⟩ | ⟨c12, hf⟩
  · obtain ⟨rfl, rfl⟩ := Prod.mk.inj (Option.some.inj hf)
    exact gx_le.rf
  replace hf := gx_ite hf
  rcases hf with ⟨c13, hf⟩ | ⟨c13, hf⟩
  rotate_left
  · cases hf
  obtain ⟨rfl, rfl⟩ := Prod.mk.inj (Option.some.inj hf)
  exact gx_le.rf
def f_X13_isCommand (D : gx_D) (h : HX) (a0 : Nat) (p1 : Option Nat) : Option ((Bool) × HX) :=
  (hx_is h a0 [18]).bind fun _ =>
  p1.bind fun a1 =>
  gx_b2 (f_J9_hashCode D h a1) fun x3 h4 =>
  if x3 = (113762 : Int32) then
  (f_J9_equals D h4 a1 (some (D.2.2.1 22))).bind fun b7 =>
  if b7 = true then
  f_X13_isCommand_b105 D h4 ((1 : Int32))
  else
  f_X13_isCommand_b105 D h4 ((-1 : Int32))
  else
  if x3 = (3143222 : Int32) then
  (f_J9_equals D h4 a1 (some (D.2.2.1 21))).bind fun b16 =>
  if b16 = true then
  f_X13_isCommand_b105 D h4 ((0 : Int32))
  else
  f_X13_isCommand_b105 D h4 ((-1 : Int32))
  else
  if x3 = (94746189 : Int32) then
  (f_J9_equals D h4 a1 (some (D.2.2.1 24))).bind fun b20 =>
  if b20 = true then
  f_X13_isCommand_b105 D h4 ((3 : Int32))
  else
  f_X13_isCommand_b105 D h4 ((-1 : Int32))
  else
  if x3 = (108404047 : Int32) then
  (f_J9_equals D h4 a1 (some (D.2.2.1 23))).bind fun b24 =>
  if b24 = true then
  f_X13_isCommand_b105 D h4 ((2 : Int32))
  else
  f_X13_isCommand_b105 D h4 ((-1 : Int32))
  else
  f_X13_isCommand_b105 D h4 ((-1 : Int32))
theorem is_X13_isCommand {D : gx_D} {h : HX} {a0 : Nat} {p1 : Option Nat} {z} (hf : f_X13_isCommand D h a0 p1 = some z) : gx_isC h a0 [18] := by
  unfold f_X13_isCommand at hf
  obtain ⟨_, g, -⟩ := gx_bs hf
  exact hx_is_of g
theorem w_X13_isCommand_b {l : Launch} (hlt : l.stackTraces = false) {p : Program} {e : Env} {R : Room} {s : State} {m : MethodId} {args : Array Value} {below : List Frame} {meth : Method} {c : Code} {D : gx_D} {h0 : HX} {r : Bool} {hz : HX} (C : gx_Ctx p R s m args meth c "ContractMachine$ScriptParser" cX13_isCommand 4 (some .boolean) 5 114 D h0 hz) (hx : meth.name = "isCommand") {a0 : Nat} {p1 : Option Nat} (hf : f_X13_isCommand D h0 a0 p1 = some (r, hz)) : gx_G p l e R s m args below meth c D h0 hz 4 (gx_MQ below args s D h0 hz (some (.int (b2i r)))) 0 [(0, (va_rf (some a0))), (1, (va_rf p1))] [] h0 := by
  unfold f_X13_isCommand at hf
  replace hf := gx_bs hf
  obtain ⟨_, -, hf⟩ := hf
  refine gx_aload_n C dX13_isCommand_0 1 rfl ?_
  refine gx_astn C dX13_isCommand_1 2 rfl (by decide) []  rfl gx_ok0 ?_
  refine gx_iconst (v := -1) C dX13_isCommand_2 rfl ?_
  refine gx_istn C dX13_isCommand_3 3 rfl (by decide) [0]  rfl (gx_okr rfl gx_catv_r gx_ok0) ?_
  refine gx_aload_n C dX13_isCommand_4 1 rfl ?_
  replace hf := gx_bs hf
  obtain ⟨a1, rfl, hf⟩ := hf
  replace hf := gx_b2s hf
  obtain ⟨x3, h4, g2, hf⟩ := hf
  refine gx_callV (st := []) C (w_J9_hashCode hlt g2) (is_J9_hashCode g2) gz_10 rfl (lw_V q1534 q1171 q1172 q134 q1173) gz_250 (by decide) rfl rfl (gx_catn (Nat.le_of_ble_eq_true rfl)) dX13_isCommand_5 ?_
  replace hf := gx_ite hf
  rcases hf with ⟨c5, hf⟩ | ⟨c5, hf⟩
  · refine gx_lsw (tgt := 66) (off := 58) C dX13_isCommand_8 (by decide) (by rw [c5]; decide) rfl ?_
    refine gx_aload_n C dX13_isCommand_66 1 rfl ?_
    refine gx_ldcS C 22 rfl dX13_isCommand_67 ?_
    replace hf := gx_bs hf
    obtain ⟨b7, g6, hf⟩ := hf
    refine gx_callV (st := []) C (w_J9_equals hlt g6) (is_J9_equals g6) gz_10 rfl (lw_V q1536 q1229 q1230 q134 q1231) gz_227 (by decide) rfl rfl (gx_catn (Nat.le_of_ble_eq_true rfl)) dX13_isCommand_69 ?_
    replace hf := gx_ite hf
    rcases hf with ⟨c8, hf⟩ | ⟨c8, hf⟩
    · refine gx_ifz_eq_f (tgt := 105) C dX13_isCommand_72 rfl c8 ?_
      refine gx_iconst (v := 1) C dX13_isCommand_75 rfl ?_
      refine gx_istn C dX13_isCommand_76 3 rfl (by decide) []  rfl gx_ok0 ?_
      refine gx_goto (tgt := 105) C dX13_isCommand_77 rfl ?_
      refine gx_sub [0] rfl ?_
      exact w_X13_isCommand_b105 hlt C hx hf
    · refine gx_ifz_eq_t (tgt := 105) C dX13_isCommand_72 rfl c8 ?_
      refine gx_sub [0] rfl ?_
      exact w_X13_isCommand_b105 hlt C hx hf
  replace hf := gx_ite hf
  rcases hf with ⟨c14, hf⟩ | ⟨c14, hf⟩
  · refine gx_lsw (tgt := 52) (off := 44) C dX13_isCommand_8 (by decide) (by rw [c14]; decide) rfl ?_
    refine gx_aload_n C dX13_isCommand_52 1 rfl ?_
    refine gx_ldcS C 21 rfl dX13_isCommand_53 ?_
    replace hf := gx_bs hf
    obtain ⟨b16, g15, hf⟩ := hf
    refine gx_callV (st := []) C (w_J9_equals hlt g15) (is_J9_equals g15) gz_10 rfl (lw_V q1536 q1229 q1230 q134 q1231) gz_227 (by decide) rfl rfl (gx_catn (Nat.le_of_ble_eq_true rfl)) dX13_isCommand_55 ?_
    replace hf := gx_ite hf
    rcases hf with ⟨c17, hf⟩ | ⟨c17, hf⟩
    · refine gx_ifz_eq_f (tgt := 105) C dX13_isCommand_58 rfl c17 ?_
      refine gx_iconst (v := 0) C dX13_isCommand_61 rfl ?_
      refine gx_istn C dX13_isCommand_62 3 rfl (by decide) []  rfl gx_ok0 ?_
      refine gx_goto (tgt := 105) C dX13_isCommand_63 rfl ?_
      refine gx_sub [0] rfl ?_
      exact w_X13_isCommand_b105 hlt C hx hf
    · refine gx_ifz_eq_t (tgt := 105) C dX13_isCommand_58 rfl c17 ?_
      refine gx_sub [0] rfl ?_
      exact w_X13_isCommand_b105 hlt C hx hf
  replace hf := gx_ite hf
  rcases hf with ⟨c18, hf⟩ | ⟨c18, hf⟩
  · refine gx_lsw (tgt := 94) (off := 86) C dX13_isCommand_8 (by decide) (by rw [c18]; decide) rfl ?_
    refine gx_aload_n C dX13_isCommand_94 1 rfl ?_
    refine gx_ldcS C 24 rfl dX13_isCommand_95 ?_
    replace hf := gx_bs hf
    obtain ⟨b20, g19, hf⟩ := hf
    refine gx_callV (st := []) C (w_J9_equals hlt g19) (is_J9_equals g19) gz_10 rfl (lw_V q1536 q1229 q1230 q134 q1231) gz_227 (by decide) rfl rfl (gx_catn (Nat.le_of_ble_eq_true rfl)) dX13_isCommand_97 ?_
    replace hf := gx_ite hf
    rcases hf with ⟨c21, hf⟩ | ⟨c21, hf⟩
    · refine gx_ifz_eq_f (tgt := 105) C dX13_isCommand_100 rfl c21 ?_
      refine gx_iconst (v := 3) C dX13_isCommand_103 rfl ?_
      refine gx_istn C dX13_isCommand_104 3 rfl (by decide) []  rfl gx_ok0 ?_
      refine gx_sub [0] rfl ?_
      exact w_X13_isCommand_b105 hlt C hx hf
    · refine gx_ifz_eq_t (tgt := 105) C dX13_isCommand_100 rfl c21 ?_
      refine gx_sub [0] rfl ?_
      exact w_X13_isCommand_b105 hlt C hx hf
  replace hf := gx_ite hf
  rcases hf with ⟨c22, hf⟩ | ⟨c22, hf⟩
  · refine gx_lsw (tgt := 80) (off := 72) C dX13_isCommand_8 (by decide) (by rw [c22]; decide) rfl ?_
    refine gx_aload_n C dX13_isCommand_80 1 rfl ?_
    refine gx_ldcS C 23 rfl dX13_isCommand_81 ?_
    replace hf := gx_bs hf
    obtain ⟨b24, g23, hf⟩ := hf
    refine gx_callV (st := []) C (w_J9_equals hlt g23) (is_J9_equals g23) gz_10 rfl (lw_V q1536 q1229 q1230 q134 q1231) gz_227 (by decide) rfl rfl (gx_catn (Nat.le_of_ble_eq_true rfl)) dX13_isCommand_83 ?_
    replace hf := gx_ite hf
    rcases hf with ⟨c25, hf⟩ | ⟨c25, hf⟩
    · refine gx_ifz_eq_f (tgt := 105) C dX13_isCommand_86 rfl c25 ?_
      refine gx_iconst (v := 2) C dX13_isCommand_89 rfl ?_
      refine gx_istn C dX13_isCommand_90 3 rfl (by decide) []  rfl gx_ok0 ?_
      refine gx_goto (tgt := 105) C dX13_isCommand_91 rfl ?_
      refine gx_sub [0] rfl ?_
      exact w_X13_isCommand_b105 hlt C hx hf
    · refine gx_ifz_eq_t (tgt := 105) C dX13_isCommand_86 rfl c25 ?_
      refine gx_sub [0] rfl ?_
      exact w_X13_isCommand_b105 hlt C hx hf
  refine gx_lsw (tgt := 105) (off := 97) C dX13_isCommand_8 (by decide) (gx_lswd (gx_lq1 (gx_lsn2 (by decide) c5) (gx_lq1 (gx_lsn2 (by decide) c14) (gx_lq1 (gx_lsn2 (by decide) c18) (gx_lq1 (gx_lsn2 (by decide) c22) gx_lq0))))) rfl ?_
  refine gx_sub [0] rfl ?_
  exact w_X13_isCommand_b105 hlt C hx hf
theorem le_X13_isCommand {D : gx_D} {r : Bool} {hz : HX} {h : HX} {a0 : Nat} {p1 : Option Nat} (hf : f_X13_isCommand D h a0 p1 = some (r, hz)) : gx_le h hz := by
  unfold f_X13_isCommand at hf
  replace hf := gx_bs hf
  obtain ⟨_, -, hf⟩ := hf
  replace hf := gx_bs hf
  obtain ⟨a1, rfl, hf⟩ := hf
  replace hf := gx_b2s hf
  obtain ⟨x3, h4, g2, hf⟩ := hf
  refine (le_J9_hashCode g2).tr ?_
  replace hf := gx_ite hf
  rcases hf with ⟨c5, hf⟩ | ⟨c5, hf⟩
  · replace hf := gx_bs hf
    obtain ⟨b7, g6, hf⟩ := hf
    replace hf := gx_ite hf
    rcases hf with ⟨c8, hf⟩ | ⟨c8, hf⟩
    · exact le_X13_isCommand_b105 hf
    · exact le_X13_isCommand_b105 hf
  replace hf := gx_ite hf
  rcases hf with ⟨c14, hf⟩ | ⟨c14, hf⟩
  · replace hf := gx_bs hf
    obtain ⟨b16, g15, hf⟩ := hf
    replace hf := gx_ite hf
    rcases hf with ⟨c17, hf⟩ | ⟨c17, hf⟩
    · exact le_X13_isCommand_b105 hf
    · exact le_X13_isCommand_b105 hf
  replace hf := gx_ite hf
  rcases hf with ⟨c18, hf⟩ | ⟨c18, hf⟩
  · replace hf := gx_bs hf
    obtain ⟨b20, g19, hf⟩ := hf
    replace hf := gx_ite hf
    rcases hf with ⟨c21, hf⟩ | ⟨c21, hf⟩
    · exact le_X13_isCommand_b105 hf
    · exact le_X13_isCommand_b105 hf
  replace hf := gx_ite hf
  rcases hf with ⟨c22, hf⟩ | ⟨c22, hf⟩
  · replace hf := gx_bs hf
    obtain ⟨b24, g23, hf⟩ := hf
    replace hf := gx_ite hf
    rcases hf with ⟨c25, hf⟩ | ⟨c25, hf⟩
    · exact le_X13_isCommand_b105 hf
    · exact le_X13_isCommand_b105 hf
  exact le_X13_isCommand_b105 hf
theorem w_X13_isCommand {l : Launch} (hlt : l.stackTraces = false) {D : gx_D} {h : HX} {a0 : Nat} {p1 : Option Nat} {r : Bool} {hz : HX} (hf : f_X13_isCommand D h a0 p1 = some (r, hz)) : gx_Met l yX13_isCommand cX13_isCommand 4 (some .boolean) 5 114 D [(va_rf (some a0)), (va_rf p1)] h (some (.int (b2i r))) hz :=
  gx_ofG gz_351 (by simp only [gx_lsr, gx_lsi, gx_lsj, gx_ls0]; decide) (le_X13_isCommand hf) (fun p e R s m args below meth c C hx => by
    simp only [gx_lar, gx_lai, gx_laj, gx_la0, Nat.reduceAdd]
    exact w_X13_isCommand_b hlt C hx hf)
def f_X13_parse_b37 (D : gx_D) (k0 : HX → Nat → Option ((Option Nat ⊕ (String × Nat)) × HX)) (h : HX) (v0 : Nat) (v1 : Option Nat) (s0 : Bool) (s1 : Option Nat) : Option ((Option Nat ⊕ (String × Nat)) × HX) :=
  s1.bind fun a19 =>
  (hx_is h a19 [18]).bind fun _ =>
  gx_bx (f_X10_expect D h a19 s0 (5 : Int32)) (fun u25 h22 =>
  (hx_is h22 v0 [18]).bind fun _ =>
  (f_X10_advance D h22 v0).bind fun h28 =>
  (hx_gr h28 v0 [18] 6).bind fun r29 =>
  (hx_gi h28 v0 [18] 7).bind fun x30 =>
  gx_bx (f_X13_command D h28 v0 v1) (fun r32 h33 =>
  r29.bind fun a36 =>
  (hx_sr h33 a36 6 [19, 20, 21, 22] x30 r32).bind fun h37 =>
  (hx_gi h37 v0 [18] 7).bind fun x38 =>
  (hx_pi h37 v0 [18] 7 (x38 + (1 : Int32))).bind fun h39 =>
  (hx_is h39 v0 [18]).bind fun _ =>
  gx_bx (f_X10_endStatement D h39 v0) (fun u45 h42 =>
  k0 h42 v0) fun E43 q44 h42 =>
  some (.inr (E43, q44), h42)) fun E34 q35 h33 =>
  some (.inr (E34, q35), h33)) fun E23 q24 h22 =>
  some (.inr (E23, q24), h22)
theorem w_X13_parse_b37 {l : Launch} (hlt : l.stackTraces = false) {p : Program} {e : Env} {R : Room} {s : State} {m : MethodId} {args : Array Value} {below : List Frame} {meth : Method} {c : Code} {D : gx_D} {h0 : HX} {r : Option Nat ⊕ (String × Nat)} {hz : HX} (C : gx_Ctx p R s m args meth c "ContractMachine$ScriptParser" cX13_parse 2 (some (.object "ContractMachine$ScriptParser")) 13 308 D h0 hz) (hx : ∀ x ∈ c.exceptionTable.toList, False)  {k0 : HX → Nat → Option ((Option Nat ⊕ (String × Nat)) × HX)} (wk0 : ∀ ⦃h : HX⦄ ⦃v0 : Nat⦄, k0 h v0 = some (r, hz) → gx_G p l e R s m args below meth c D h0 hz 2 (gx_MQX below args s D h0 hz (gx_xa r)) 0 [(0, (va_rf (some v0)))] [] h) {h : HX} {v0 : Nat} {v1 : Option Nat} {s0 : Bool} {s1 : Option Nat} (hf : f_X13_parse_b37 D k0 h v0 v1 s0 s1 = some (r, hz)) : gx_G p l e R s m args below meth c D h0 hz 2 (gx_MQX below args s D h0 hz (gx_xa r)) 37 [(0, (va_rf (some v0))), (1, (va_rf v1))] [(.int (b2i s0)), (va_rf s1)] h := by
  unfold f_X13_parse_b37 at hf
  refine gx_iconst (v := 5) C dX13_parse_37 rfl ?_
  replace hf := gx_bs hf
  obtain ⟨a19, rfl, hf⟩ := hf
  replace hf := gx_bs hf
  obtain ⟨_, g20, hf⟩ := hf
  replace hf := gx_bxs hf
  rcases hf with ⟨u25, h22, g21, hf⟩ | ⟨E23, q24, h22, g21, hf⟩
  · refine gx_xcallU (st := []) C (w_X10_expect hlt g21) (hx_is_of g20) q1540 q1541 (gx_decl C q1249) ⟨by decide, by decide⟩ (gx_cis1 gz_128 (C.hts _ q1542) gx_cis0) q1251 q152 q1252 gz_372 (by decide) rfl rfl (gx_catn (Nat.le_of_ble_eq_true rfl)) dX13_parse_38 (gx_k2l ?_)
    refine gx_aload_n C dX13_parse_41 0 rfl ?_
    replace hf := gx_bs hf
    obtain ⟨_, g26, hf⟩ := hf
    replace hf := gx_bs hf
    obtain ⟨h28, g27, hf⟩ := hf
    refine gx_callU (st := []) C (w_X10_advance hlt g27) (hx_is_of g26) q1543 q1544 (gx_decl C q1283) ⟨by decide, by decide⟩ (gx_cis1 gz_128 (C.hts _ q1545) gx_cis0) q976 q152 q980 gz_373 (by decide) rfl rfl (gx_catn (Nat.le_of_ble_eq_true rfl)) dX13_parse_42 ?_
    refine gx_aload_n C dX13_parse_45 0 rfl ?_
    replace hf := gx_bs hf
    obtain ⟨r29, g50, hf⟩ := hf
    refine gx_gr C g50 gz_344 q1498 dX13_parse_46 ?_
    refine gx_aload_n C dX13_parse_49 0 rfl ?_
    replace hf := gx_bs hf
    obtain ⟨x30, g49, hf⟩ := hf
    refine gx_gi C g49 gz_343 q1500 dX13_parse_50 ?_
    refine gx_aload_n C dX13_parse_53 0 rfl ?_
    refine gx_aload_n C dX13_parse_54 1 rfl ?_
    replace hf := gx_bxs hf
    rcases hf with ⟨r32, h33, g31, hf⟩ | ⟨E34, q35, h33, g31, hf⟩
    · refine gx_xcallV (st := [(.int x30), (va_rf r29)]) C (w_X13_command hlt g31) (is_X13_command g31) gz_128 rfl (lw_V q1546 q1548 qs23 q161 q1549) gz_374 (by decide) rfl rfl (gx_catn (Nat.le_of_ble_eq_true rfl)) dX13_parse_55 (gx_k2l ?_)
      replace hf := gx_bs hf
      obtain ⟨a36, rfl, hf⟩ := hf
      replace hf := gx_bs hf
      obtain ⟨h37, g48, hf⟩ := hf
      refine gx_aast C gz_375 (t := 6) rfl g48 dX13_parse_58 ?_
      refine gx_aload_n C dX13_parse_59 0 rfl ?_
      refine gx_dup C dX13_parse_60 rfl ?_
      replace hf := gx_bs hf
      obtain ⟨x38, g47, hf⟩ := hf
      refine gx_gi C g47 gz_343 q1500 dX13_parse_61 ?_
      refine gx_iconst (v := 1) C dX13_parse_64 rfl ?_
      refine gx_iadd C dX13_parse_65 ?_
      replace hf := gx_bs hf
      obtain ⟨h39, g46, hf⟩ := hf
      refine gx_putv C g46 gz_343 gz_1 rfl rfl q1500 dX13_parse_66 ?_
      refine gx_aload_n C dX13_parse_69 0 rfl ?_
      replace hf := gx_bs hf
      obtain ⟨_, g40, hf⟩ := hf
      replace hf := gx_bxs hf
      rcases hf with ⟨u45, h42, g41, hf⟩ | ⟨E43, q44, h42, g41, hf⟩
      · refine gx_xcallU (st := []) C (w_X10_endStatement hlt g41) (hx_is_of g40) q1624 q1625 (gx_decl C q1413) ⟨by decide, by decide⟩ (gx_cis1 gz_128 (C.hts _ q1626) gx_cis0) q1415 q152 q1416 gz_376 (by decide) rfl rfl (gx_catn (Nat.le_of_ble_eq_true rfl)) dX13_parse_70 (gx_k2l ?_)
        refine gx_goto (tgt := 0) C dX13_parse_73 rfl ?_
        refine gx_sub [0] rfl ?_
        exact wk0 hf
      · refine gx_xcallU (st := []) C (w_X10_endStatement hlt g41) (hx_is_of g40) q1624 q1625 (gx_decl C q1413) ⟨by decide, by decide⟩ (gx_cis1 gz_128 (C.hts _ q1626) gx_cis0) q1415 q152 q1416 gz_376 (by decide) rfl rfl (gx_catn (Nat.le_of_ble_eq_true rfl)) dX13_parse_70 (gx_k2r ?_)
        obtain ⟨rfl, rfl⟩ := Prod.mk.inj (Option.some.inj hf)
        exact gx_out C hx
    · refine gx_xcallV (st := [(.int x30), (va_rf r29)]) C (w_X13_command hlt g31) (is_X13_command g31) gz_128 rfl (lw_V q1546 q1548 qs23 q161 q1549) gz_374 (by decide) rfl rfl (gx_catn (Nat.le_of_ble_eq_true rfl)) dX13_parse_55 (gx_k2r ?_)
      obtain ⟨rfl, rfl⟩ := Prod.mk.inj (Option.some.inj hf)
      exact gx_out C hx
  · refine gx_xcallU (st := []) C (w_X10_expect hlt g21) (hx_is_of g20) q1540 q1541 (gx_decl C q1249) ⟨by decide, by decide⟩ (gx_cis1 gz_128 (C.hts _ q1542) gx_cis0) q1251 q152 q1252 gz_372 (by decide) rfl rfl (gx_catn (Nat.le_of_ble_eq_true rfl)) dX13_parse_38 (gx_k2r ?_)
    obtain ⟨rfl, rfl⟩ := Prod.mk.inj (Option.some.inj hf)
    exact gx_out C hx
theorem le_X13_parse_b37 {D : gx_D} {r : Option Nat ⊕ (String × Nat)} {hz : HX} {k0 : HX → Nat → Option ((Option Nat ⊕ (String × Nat)) × HX)} (lek0 : ∀ ⦃h : HX⦄ ⦃v0 : Nat⦄, k0 h v0 = some (r, hz) → gx_le h hz) {h : HX} {v0 : Nat} {v1 : Option Nat} {s0 : Bool} {s1 : Option Nat} (hf : f_X13_parse_b37 D k0 h v0 v1 s0 s1 = some (r, hz)) : gx_le h hz := by
  unfold f_X13_parse_b37 at hf
  replace hf := gx_bs hf
  obtain ⟨a19, rfl, hf⟩ := hf
  replace hf := gx_bs hf
  obtain ⟨_, g20, hf⟩ := hf
  replace hf := gx_bxs hf
  rcases hf with ⟨u25, h22, g21, hf⟩ | ⟨E23, q24, h22, g21, hf⟩
  · refine (le_X10_expect g21).tr ?_
    replace hf := gx_bs hf
    obtain ⟨_, g26, hf⟩ := hf
    replace hf := gx_bs hf
    obtain ⟨h28, g27, hf⟩ := hf
    refine (le_X10_advance g27).tr ?_
    replace hf := gx_bs hf
    obtain ⟨r29, g50, hf⟩ := hf
    replace hf := gx_bs hf
    obtain ⟨x30, g49, hf⟩ := hf
    replace hf := gx_bxs hf
    rcases hf with ⟨r32, h33, g31, hf⟩ | ⟨E34, q35, h33, g31, hf⟩
    · refine (le_X13_command g31).tr ?_
      replace hf := gx_bs hf
      obtain ⟨a36, rfl, hf⟩ := hf
      replace hf := gx_bs hf
      obtain ⟨h37, g48, hf⟩ := hf
      refine (hx_le_sr g48).tr ?_
      replace hf := gx_bs hf
      obtain ⟨x38, g47, hf⟩ := hf
      replace hf := gx_bs hf
      obtain ⟨h39, g46, hf⟩ := hf
      refine (hx_le_pv g46).tr ?_
      replace hf := gx_bs hf
      obtain ⟨_, g40, hf⟩ := hf
      replace hf := gx_bxs hf
      rcases hf with ⟨u45, h42, g41, hf⟩ | ⟨E43, q44, h42, g41, hf⟩
      · refine (le_X10_endStatement g41).tr ?_
        exact lek0 hf
      · refine (le_X10_endStatement g41).tr ?_
        obtain ⟨rfl, rfl⟩ := Prod.mk.inj (Option.some.inj hf)
        exact gx_le.rf
    · refine (le_X13_command g31).tr ?_
      obtain ⟨rfl, rfl⟩ := Prod.mk.inj (Option.some.inj hf)
      exact gx_le.rf
  · refine (le_X10_expect g21).tr ?_
    obtain ⟨rfl, rfl⟩ := Prod.mk.inj (Option.some.inj hf)
    exact gx_le.rf
def f_X13_parse_b0 (D : gx_D) : Nat → HX → Nat → Option ((Option Nat ⊕ (String × Nat)) × HX)
  | 0, _, _ => none
  | n + 1, h, v0 =>
  (hx_is h v0 [18]).bind fun _ =>
  (f_X10_isOver D h v0).bind fun b3 =>
  if b3 = true then
  some (.inl (some v0), h)
  else
  (hx_is h v0 [18]).bind fun _ =>
  (f_X10_word D h v0).bind fun r7 =>
  gx_b2 (f_X13_isCommand D h v0 r7) fun b9 h10 =>
  (hx_is h10 v0 [18]).bind fun _ =>
  gx_bx (f_X10_expect D h10 v0 b9 (1 : Int32)) (fun u16 h13 =>
  (hx_gi h13 v0 [18] 7).bind fun x17 =>
  if (30 : Int32) ≤ x17 then
  f_X13_parse_b37 D (f_X13_parse_b0 D n) h13 v0 r7 false (some v0)
  else
  f_X13_parse_b37 D (f_X13_parse_b0 D n) h13 v0 r7 true (some v0)) fun E14 q15 h13 =>
  some (.inr (E14, q15), h13)
theorem w_X13_parse_b0 {l : Launch} (hlt : l.stackTraces = false) {p : Program} {e : Env} {R : Room} {s : State} {m : MethodId} {args : Array Value} {below : List Frame} {meth : Method} {c : Code} {D : gx_D} {h0 : HX} {r : Option Nat ⊕ (String × Nat)} {hz : HX} (C : gx_Ctx p R s m args meth c "ContractMachine$ScriptParser" cX13_parse 2 (some (.object "ContractMachine$ScriptParser")) 13 308 D h0 hz) (hx : ∀ x ∈ c.exceptionTable.toList, False)  : ∀ (n : Nat) ⦃h : HX⦄ ⦃v0 : Nat⦄, f_X13_parse_b0 D n h v0 = some (r, hz) → gx_G p l e R s m args below meth c D h0 hz 2 (gx_MQX below args s D h0 hz (gx_xa r)) 0 [(0, (va_rf (some v0)))] [] h := by
  intro n
  induction n with
  | zero => intro h v0 hf; unfold f_X13_parse_b0 at hf; cases hf
  | succ n wk0 =>
    intro h v0 hf
    unfold f_X13_parse_b0 at hf
    refine gx_aload_n C dX13_parse_0 0 rfl ?_
    replace hf := gx_bs hf
    obtain ⟨_, g1, hf⟩ := hf
    replace hf := gx_bs hf
    obtain ⟨b3, g2, hf⟩ := hf
    refine gx_callU (st := []) C (w_X10_isOver hlt g2) (hx_is_of g1) q1524 q1525 (gx_decl C q1156) ⟨by decide, by decide⟩ (gx_cis1 gz_128 (C.hts _ q1526) gx_cis0) q1158 q152 q1159 gz_369 (by decide) rfl rfl (gx_catn (Nat.le_of_ble_eq_true rfl)) dX13_parse_1 ?_
    replace hf := gx_ite hf
    rcases hf with ⟨c4, hf⟩ | ⟨c4, hf⟩
    · refine gx_ifz_ne_t (tgt := 76) C dX13_parse_4 rfl c4 ?_
      refine gx_aload_n C dX13_parse_76 0 rfl ?_
      obtain ⟨rfl, rfl⟩ := Prod.mk.inj (Option.some.inj hf)
      exact gx_ret (gx_aret C rfl rfl dX13_parse_77)
    · refine gx_ifz_ne_f (tgt := 76) C dX13_parse_4 rfl c4 ?_
      refine gx_aload_n C dX13_parse_7 0 rfl ?_
      replace hf := gx_bs hf
      obtain ⟨_, g5, hf⟩ := hf
      replace hf := gx_bs hf
      obtain ⟨r7, g6, hf⟩ := hf
      refine gx_callU (st := []) C (w_X10_word hlt g6) (hx_is_of g5) q1527 q1528 (gx_decl C q1162) ⟨by decide, by decide⟩ (gx_cis1 gz_128 (C.hts _ q1529) gx_cis0) q1164 q152 q1165 gz_370 (by decide) rfl rfl (gx_catn (Nat.le_of_ble_eq_true rfl)) dX13_parse_8 ?_
      refine gx_astn C dX13_parse_11 1 rfl (by decide) [0]  rfl (gx_okr rfl gx_catv_r gx_ok0) ?_
      refine gx_aload_n C dX13_parse_12 1 rfl ?_
      refine gx_aload_n C dX13_parse_13 1 rfl ?_
      refine gx_aload_n C dX13_parse_14 0 rfl ?_
      replace hf := gx_b2s hf
      obtain ⟨b9, h10, g8, hf⟩ := hf
      refine gx_callV (st := [(va_rf (some v0))]) C (w_X13_isCommand hlt g8) (is_X13_isCommand g8) gz_128 rfl (lw_V q1530 q1532 qs22 q161 q1533) gz_371 (by decide) rfl rfl (gx_catn (Nat.le_of_ble_eq_true rfl)) dX13_parse_15 ?_
      refine gx_iconst (v := 1) C dX13_parse_18 rfl ?_
      replace hf := gx_bs hf
      obtain ⟨_, g11, hf⟩ := hf
      replace hf := gx_bxs hf
      rcases hf with ⟨u16, h13, g12, hf⟩ | ⟨E14, q15, h13, g12, hf⟩
      · refine gx_xcallU (st := []) C (w_X10_expect hlt g12) (hx_is_of g11) q1540 q1541 (gx_decl C q1249) ⟨by decide, by decide⟩ (gx_cis1 gz_128 (C.hts _ q1542) gx_cis0) q1251 q152 q1252 gz_372 (by decide) rfl rfl (gx_catn (Nat.le_of_ble_eq_true rfl)) dX13_parse_19 (gx_k2l ?_)
        refine gx_aload_n C dX13_parse_22 1 rfl ?_
        refine gx_aload_n C dX13_parse_23 1 rfl ?_
        replace hf := gx_bs hf
        obtain ⟨x17, g51, hf⟩ := hf
        refine gx_gi C g51 gz_343 q1500 dX13_parse_24 ?_
        refine gx_bipush (v := 30) C dX13_parse_27 rfl ?_
        replace hf := gx_ite hf
        rcases hf with ⟨c18, hf⟩ | ⟨c18, hf⟩
        · refine gx_icmp_ge_t (tgt := 36) C dX13_parse_29 rfl c18 ?_
          refine gx_iconst (v := 0) C dX13_parse_36 rfl ?_
          refine gx_sub [1, 0] rfl ?_
          exact w_X13_parse_b37 hlt C hx wk0 hf
        · refine gx_icmp_ge_f (tgt := 36) C dX13_parse_29 rfl c18 ?_
          refine gx_iconst (v := 1) C dX13_parse_32 rfl ?_
          refine gx_goto (tgt := 37) C dX13_parse_33 rfl ?_
          refine gx_sub [1, 0] rfl ?_
          exact w_X13_parse_b37 hlt C hx wk0 hf
      · refine gx_xcallU (st := []) C (w_X10_expect hlt g12) (hx_is_of g11) q1540 q1541 (gx_decl C q1249) ⟨by decide, by decide⟩ (gx_cis1 gz_128 (C.hts _ q1542) gx_cis0) q1251 q152 q1252 gz_372 (by decide) rfl rfl (gx_catn (Nat.le_of_ble_eq_true rfl)) dX13_parse_19 (gx_k2r ?_)
        obtain ⟨rfl, rfl⟩ := Prod.mk.inj (Option.some.inj hf)
        exact gx_out C hx
theorem le_X13_parse_b0 {D : gx_D} {r : Option Nat ⊕ (String × Nat)} {hz : HX} : ∀ (n : Nat) ⦃h : HX⦄ ⦃v0 : Nat⦄, f_X13_parse_b0 D n h v0 = some (r, hz) → gx_le h hz := by
  intro n
  induction n with
  | zero => intro h v0 hf; unfold f_X13_parse_b0 at hf; cases hf
  | succ n lek0 =>
    intro h v0 hf
    unfold f_X13_parse_b0 at hf
    replace hf := gx_bs hf
    obtain ⟨_, g1, hf⟩ := hf
    replace hf := gx_bs hf
    obtain ⟨b3, g2, hf⟩ := hf
    replace hf := gx_ite hf
    rcases hf with ⟨c4, hf⟩ | ⟨c4, hf⟩
    · obtain ⟨rfl, rfl⟩ := Prod.mk.inj (Option.some.inj hf)
      exact gx_le.rf
    · replace hf := gx_bs hf
      obtain ⟨_, g5, hf⟩ := hf
      replace hf := gx_bs hf
      obtain ⟨r7, g6, hf⟩ := hf
      replace hf := gx_b2s hf
      obtain ⟨b9, h10, g8, hf⟩ := hf
      refine (le_X13_isCommand g8).tr ?_
      replace hf := gx_bs hf
      obtain ⟨_, g11, hf⟩ := hf
      replace hf := gx_bxs hf
      rcases hf with ⟨u16, h13, g12, hf⟩ | ⟨E14, q15, h13, g12, hf⟩
      · refine (le_X10_expect g12).tr ?_
        replace hf := gx_bs hf
        obtain ⟨x17, g51, hf⟩ := hf
        replace hf := gx_ite hf
        rcases hf with ⟨c18, hf⟩ | ⟨c18, hf⟩
        · exact le_X13_parse_b37 lek0 hf
        · exact le_X13_parse_b37 lek0 hf
      · refine (le_X10_expect g12).tr ?_
        obtain ⟨rfl, rfl⟩ := Prod.mk.inj (Option.some.inj hf)
        exact gx_le.rf
def f_X13_parse (D : gx_D) (h : HX) (a0 : Nat) : Option ((Option Nat ⊕ (String × Nat)) × HX) :=
  (hx_is h a0 [18]).bind fun _ =>
  f_X13_parse_b0 D gx_fuel h a0
theorem is_X13_parse {D : gx_D} {h : HX} {a0 : Nat} {z} (hf : f_X13_parse D h a0 = some z) : gx_isC h a0 [18] := by
  unfold f_X13_parse at hf
  obtain ⟨_, g, -⟩ := gx_bs hf
  exact hx_is_of g
theorem w_X13_parse_b {l : Launch} (hlt : l.stackTraces = false) {p : Program} {e : Env} {R : Room} {s : State} {m : MethodId} {args : Array Value} {below : List Frame} {meth : Method} {c : Code} {D : gx_D} {h0 : HX} {r : Option Nat ⊕ (String × Nat)} {hz : HX} (C : gx_Ctx p R s m args meth c "ContractMachine$ScriptParser" cX13_parse 2 (some (.object "ContractMachine$ScriptParser")) 13 308 D h0 hz) (hx : ∀ x ∈ c.exceptionTable.toList, False) {a0 : Nat} (hf : f_X13_parse D h0 a0 = some (r, hz)) : gx_G p l e R s m args below meth c D h0 hz 2 (gx_MQX below args s D h0 hz (gx_xa r)) 0 [(0, (va_rf (some a0)))] [] h0 := by
  unfold f_X13_parse at hf
  replace hf := gx_bs hf
  obtain ⟨_, -, hf⟩ := hf
  refine gx_sub [0] rfl ?_
  exact w_X13_parse_b0 hlt C hx gx_fuel hf
theorem le_X13_parse {D : gx_D} {r : Option Nat ⊕ (String × Nat)} {hz : HX} {h : HX} {a0 : Nat} (hf : f_X13_parse D h a0 = some (r, hz)) : gx_le h hz := by
  unfold f_X13_parse at hf
  replace hf := gx_bs hf
  obtain ⟨_, -, hf⟩ := hf
  exact le_X13_parse_b0 gx_fuel hf
theorem w_X13_parse {l : Launch} (hlt : l.stackTraces = false) {D : gx_D} {h : HX} {a0 : Nat} {r : Option Nat ⊕ (String × Nat)} {hz : HX} (hf : f_X13_parse D h a0 = some (r, hz)) : gx_MetX l yX13_parse (ws_ yX13_parse cX13_parse 2 (some (.object "ContractMachine$ScriptParser"))) 13 308 D [(va_rf (some a0))] h (gx_xa r) hz :=
  gx_ofGX gz_351 (by simp only [gx_lsr, gx_lsi, gx_lsj, gx_ls0]; decide) (le_X13_parse hf) (fun p e R s m args below meth c C hn hx => by
    simp only [gx_lar, gx_lai, gx_laj, gx_la0, Nat.reduceAdd]
    exact w_X13_parse_b hlt C hx hf)
def f_X1_runScript (D : gx_D) (h : HX) (a0 : Nat) : Option ((Int32) × HX) :=
  (hx_is h a0 [9]).bind fun _ =>
  (f_X1_clearError D h a0).bind fun h2 =>
  gx_b2 (hx_new h2 9 18 gx_df18) fun a3 h4 =>
  (f_X13_init D h4 a3 (some a0)).bind fun h6 =>
  gx_bx (f_X13_parse D h6 a3) (fun r8 h9 =>
  gx_b2 (f_X1_run D h9 a0 r8) fun x13 h14 =>
  (hx_pi h14 a0 [9] 2 (0 : Int32)).bind fun h15 =>
  some (x13, h15)) fun E10 q11 h9 =>
  if E10 = "ContractMachine$ParseException" then
  gx_b2 (f_X1_fail D h9 a0 (some q11)) fun x19 h20 =>
  (hx_pi h20 a0 [9] 2 (0 : Int32)).bind fun h21 =>
  some (x19, h21)
  else
  none
theorem is_X1_runScript {D : gx_D} {h : HX} {a0 : Nat} {z} (hf : f_X1_runScript D h a0 = some z) : gx_isC h a0 [9] := by
  unfold f_X1_runScript at hf
  obtain ⟨_, g, -⟩ := gx_bs hf
  exact hx_is_of g
theorem w_X1_runScript_b {l : Launch} (hlt : l.stackTraces = false) {p : Program} {e : Env} {R : Room} {s : State} {m : MethodId} {args : Array Value} {below : List Frame} {meth : Method} {c : Code} {D : gx_D} {h0 : HX} {r : Int32} {hz : HX} (C : gx_Ctx p R s m args meth c "ContractMachine" cX1_runScript 4 (some .int) 14 329 D h0 hz) (hx : c.exceptionTable.toList = tableOf [(4, 20, 27, 198), (4, 20, 41, 0), (27, 34, 41, 0)]) {a0 : Nat} (hf : f_X1_runScript D h0 a0 = some (r, hz)) : gx_G p l e R s m args below meth c D h0 hz 4 (gx_MQX below args s D h0 hz (.inl (some (.int r)))) 0 [(0, (va_rf (some a0)))] [] h0 := by
  unfold f_X1_runScript at hf
  replace hf := gx_bs hf
  obtain ⟨_, -, hf⟩ := hf
  refine gx_aload_n C dX1_runScript_0 0 rfl ?_
  replace hf := gx_bs hf
  obtain ⟨h2, g1, hf⟩ := hf
  refine gx_callV (st := []) C (w_X1_clearError hlt g1) (is_X1_clearError g1) gz_108 rfl (lw_V q961 q963 qs8 q121 q964) gz_264 (by decide) rfl rfl (gx_catn (Nat.le_of_ble_eq_true rfl)) dX1_runScript_1 ?_
  refine gx_aload_n C dX1_runScript_4 0 rfl ?_
  replace hf := gx_b2s hf
  obtain ⟨a3, h4, g23, hf⟩ := hf
  refine gx_newN C g23 gz_128 tyX13_ok gx_df18_ok q1490 q1491 q161 dX1_runScript_5 rfl ?_
  refine gx_dup C dX1_runScript_8 rfl ?_
  refine gx_aload_n C dX1_runScript_9 0 rfl ?_
  replace hf := gx_bs hf
  obtain ⟨h6, g5, hf⟩ := hf
  refine gx_callIN (st := [(va_rf (some a3)), (va_rf (some a0))]) C (w_X13_init hlt g5) q1492 q1493 q161 q1494 rfl gz_380 (by decide) rfl rfl (gx_catn (Nat.le_of_ble_eq_true rfl)) dX1_runScript_10 ?_
  replace hf := gx_bxs hf
  rcases hf with ⟨r8, h9, g7, hf⟩ | ⟨E10, q11, h9, g7, hf⟩
  · refine gx_xcallV (st := [(va_rf (some a0))]) C (w_X13_parse hlt g7) (is_X13_parse g7) gz_128 rfl (lw_V q1520 q1521 q1522 q161 q1523) gz_378 (by decide) rfl rfl (gx_catn (Nat.le_of_ble_eq_true rfl)) dX1_runScript_13 (gx_k2l ?_)
    replace hf := gx_b2s hf
    obtain ⟨x13, h14, g12, hf⟩ := hf
    refine gx_callV (st := []) C (w_X1_run hlt g12) (is_X1_run g12) gz_108 rfl (lw_V q1627 q1629 qs28 q121 q1630) gz_379 (by decide) rfl rfl (gx_catn (Nat.le_of_ble_eq_true rfl)) dX1_runScript_16 ?_
    refine gx_istn C dX1_runScript_19 1 rfl (by decide) [0]  rfl (gx_okr rfl gx_catv_r gx_ok0) ?_
    refine gx_aload_n C dX1_runScript_20 1 rfl ?_
    refine gx_iconst (v := 0) C dX1_runScript_21 rfl ?_
    replace hf := gx_bs hf
    obtain ⟨h15, g16, hf⟩ := hf
    refine gx_putv C g16 gz_119 gz_1 rfl rfl q886 dX1_runScript_22 ?_
    refine gx_iload_n C dX1_runScript_25 0 rfl ?_
    obtain ⟨rfl, rfl⟩ := Prod.mk.inj (Option.some.inj hf)
    exact gx_ret (gx_iret C dX1_runScript_26)
  · refine gx_xcallV (st := [(va_rf (some a0))]) C (w_X13_parse hlt g7) (is_X13_parse g7) gz_128 rfl (lw_V q1520 q1521 q1522 q161 q1523) gz_378 (by decide) rfl rfl (gx_catn (Nat.le_of_ble_eq_true rfl)) dX1_runScript_13 (gx_k2r ?_)
    replace hf := gx_ite hf
    rcases hf with ⟨c17, hf⟩ | ⟨c17, hf⟩
    · subst c17
      refine gx_catch C [] ⟨4, 20, 27, 198⟩ [⟨4, 20, 41, 0⟩, ⟨27, 34, 41, 0⟩] hx (fun _ h => nomatch h) rfl (by decide) q960 q1255 rfl ?_
      refine gx_astn C dX1_runScript_27 1 rfl (by decide) [0]  rfl (gx_okr rfl gx_catv_r gx_ok0) ?_
      refine gx_aload_n C dX1_runScript_28 1 rfl ?_
      refine gx_aload_n C dX1_runScript_29 0 rfl ?_
      replace hf := gx_b2s hf
      obtain ⟨x19, h20, g18, hf⟩ := hf
      refine gx_callV (st := []) C (w_X1_fail hlt g18) (is_X1_fail g18) gz_108 rfl (lw_V q1482 q1484 qs21 q121 q1485) gz_269 (by decide) rfl rfl (gx_catn (Nat.le_of_ble_eq_true rfl)) dX1_runScript_30 ?_
      refine gx_istn C dX1_runScript_33 2 rfl (by decide) [1]  rfl (gx_okn rfl rfl gx_ok0) ?_
      refine gx_aload_n C dX1_runScript_34 1 rfl ?_
      refine gx_iconst (v := 0) C dX1_runScript_35 rfl ?_
      replace hf := gx_bs hf
      obtain ⟨h21, g22, hf⟩ := hf
      refine gx_putv C g22 gz_119 gz_1 rfl rfl q886 dX1_runScript_36 ?_
      refine gx_iload_n C dX1_runScript_39 0 rfl ?_
      obtain ⟨rfl, rfl⟩ := Prod.mk.inj (Option.some.inj hf)
      exact gx_ret (gx_iret C dX1_runScript_40)
    cases hf
theorem le_X1_runScript {D : gx_D} {r : Int32} {hz : HX} {h : HX} {a0 : Nat} (hf : f_X1_runScript D h a0 = some (r, hz)) : gx_le h hz := by
  unfold f_X1_runScript at hf
  replace hf := gx_bs hf
  obtain ⟨_, -, hf⟩ := hf
  replace hf := gx_bs hf
  obtain ⟨h2, g1, hf⟩ := hf
  refine (le_X1_clearError g1).tr ?_
  replace hf := gx_b2s hf
  obtain ⟨a3, h4, g23, hf⟩ := hf
  refine (hx_le_new g23).tr ?_
  replace hf := gx_bs hf
  obtain ⟨h6, g5, hf⟩ := hf
  refine (le_X13_init g5).tr ?_
  replace hf := gx_bxs hf
  rcases hf with ⟨r8, h9, g7, hf⟩ | ⟨E10, q11, h9, g7, hf⟩
  · refine (le_X13_parse g7).tr ?_
    replace hf := gx_b2s hf
    obtain ⟨x13, h14, g12, hf⟩ := hf
    refine (le_X1_run g12).tr ?_
    replace hf := gx_bs hf
    obtain ⟨h15, g16, hf⟩ := hf
    refine (hx_le_pv g16).tr ?_
    obtain ⟨rfl, rfl⟩ := Prod.mk.inj (Option.some.inj hf)
    exact gx_le.rf
  · refine (le_X13_parse g7).tr ?_
    replace hf := gx_ite hf
    rcases hf with ⟨c17, hf⟩ | ⟨c17, hf⟩
    · subst c17
      replace hf := gx_b2s hf
      obtain ⟨x19, h20, g18, hf⟩ := hf
      refine (le_X1_fail g18).tr ?_
      replace hf := gx_bs hf
      obtain ⟨h21, g22, hf⟩ := hf
      refine (hx_le_pv g22).tr ?_
      obtain ⟨rfl, rfl⟩ := Prod.mk.inj (Option.some.inj hf)
      exact gx_le.rf
    cases hf
theorem w_X1_runScript {l : Launch} (hlt : l.stackTraces = false) {D : gx_D} {h : HX} {a0 : Nat} {r : Int32} {hz : HX} (hf : f_X1_runScript D h a0 = some (r, hz)) : gx_MetX l yX1_runScript (wsW_ yX1_runScript cX1_runScript 4 (some .int) [(4, 20, 27, 198), (4, 20, 41, 0), (27, 34, 41, 0)]) 14 329 D [(va_rf (some a0))] h (.inl (some (.int r))) hz :=
  gx_ofGW gz_26 (by simp only [gx_lsr, gx_lsi, gx_lsj, gx_ls0]; decide) (le_X1_runScript hf) (fun p e R s m args below meth c C hn hx => by
    simp only [gx_lar, gx_lai, gx_laj, gx_la0, Nat.reduceAdd]
    exact w_X1_runScript_b hlt C hx hf)
def f_X1_errorCode (D : gx_D) (h : HX) (a0 : Nat) : Option Int32 :=
  (hx_is h a0 [9]).bind fun _ =>
  (hx_gi h a0 [9] 3).bind fun x1 =>
  some x1
theorem is_X1_errorCode {D : gx_D} {h : HX} {a0 : Nat} {z} (hf : f_X1_errorCode D h a0 = some z) : gx_isC h a0 [9] := by
  unfold f_X1_errorCode at hf
  obtain ⟨_, g, -⟩ := gx_bs hf
  exact hx_is_of g
theorem w_X1_errorCode_b {l : Launch} (hlt : l.stackTraces = false) {p : Program} {e : Env} {R : Room} {s : State} {m : MethodId} {args : Array Value} {below : List Frame} {meth : Method} {c : Code} {D : gx_D} {h0 : HX} {r : Int32} (C : gx_Ctx p R s m args meth c "ContractMachine" cX1_errorCode 1 (some .int) 1 24 D h0 h0) (hx : meth.name = "errorCode") {a0 : Nat} (hf : f_X1_errorCode D h0 a0 = some r) : gx_G p l e R s m args below meth c D h0 h0 1 (gx_MQ below args s D h0 h0 (some (.int r))) 0 [(0, (va_rf (some a0)))] [] h0 := by
  unfold f_X1_errorCode at hf
  replace hf := gx_bs hf
  obtain ⟨_, -, hf⟩ := hf
  refine gx_aload_n C dX1_errorCode_0 0 rfl ?_
  replace hf := gx_bs hf
  obtain ⟨x1, g2, hf⟩ := hf
  refine gx_gi C g2 gz_122 q887 dX1_errorCode_1 ?_
  obtain rfl := Option.some.inj hf
  exact gx_iret C dX1_errorCode_4
theorem w_X1_errorCode {l : Launch} (hlt : l.stackTraces = false) {D : gx_D} {h : HX} {a0 : Nat} {r : Int32} (hf : f_X1_errorCode D h a0 = some r) : gx_Met l yX1_errorCode cX1_errorCode 1 (some .int) 1 24 D [(va_rf (some a0))] h (some (.int r)) h :=
  gx_ofG gz_26 (by simp only [gx_lsr, gx_lsi, gx_lsj, gx_ls0]; decide) gx_le.rf (fun p e R s m args below meth c C hx => by
    simp only [gx_lar, gx_lai, gx_laj, gx_la0, Nat.reduceAdd]
    exact w_X1_errorCode_b hlt C hx hf)
def f_X1_errorOffset (D : gx_D) (h : HX) (a0 : Nat) : Option Int32 :=
  (hx_is h a0 [9]).bind fun _ =>
  (hx_gi h a0 [9] 4).bind fun x1 =>
  some x1
theorem is_X1_errorOffset {D : gx_D} {h : HX} {a0 : Nat} {z} (hf : f_X1_errorOffset D h a0 = some z) : gx_isC h a0 [9] := by
  unfold f_X1_errorOffset at hf
  obtain ⟨_, g, -⟩ := gx_bs hf
  exact hx_is_of g
theorem w_X1_errorOffset_b {l : Launch} (hlt : l.stackTraces = false) {p : Program} {e : Env} {R : Room} {s : State} {m : MethodId} {args : Array Value} {below : List Frame} {meth : Method} {c : Code} {D : gx_D} {h0 : HX} {r : Int32} (C : gx_Ctx p R s m args meth c "ContractMachine" cX1_errorOffset 1 (some .int) 1 24 D h0 h0) (hx : meth.name = "errorOffset") {a0 : Nat} (hf : f_X1_errorOffset D h0 a0 = some r) : gx_G p l e R s m args below meth c D h0 h0 1 (gx_MQ below args s D h0 h0 (some (.int r))) 0 [(0, (va_rf (some a0)))] [] h0 := by
  unfold f_X1_errorOffset at hf
  replace hf := gx_bs hf
  obtain ⟨_, -, hf⟩ := hf
  refine gx_aload_n C dX1_errorOffset_0 0 rfl ?_
  replace hf := gx_bs hf
  obtain ⟨x1, g2, hf⟩ := hf
  refine gx_gi C g2 gz_81 q888 dX1_errorOffset_1 ?_
  obtain rfl := Option.some.inj hf
  exact gx_iret C dX1_errorOffset_4
theorem w_X1_errorOffset {l : Launch} (hlt : l.stackTraces = false) {D : gx_D} {h : HX} {a0 : Nat} {r : Int32} (hf : f_X1_errorOffset D h a0 = some r) : gx_Met l yX1_errorOffset cX1_errorOffset 1 (some .int) 1 24 D [(va_rf (some a0))] h (some (.int r)) h :=
  gx_ofG gz_26 (by simp only [gx_lsr, gx_lsi, gx_lsj, gx_ls0]; decide) gx_le.rf (fun p e R s m args below meth c C hx => by
    simp only [gx_lar, gx_lai, gx_laj, gx_la0, Nat.reduceAdd]
    exact w_X1_errorOffset_b hlt C hx hf)
def f_X1_stateCount (D : gx_D) (h : HX) (a0 : Nat) : Option Int32 :=
  (hx_is h a0 [9]).bind fun _ =>
  (hx_gr h a0 [9] 5).bind fun r1 =>
  r1.bind fun a2 =>
  (hx_gr h a2 [10] 0).bind fun r3 =>
  r3.bind fun a4 =>
  (f_J2_size D h a4).bind fun x6 =>
  some x6
theorem is_X1_stateCount {D : gx_D} {h : HX} {a0 : Nat} {z} (hf : f_X1_stateCount D h a0 = some z) : gx_isC h a0 [9] := by
  unfold f_X1_stateCount at hf
  obtain ⟨_, g, -⟩ := gx_bs hf
  exact hx_is_of g
theorem w_X1_stateCount_b {l : Launch} (hlt : l.stackTraces = false) {p : Program} {e : Env} {R : Room} {s : State} {m : MethodId} {args : Array Value} {below : List Frame} {meth : Method} {c : Code} {D : gx_D} {h0 : HX} {r : Int32} (C : gx_Ctx p R s m args meth c "ContractMachine" cX1_stateCount 1 (some .int) 2 44 D h0 h0) (hx : meth.name = "stateCount") {a0 : Nat} (hf : f_X1_stateCount D h0 a0 = some r) : gx_G p l e R s m args below meth c D h0 h0 1 (gx_MQ below args s D h0 h0 (some (.int r))) 0 [(0, (va_rf (some a0)))] [] h0 := by
  unfold f_X1_stateCount at hf
  replace hf := gx_bs hf
  obtain ⟨_, -, hf⟩ := hf
  refine gx_aload_n C dX1_stateCount_0 0 rfl ?_
  replace hf := gx_bs hf
  obtain ⟨r1, g8, hf⟩ := hf
  refine gx_gr C g8 gz_20 q892 dX1_stateCount_1 ?_
  replace hf := gx_bs hf
  obtain ⟨a2, rfl, hf⟩ := hf
  replace hf := gx_bs hf
  obtain ⟨r3, g7, hf⟩ := hf
  refine gx_grN C g7 gz_28 q560 dX1_stateCount_4 ?_
  replace hf := gx_bs hf
  obtain ⟨a4, rfl, hf⟩ := hf
  replace hf := gx_bs hf
  obtain ⟨x6, g5, hf⟩ := hf
  refine gx_callF (st := []) C (w_J2_size hlt g5) (is_J2_size g5) q1481 (gx_cis1 gz_19 ⟨gz_51, q770⟩ gx_cis0) q772 q127 q774 gz_50 (by decide) rfl rfl (gx_catn (Nat.le_of_ble_eq_true rfl)) dX1_stateCount_7 ?_
  obtain rfl := Option.some.inj hf
  exact gx_iret C dX1_stateCount_12
theorem w_X1_stateCount {l : Launch} (hlt : l.stackTraces = false) {D : gx_D} {h : HX} {a0 : Nat} {r : Int32} (hf : f_X1_stateCount D h a0 = some r) : gx_Met l yX1_stateCount cX1_stateCount 1 (some .int) 2 44 D [(va_rf (some a0))] h (some (.int r)) h :=
  gx_ofG gz_26 (by simp only [gx_lsr, gx_lsi, gx_lsj, gx_ls0]; decide) gx_le.rf (fun p e R s m args below meth c C hx => by
    simp only [gx_lar, gx_lai, gx_laj, gx_la0, Nat.reduceAdd]
    exact w_X1_stateCount_b hlt C hx hf)
def f_X1_eventCount (D : gx_D) (h : HX) (a0 : Nat) : Option Int32 :=
  (hx_is h a0 [9]).bind fun _ =>
  (hx_gr h a0 [9] 5).bind fun r1 =>
  r1.bind fun a2 =>
  (hx_gr h a2 [10] 1).bind fun r3 =>
  r3.bind fun a4 =>
  (f_J2_size D h a4).bind fun x6 =>
  some x6
theorem is_X1_eventCount {D : gx_D} {h : HX} {a0 : Nat} {z} (hf : f_X1_eventCount D h a0 = some z) : gx_isC h a0 [9] := by
  unfold f_X1_eventCount at hf
  obtain ⟨_, g, -⟩ := gx_bs hf
  exact hx_is_of g
theorem w_X1_eventCount_b {l : Launch} (hlt : l.stackTraces = false) {p : Program} {e : Env} {R : Room} {s : State} {m : MethodId} {args : Array Value} {below : List Frame} {meth : Method} {c : Code} {D : gx_D} {h0 : HX} {r : Int32} (C : gx_Ctx p R s m args meth c "ContractMachine" cX1_eventCount 1 (some .int) 2 44 D h0 h0) (hx : meth.name = "eventCount") {a0 : Nat} (hf : f_X1_eventCount D h0 a0 = some r) : gx_G p l e R s m args below meth c D h0 h0 1 (gx_MQ below args s D h0 h0 (some (.int r))) 0 [(0, (va_rf (some a0)))] [] h0 := by
  unfold f_X1_eventCount at hf
  replace hf := gx_bs hf
  obtain ⟨_, -, hf⟩ := hf
  refine gx_aload_n C dX1_eventCount_0 0 rfl ?_
  replace hf := gx_bs hf
  obtain ⟨r1, g8, hf⟩ := hf
  refine gx_gr C g8 gz_20 q892 dX1_eventCount_1 ?_
  replace hf := gx_bs hf
  obtain ⟨a2, rfl, hf⟩ := hf
  replace hf := gx_bs hf
  obtain ⟨r3, g7, hf⟩ := hf
  refine gx_grN C g7 gz_27 q565 dX1_eventCount_4 ?_
  replace hf := gx_bs hf
  obtain ⟨a4, rfl, hf⟩ := hf
  replace hf := gx_bs hf
  obtain ⟨x6, g5, hf⟩ := hf
  refine gx_callF (st := []) C (w_J2_size hlt g5) (is_J2_size g5) q1481 (gx_cis1 gz_19 ⟨gz_51, q770⟩ gx_cis0) q772 q127 q774 gz_50 (by decide) rfl rfl (gx_catn (Nat.le_of_ble_eq_true rfl)) dX1_eventCount_7 ?_
  obtain rfl := Option.some.inj hf
  exact gx_iret C dX1_eventCount_12
theorem w_X1_eventCount {l : Launch} (hlt : l.stackTraces = false) {D : gx_D} {h : HX} {a0 : Nat} {r : Int32} (hf : f_X1_eventCount D h a0 = some r) : gx_Met l yX1_eventCount cX1_eventCount 1 (some .int) 2 44 D [(va_rf (some a0))] h (some (.int r)) h :=
  gx_ofG gz_26 (by simp only [gx_lsr, gx_lsi, gx_lsj, gx_ls0]; decide) gx_le.rf (fun p e R s m args below meth c C hx => by
    simp only [gx_lar, gx_lai, gx_laj, gx_la0, Nat.reduceAdd]
    exact w_X1_eventCount_b hlt C hx hf)
def f_X1_variableCount (D : gx_D) (h : HX) (a0 : Nat) : Option Int32 :=
  (hx_is h a0 [9]).bind fun _ =>
  (hx_gr h a0 [9] 5).bind fun r1 =>
  r1.bind fun a2 =>
  (hx_gr h a2 [10] 2).bind fun r3 =>
  r3.bind fun a4 =>
  (f_J2_size D h a4).bind fun x6 =>
  some x6
theorem is_X1_variableCount {D : gx_D} {h : HX} {a0 : Nat} {z} (hf : f_X1_variableCount D h a0 = some z) : gx_isC h a0 [9] := by
  unfold f_X1_variableCount at hf
  obtain ⟨_, g, -⟩ := gx_bs hf
  exact hx_is_of g
theorem w_X1_variableCount_b {l : Launch} (hlt : l.stackTraces = false) {p : Program} {e : Env} {R : Room} {s : State} {m : MethodId} {args : Array Value} {below : List Frame} {meth : Method} {c : Code} {D : gx_D} {h0 : HX} {r : Int32} (C : gx_Ctx p R s m args meth c "ContractMachine" cX1_variableCount 1 (some .int) 2 44 D h0 h0) (hx : meth.name = "variableCount") {a0 : Nat} (hf : f_X1_variableCount D h0 a0 = some r) : gx_G p l e R s m args below meth c D h0 h0 1 (gx_MQ below args s D h0 h0 (some (.int r))) 0 [(0, (va_rf (some a0)))] [] h0 := by
  unfold f_X1_variableCount at hf
  replace hf := gx_bs hf
  obtain ⟨_, -, hf⟩ := hf
  refine gx_aload_n C dX1_variableCount_0 0 rfl ?_
  replace hf := gx_bs hf
  obtain ⟨r1, g8, hf⟩ := hf
  refine gx_gr C g8 gz_20 q892 dX1_variableCount_1 ?_
  replace hf := gx_bs hf
  obtain ⟨a2, rfl, hf⟩ := hf
  replace hf := gx_bs hf
  obtain ⟨r3, g7, hf⟩ := hf
  refine gx_grN C g7 gz_46 q569 dX1_variableCount_4 ?_
  replace hf := gx_bs hf
  obtain ⟨a4, rfl, hf⟩ := hf
  replace hf := gx_bs hf
  obtain ⟨x6, g5, hf⟩ := hf
  refine gx_callF (st := []) C (w_J2_size hlt g5) (is_J2_size g5) q1481 (gx_cis1 gz_19 ⟨gz_51, q770⟩ gx_cis0) q772 q127 q774 gz_50 (by decide) rfl rfl (gx_catn (Nat.le_of_ble_eq_true rfl)) dX1_variableCount_7 ?_
  obtain rfl := Option.some.inj hf
  exact gx_iret C dX1_variableCount_12
theorem w_X1_variableCount {l : Launch} (hlt : l.stackTraces = false) {D : gx_D} {h : HX} {a0 : Nat} {r : Int32} (hf : f_X1_variableCount D h a0 = some r) : gx_Met l yX1_variableCount cX1_variableCount 1 (some .int) 2 44 D [(va_rf (some a0))] h (some (.int r)) h :=
  gx_ofG gz_26 (by simp only [gx_lsr, gx_lsi, gx_lsj, gx_ls0]; decide) gx_le.rf (fun p e R s m args below meth c C hx => by
    simp only [gx_lar, gx_lai, gx_laj, gx_la0, Nat.reduceAdd]
    exact w_X1_variableCount_b hlt C hx hf)
def f_X1_transitionCount (D : gx_D) (h : HX) (a0 : Nat) : Option Int32 :=
  (hx_is h a0 [9]).bind fun _ =>
  (hx_gr h a0 [9] 5).bind fun r1 =>
  r1.bind fun a2 =>
  (hx_gr h a2 [10] 3).bind fun r3 =>
  r3.bind fun a4 =>
  (f_J2_size D h a4).bind fun x6 =>
  some x6
theorem is_X1_transitionCount {D : gx_D} {h : HX} {a0 : Nat} {z} (hf : f_X1_transitionCount D h a0 = some z) : gx_isC h a0 [9] := by
  unfold f_X1_transitionCount at hf
  obtain ⟨_, g, -⟩ := gx_bs hf
  exact hx_is_of g
theorem w_X1_transitionCount_b {l : Launch} (hlt : l.stackTraces = false) {p : Program} {e : Env} {R : Room} {s : State} {m : MethodId} {args : Array Value} {below : List Frame} {meth : Method} {c : Code} {D : gx_D} {h0 : HX} {r : Int32} (C : gx_Ctx p R s m args meth c "ContractMachine" cX1_transitionCount 1 (some .int) 2 44 D h0 h0) (hx : meth.name = "transitionCount") {a0 : Nat} (hf : f_X1_transitionCount D h0 a0 = some r) : gx_G p l e R s m args below meth c D h0 h0 1 (gx_MQ below args s D h0 h0 (some (.int r))) 0 [(0, (va_rf (some a0)))] [] h0 := by
  unfold f_X1_transitionCount at hf
  replace hf := gx_bs hf
  obtain ⟨_, -, hf⟩ := hf
  refine gx_aload_n C dX1_transitionCount_0 0 rfl ?_
  replace hf := gx_bs hf
  obtain ⟨r1, g8, hf⟩ := hf
  refine gx_gr C g8 gz_20 q892 dX1_transitionCount_1 ?_
  replace hf := gx_bs hf
  obtain ⟨a2, rfl, hf⟩ := hf
  replace hf := gx_bs hf
  obtain ⟨r3, g7, hf⟩ := hf
  refine gx_grN C g7 gz_21 q572 dX1_transitionCount_4 ?_
  replace hf := gx_bs hf
  obtain ⟨a4, rfl, hf⟩ := hf
  replace hf := gx_bs hf
  obtain ⟨x6, g5, hf⟩ := hf
  refine gx_callF (st := []) C (w_J2_size hlt g5) (is_J2_size g5) q1481 (gx_cis1 gz_19 ⟨gz_51, q770⟩ gx_cis0) q772 q127 q774 gz_50 (by decide) rfl rfl (gx_catn (Nat.le_of_ble_eq_true rfl)) dX1_transitionCount_7 ?_
  obtain rfl := Option.some.inj hf
  exact gx_iret C dX1_transitionCount_12
theorem w_X1_transitionCount {l : Launch} (hlt : l.stackTraces = false) {D : gx_D} {h : HX} {a0 : Nat} {r : Int32} (hf : f_X1_transitionCount D h a0 = some r) : gx_Met l yX1_transitionCount cX1_transitionCount 1 (some .int) 2 44 D [(va_rf (some a0))] h (some (.int r)) h :=
  gx_ofG gz_26 (by simp only [gx_lsr, gx_lsi, gx_lsj, gx_ls0]; decide) gx_le.rf (fun p e R s m args below meth c C hx => by
    simp only [gx_lar, gx_lai, gx_laj, gx_la0, Nat.reduceAdd]
    exact w_X1_transitionCount_b hlt C hx hf)
def f_X1_invariantCount (D : gx_D) (h : HX) (a0 : Nat) : Option Int32 :=
  (hx_is h a0 [9]).bind fun _ =>
  (hx_gr h a0 [9] 6).bind fun r1 =>
  r1.bind fun a2 =>
  (hx_gr h a2 [11] 0).bind fun r3 =>
  r3.bind fun a4 =>
  (f_J2_size D h a4).bind fun x6 =>
  some x6
theorem is_X1_invariantCount {D : gx_D} {h : HX} {a0 : Nat} {z} (hf : f_X1_invariantCount D h a0 = some z) : gx_isC h a0 [9] := by
  unfold f_X1_invariantCount at hf
  obtain ⟨_, g, -⟩ := gx_bs hf
  exact hx_is_of g
theorem w_X1_invariantCount_b {l : Launch} (hlt : l.stackTraces = false) {p : Program} {e : Env} {R : Room} {s : State} {m : MethodId} {args : Array Value} {below : List Frame} {meth : Method} {c : Code} {D : gx_D} {h0 : HX} {r : Int32} (C : gx_Ctx p R s m args meth c "ContractMachine" cX1_invariantCount 1 (some .int) 2 44 D h0 h0) (hx : meth.name = "invariantCount") {a0 : Nat} (hf : f_X1_invariantCount D h0 a0 = some r) : gx_G p l e R s m args below meth c D h0 h0 1 (gx_MQ below args s D h0 h0 (some (.int r))) 0 [(0, (va_rf (some a0)))] [] h0 := by
  unfold f_X1_invariantCount at hf
  replace hf := gx_bs hf
  obtain ⟨_, -, hf⟩ := hf
  refine gx_aload_n C dX1_invariantCount_0 0 rfl ?_
  replace hf := gx_bs hf
  obtain ⟨r1, g8, hf⟩ := hf
  refine gx_gr C g8 gz_85 q896 dX1_invariantCount_1 ?_
  replace hf := gx_bs hf
  obtain ⟨a2, rfl, hf⟩ := hf
  replace hf := gx_bs hf
  obtain ⟨r3, g7, hf⟩ := hf
  refine gx_grN C g7 gz_57 q596 dX1_invariantCount_4 ?_
  replace hf := gx_bs hf
  obtain ⟨a4, rfl, hf⟩ := hf
  replace hf := gx_bs hf
  obtain ⟨x6, g5, hf⟩ := hf
  refine gx_callF (st := []) C (w_J2_size hlt g5) (is_J2_size g5) q1481 (gx_cis1 gz_19 ⟨gz_51, q770⟩ gx_cis0) q772 q127 q774 gz_50 (by decide) rfl rfl (gx_catn (Nat.le_of_ble_eq_true rfl)) dX1_invariantCount_7 ?_
  obtain rfl := Option.some.inj hf
  exact gx_iret C dX1_invariantCount_12
theorem w_X1_invariantCount {l : Launch} (hlt : l.stackTraces = false) {D : gx_D} {h : HX} {a0 : Nat} {r : Int32} (hf : f_X1_invariantCount D h a0 = some r) : gx_Met l yX1_invariantCount cX1_invariantCount 1 (some .int) 2 44 D [(va_rf (some a0))] h (some (.int r)) h :=
  gx_ofG gz_26 (by simp only [gx_lsr, gx_lsi, gx_lsj, gx_ls0]; decide) gx_le.rf (fun p e R s m args below meth c C hx => by
    simp only [gx_lar, gx_lai, gx_laj, gx_la0, Nat.reduceAdd]
    exact w_X1_invariantCount_b hlt C hx hf)
def f_X1_currentState (D : gx_D) (h : HX) (a0 : Nat) : Option Int32 :=
  (hx_is h a0 [9]).bind fun _ =>
  (hx_gr h a0 [9] 6).bind fun r1 =>
  r1.bind fun a2 =>
  (f_X4_state D h a2).bind fun x4 =>
  some x4
theorem is_X1_currentState {D : gx_D} {h : HX} {a0 : Nat} {z} (hf : f_X1_currentState D h a0 = some z) : gx_isC h a0 [9] := by
  unfold f_X1_currentState at hf
  obtain ⟨_, g, -⟩ := gx_bs hf
  exact hx_is_of g
theorem w_X1_currentState_b {l : Launch} (hlt : l.stackTraces = false) {p : Program} {e : Env} {R : Room} {s : State} {m : MethodId} {args : Array Value} {below : List Frame} {meth : Method} {c : Code} {D : gx_D} {h0 : HX} {r : Int32} (C : gx_Ctx p R s m args meth c "ContractMachine" cX1_currentState 1 (some .int) 2 44 D h0 h0) (hx : meth.name = "currentState") {a0 : Nat} (hf : f_X1_currentState D h0 a0 = some r) : gx_G p l e R s m args below meth c D h0 h0 1 (gx_MQ below args s D h0 h0 (some (.int r))) 0 [(0, (va_rf (some a0)))] [] h0 := by
  unfold f_X1_currentState at hf
  replace hf := gx_bs hf
  obtain ⟨_, -, hf⟩ := hf
  refine gx_aload_n C dX1_currentState_0 0 rfl ?_
  replace hf := gx_bs hf
  obtain ⟨r1, g5, hf⟩ := hf
  refine gx_gr C g5 gz_85 q896 dX1_currentState_1 ?_
  replace hf := gx_bs hf
  obtain ⟨a2, rfl, hf⟩ := hf
  replace hf := gx_bs hf
  obtain ⟨x4, g3, hf⟩ := hf
  refine gx_callV (st := []) C (w_X4_state hlt g3) (is_X4_state g3) gz_13 rfl (lw_V q1909 q878 q879 q144 q880) gz_68 (by decide) rfl rfl (gx_catn (Nat.le_of_ble_eq_true rfl)) dX1_currentState_4 ?_
  obtain rfl := Option.some.inj hf
  exact gx_iret C dX1_currentState_7
theorem w_X1_currentState {l : Launch} (hlt : l.stackTraces = false) {D : gx_D} {h : HX} {a0 : Nat} {r : Int32} (hf : f_X1_currentState D h a0 = some r) : gx_Met l yX1_currentState cX1_currentState 1 (some .int) 2 44 D [(va_rf (some a0))] h (some (.int r)) h :=
  gx_ofG gz_26 (by simp only [gx_lsr, gx_lsi, gx_lsj, gx_ls0]; decide) gx_le.rf (fun p e R s m args below meth c C hx => by
    simp only [gx_lar, gx_lai, gx_laj, gx_la0, Nat.reduceAdd]
    exact w_X1_currentState_b hlt C hx hf)
def f_X1_isDeadlock_b2 (D : gx_D) : Nat → HX → Nat → Int32 → Int32 → Option Bool
  | 0, _, _, _, _ => none
  | n + 1, h, v0, v1, v2 =>
  (hx_gr h v0 [9] 5).bind fun r1 =>
  r1.bind fun a2 =>
  (hx_gr h a2 [10] 1).bind fun r3 =>
  r3.bind fun a4 =>
  (f_J2_size D h a4).bind fun x6 =>
  if x6 ≤ v2 then
  some true
  else
  (f_X1_next D h v0 v1 v2).bind fun x9 =>
  if x9 = (-1 : Int32) then
  (f_X1_isDeadlock_b2 D n) h v0 v1 ((v2 + (1 : Int32)))
  else
  some false
theorem w_X1_isDeadlock_b2 {l : Launch} (hlt : l.stackTraces = false) {p : Program} {e : Env} {R : Room} {s : State} {m : MethodId} {args : Array Value} {below : List Frame} {meth : Method} {c : Code} {D : gx_D} {h0 : HX} {r : Bool} (C : gx_Ctx p R s m args meth c "ContractMachine" cX1_isDeadlock 3 (some .boolean) 7 156 D h0 h0) (hx : meth.name = "isDeadlock")  : ∀ (n : Nat) ⦃v0 : Nat⦄ ⦃v1 : Int32⦄ ⦃v2 : Int32⦄, f_X1_isDeadlock_b2 D n h0 v0 v1 v2 = some r → gx_G p l e R s m args below meth c D h0 h0 3 (gx_MQ below args s D h0 h0 (some (.int (b2i r)))) 2 [(0, (va_rf (some v0))), (1, (.int v1)), (2, (.int v2))] [] h0 := by
  intro n
  induction n with
  | zero => intro v0 v1 v2 hf; unfold f_X1_isDeadlock_b2 at hf; cases hf
  | succ n wk2 =>
    intro v0 v1 v2 hf
    unfold f_X1_isDeadlock_b2 at hf
    refine gx_iload_n C dX1_isDeadlock_2 2 rfl ?_
    refine gx_aload_n C dX1_isDeadlock_3 0 rfl ?_
    replace hf := gx_bs hf
    obtain ⟨r1, g12, hf⟩ := hf
    refine gx_gr C g12 gz_20 q892 dX1_isDeadlock_4 ?_
    replace hf := gx_bs hf
    obtain ⟨a2, rfl, hf⟩ := hf
    replace hf := gx_bs hf
    obtain ⟨r3, g11, hf⟩ := hf
    refine gx_grN C g11 gz_27 q565 dX1_isDeadlock_7 ?_
    replace hf := gx_bs hf
    obtain ⟨a4, rfl, hf⟩ := hf
    replace hf := gx_bs hf
    obtain ⟨x6, g5, hf⟩ := hf
    refine gx_callF (st := [(.int v2)]) C (w_J2_size hlt g5) (is_J2_size g5) q1481 (gx_cis1 gz_19 ⟨gz_51, q770⟩ gx_cis0) q772 q127 q774 gz_50 (by decide) rfl rfl (gx_catn (Nat.le_of_ble_eq_true rfl)) dX1_isDeadlock_10 ?_
    replace hf := gx_ite hf
    rcases hf with ⟨c7, hf⟩ | ⟨c7, hf⟩
    · refine gx_icmp_ge_t (tgt := 36) C dX1_isDeadlock_15 rfl c7 ?_
      refine gx_iconst (v := 1) C dX1_isDeadlock_36 rfl ?_
      obtain rfl := Option.some.inj hf
      exact gx_zret (b := true) C dX1_isDeadlock_37
    · refine gx_icmp_ge_f (tgt := 36) C dX1_isDeadlock_15 rfl c7 ?_
      refine gx_aload_n C dX1_isDeadlock_18 0 rfl ?_
      refine gx_iload_n C dX1_isDeadlock_19 1 rfl ?_
      refine gx_iload_n C dX1_isDeadlock_20 2 rfl ?_
      replace hf := gx_bs hf
      obtain ⟨x9, g8, hf⟩ := hf
      refine gx_callV (st := []) C (w_X1_next hlt g8) (is_X1_next g8) gz_108 rfl (lw_V q1842 q1844 qs35 q121 q1845) gz_314 (by decide) rfl rfl (gx_catn (Nat.le_of_ble_eq_true rfl)) dX1_isDeadlock_21 ?_
      refine gx_iconst (v := -1) C dX1_isDeadlock_24 rfl ?_
      replace hf := gx_ite hf
      rcases hf with ⟨c10, hf⟩ | ⟨c10, hf⟩
      · refine gx_icmp_eq_t (tgt := 30) C dX1_isDeadlock_25 rfl c10 ?_
        refine gx_inc (v := 1) C dX1_isDeadlock_30 2 rfl rfl (by decide) [0, 1] rfl (gx_okn rfl rfl (gx_okr rfl gx_catv_i gx_ok0)) ?_
        refine gx_goto (tgt := 2) C dX1_isDeadlock_33 rfl ?_
        refine gx_sub [1, 2, 0] rfl ?_
        exact wk2 hf
      · refine gx_icmp_eq_f (tgt := 30) C dX1_isDeadlock_25 rfl c10 ?_
        refine gx_iconst (v := 0) C dX1_isDeadlock_28 rfl ?_
        obtain rfl := Option.some.inj hf
        exact gx_zret (b := false) C dX1_isDeadlock_29
def f_X1_isDeadlock (D : gx_D) (h : HX) (a0 : Nat) (p1 : Int32) : Option Bool :=
  (hx_is h a0 [9]).bind fun _ =>
  f_X1_isDeadlock_b2 D gx_fuel h a0 p1 ((0 : Int32))
theorem is_X1_isDeadlock {D : gx_D} {h : HX} {a0 : Nat} {p1 : Int32} {z} (hf : f_X1_isDeadlock D h a0 p1 = some z) : gx_isC h a0 [9] := by
  unfold f_X1_isDeadlock at hf
  obtain ⟨_, g, -⟩ := gx_bs hf
  exact hx_is_of g
theorem w_X1_isDeadlock_b {l : Launch} (hlt : l.stackTraces = false) {p : Program} {e : Env} {R : Room} {s : State} {m : MethodId} {args : Array Value} {below : List Frame} {meth : Method} {c : Code} {D : gx_D} {h0 : HX} {r : Bool} (C : gx_Ctx p R s m args meth c "ContractMachine" cX1_isDeadlock 3 (some .boolean) 7 156 D h0 h0) (hx : meth.name = "isDeadlock") {a0 : Nat} {p1 : Int32} (hf : f_X1_isDeadlock D h0 a0 p1 = some r) : gx_G p l e R s m args below meth c D h0 h0 3 (gx_MQ below args s D h0 h0 (some (.int (b2i r)))) 0 [(0, (va_rf (some a0))), (1, (.int p1))] [] h0 := by
  unfold f_X1_isDeadlock at hf
  replace hf := gx_bs hf
  obtain ⟨_, -, hf⟩ := hf
  refine gx_iconst (v := 0) C dX1_isDeadlock_0 rfl ?_
  refine gx_istn C dX1_isDeadlock_1 2 rfl (by decide) [0, 1]  rfl (gx_okn rfl rfl (gx_okr rfl gx_catv_i gx_ok0)) ?_
  refine gx_sub [1, 2, 0] rfl ?_
  exact w_X1_isDeadlock_b2 hlt C hx gx_fuel hf
theorem w_X1_isDeadlock {l : Launch} (hlt : l.stackTraces = false) {D : gx_D} {h : HX} {a0 : Nat} {p1 : Int32} {r : Bool} (hf : f_X1_isDeadlock D h a0 p1 = some r) : gx_Met l yX1_isDeadlock cX1_isDeadlock 3 (some .boolean) 7 156 D [(va_rf (some a0)), (.int p1)] h (some (.int (b2i r))) h :=
  gx_ofG gz_26 (by simp only [gx_lsr, gx_lsi, gx_lsj, gx_ls0]; decide) gx_le.rf (fun p e R s m args below meth c C hx => by
    simp only [gx_lar, gx_lai, gx_laj, gx_la0, Nat.reduceAdd]
    exact w_X1_isDeadlock_b hlt C hx hf)
def f_X1_isDeadlocked (D : gx_D) (h : HX) (a0 : Nat) : Option Bool :=
  (hx_is h a0 [9]).bind fun _ =>
  (hx_gr h a0 [9] 6).bind fun r1 =>
  r1.bind fun a2 =>
  (hx_gi h a2 [11] 6).bind fun x3 =>
  (f_X1_isDeadlock D h a0 x3).bind fun b5 =>
  some b5
theorem is_X1_isDeadlocked {D : gx_D} {h : HX} {a0 : Nat} {z} (hf : f_X1_isDeadlocked D h a0 = some z) : gx_isC h a0 [9] := by
  unfold f_X1_isDeadlocked at hf
  obtain ⟨_, g, -⟩ := gx_bs hf
  exact hx_is_of g
theorem w_X1_isDeadlocked_b {l : Launch} (hlt : l.stackTraces = false) {p : Program} {e : Env} {R : Room} {s : State} {m : MethodId} {args : Array Value} {below : List Frame} {meth : Method} {c : Code} {D : gx_D} {h0 : HX} {r : Bool} (C : gx_Ctx p R s m args meth c "ContractMachine" cX1_isDeadlocked 1 (some .boolean) 8 178 D h0 h0) (hx : meth.name = "isDeadlocked") {a0 : Nat} (hf : f_X1_isDeadlocked D h0 a0 = some r) : gx_G p l e R s m args below meth c D h0 h0 1 (gx_MQ below args s D h0 h0 (some (.int (b2i r)))) 0 [(0, (va_rf (some a0)))] [] h0 := by
  unfold f_X1_isDeadlocked at hf
  replace hf := gx_bs hf
  obtain ⟨_, -, hf⟩ := hf
  refine gx_aload_n C dX1_isDeadlocked_0 0 rfl ?_
  refine gx_aload_n C dX1_isDeadlocked_1 0 rfl ?_
  replace hf := gx_bs hf
  obtain ⟨r1, g7, hf⟩ := hf
  refine gx_gr C g7 gz_85 q896 dX1_isDeadlocked_2 ?_
  replace hf := gx_bs hf
  obtain ⟨a2, rfl, hf⟩ := hf
  replace hf := gx_bs hf
  obtain ⟨x3, g6, hf⟩ := hf
  refine gx_giN C g6 gz_65 q614 dX1_isDeadlocked_5 ?_
  replace hf := gx_bs hf
  obtain ⟨b5, g4, hf⟩ := hf
  refine gx_callV (st := []) C (w_X1_isDeadlock hlt g4) (is_X1_isDeadlock g4) gz_108 rfl (lw_V q1950 q1952 qs40 q121 q1953) gz_381 (by decide) rfl rfl (gx_catn (Nat.le_of_ble_eq_true rfl)) dX1_isDeadlocked_8 ?_
  obtain rfl := Option.some.inj hf
  exact gx_zret (b := _) C dX1_isDeadlocked_11
theorem w_X1_isDeadlocked {l : Launch} (hlt : l.stackTraces = false) {D : gx_D} {h : HX} {a0 : Nat} {r : Bool} (hf : f_X1_isDeadlocked D h a0 = some r) : gx_Met l yX1_isDeadlocked cX1_isDeadlocked 1 (some .boolean) 8 178 D [(va_rf (some a0))] h (some (.int (b2i r))) h :=
  gx_ofG gz_26 (by simp only [gx_lsr, gx_lsi, gx_lsj, gx_ls0]; decide) gx_le.rf (fun p e R s m args below meth c C hx => by
    simp only [gx_lar, gx_lai, gx_laj, gx_la0, Nat.reduceAdd]
    exact w_X1_isDeadlocked_b hlt C hx hf)
def f_X1_acceptedCount (D : gx_D) (h : HX) (a0 : Nat) : Option Int32 :=
  (hx_is h a0 [9]).bind fun _ =>
  (hx_gr h a0 [9] 6).bind fun r1 =>
  r1.bind fun a2 =>
  (hx_gi h a2 [11] 7).bind fun x3 =>
  some x3
theorem is_X1_acceptedCount {D : gx_D} {h : HX} {a0 : Nat} {z} (hf : f_X1_acceptedCount D h a0 = some z) : gx_isC h a0 [9] := by
  unfold f_X1_acceptedCount at hf
  obtain ⟨_, g, -⟩ := gx_bs hf
  exact hx_is_of g
theorem w_X1_acceptedCount_b {l : Launch} (hlt : l.stackTraces = false) {p : Program} {e : Env} {R : Room} {s : State} {m : MethodId} {args : Array Value} {below : List Frame} {meth : Method} {c : Code} {D : gx_D} {h0 : HX} {r : Int32} (C : gx_Ctx p R s m args meth c "ContractMachine" cX1_acceptedCount 1 (some .int) 1 24 D h0 h0) (hx : meth.name = "acceptedCount") {a0 : Nat} (hf : f_X1_acceptedCount D h0 a0 = some r) : gx_G p l e R s m args below meth c D h0 h0 1 (gx_MQ below args s D h0 h0 (some (.int r))) 0 [(0, (va_rf (some a0)))] [] h0 := by
  unfold f_X1_acceptedCount at hf
  replace hf := gx_bs hf
  obtain ⟨_, -, hf⟩ := hf
  refine gx_aload_n C dX1_acceptedCount_0 0 rfl ?_
  replace hf := gx_bs hf
  obtain ⟨r1, g5, hf⟩ := hf
  refine gx_gr C g5 gz_85 q896 dX1_acceptedCount_1 ?_
  replace hf := gx_bs hf
  obtain ⟨a2, rfl, hf⟩ := hf
  replace hf := gx_bs hf
  obtain ⟨x3, g4, hf⟩ := hf
  refine gx_giN C g4 gz_66 q618 dX1_acceptedCount_4 ?_
  obtain rfl := Option.some.inj hf
  exact gx_iret C dX1_acceptedCount_7
theorem w_X1_acceptedCount {l : Launch} (hlt : l.stackTraces = false) {D : gx_D} {h : HX} {a0 : Nat} {r : Int32} (hf : f_X1_acceptedCount D h a0 = some r) : gx_Met l yX1_acceptedCount cX1_acceptedCount 1 (some .int) 1 24 D [(va_rf (some a0))] h (some (.int r)) h :=
  gx_ofG gz_26 (by simp only [gx_lsr, gx_lsi, gx_lsj, gx_ls0]; decide) gx_le.rf (fun p e R s m args below meth c C hx => by
    simp only [gx_lar, gx_lai, gx_laj, gx_la0, Nat.reduceAdd]
    exact w_X1_acceptedCount_b hlt C hx hf)
def f_X4_allRejected_b13 (D : gx_D) : Nat → HX → Int32 → Option Nat → Int32 → Int32 → Option Int32
  | 0, _, _, _, _, _ => none
  | n + 1, h, v1, v2, v3, v4 =>
  if v3 ≤ v4 then
  some v1
  else
  v2.bind fun a5 =>
  (hx_ai h a5 0 v4).bind fun x6 =>
  (f_X4_allRejected_b13 D n) h ((v1 + x6)) (some a5) v3 ((v4 + (1 : Int32)))
theorem w_X4_allRejected_b13 {l : Launch} (hlt : l.stackTraces = false) {p : Program} {e : Env} {R : Room} {s : State} {m : MethodId} {args : Array Value} {below : List Frame} {meth : Method} {c : Code} {D : gx_D} {h0 : HX} {r : Int32} (C : gx_Ctx p R s m args meth c "ContractMachine$Run" cX4_allRejected 6 (some .int) 1 24 D h0 h0) (hx : meth.name = "allRejected")  : ∀ (n : Nat) ⦃v1 : Int32⦄ ⦃v2 : Option Nat⦄ ⦃v3 : Int32⦄ ⦃v4 : Int32⦄, f_X4_allRejected_b13 D n h0 v1 v2 v3 v4 = some r → gx_G p l e R s m args below meth c D h0 h0 6 (gx_MQ below args s D h0 h0 (some (.int r))) 13 [(1, (.int v1)), (2, (va_rf v2)), (3, (.int v3)), (4, (.int v4))] [] h0 := by
  intro n
  induction n with
  | zero => intro v1 v2 v3 v4 hf; unfold f_X4_allRejected_b13 at hf; cases hf
  | succ n wk13 =>
    intro v1 v2 v3 v4 hf
    unfold f_X4_allRejected_b13 at hf
    refine gx_iload C dX4_allRejected_13 3 rfl ?_
    refine gx_iload_n C dX4_allRejected_15 2 rfl ?_
    replace hf := gx_ite hf
    rcases hf with ⟨c4, hf⟩ | ⟨c4, hf⟩
    · refine gx_icmp_ge_t (tgt := 36) C dX4_allRejected_16 rfl c4 ?_
      refine gx_iload_n C dX4_allRejected_36 0 rfl ?_
      obtain rfl := Option.some.inj hf
      exact gx_iret C dX4_allRejected_37
    · refine gx_icmp_ge_f (tgt := 36) C dX4_allRejected_16 rfl c4 ?_
      refine gx_aload_n C dX4_allRejected_19 1 rfl ?_
      refine gx_iload C dX4_allRejected_20 3 rfl ?_
      replace hf := gx_bs hf
      obtain ⟨a5, rfl, hf⟩ := hf
      replace hf := gx_bs hf
      obtain ⟨x6, g7, hf⟩ := hf
      refine gx_iald C g7 dX4_allRejected_22 ?_
      refine gx_ist C dX4_allRejected_23 (by decide) [0, 1, 2, 3]  rfl (gx_okn rfl rfl (gx_okn rfl rfl (gx_okn rfl rfl (gx_okr rfl gx_catv_i gx_ok0)))) ?_
      refine gx_iload_n C dX4_allRejected_25 1 rfl ?_
      refine gx_iload C dX4_allRejected_26 0 rfl ?_
      refine gx_iadd C dX4_allRejected_28 ?_
      refine gx_istn C dX4_allRejected_29 1 rfl (by decide) [2, 3, 4]  rfl (gx_okn rfl rfl (gx_okn rfl rfl (gx_okn rfl rfl gx_ok0))) ?_
      refine gx_inc (v := 1) C dX4_allRejected_30 3 rfl rfl (by decide) [0, 1, 2] rfl (gx_okn rfl rfl (gx_okn rfl rfl (gx_okr rfl gx_catv_i gx_ok0))) ?_
      refine gx_goto (tgt := 13) C dX4_allRejected_33 rfl ?_
      refine gx_sub [1, 2, 3, 0] rfl ?_
      exact wk13 hf
def f_X4_allRejected (D : gx_D) (h : HX) (a0 : Nat) : Option Int32 :=
  (hx_is h a0 [11]).bind fun _ =>
  (hx_gr h a0 [11] 3).bind fun r1 =>
  r1.bind fun a2 =>
  (hx_len h a2).bind fun x3 =>
  f_X4_allRejected_b13 D gx_fuel h ((0 : Int32)) (some a2) x3 ((0 : Int32))
theorem is_X4_allRejected {D : gx_D} {h : HX} {a0 : Nat} {z} (hf : f_X4_allRejected D h a0 = some z) : gx_isC h a0 [11] := by
  unfold f_X4_allRejected at hf
  obtain ⟨_, g, -⟩ := gx_bs hf
  exact hx_is_of g
theorem w_X4_allRejected_b {l : Launch} (hlt : l.stackTraces = false) {p : Program} {e : Env} {R : Room} {s : State} {m : MethodId} {args : Array Value} {below : List Frame} {meth : Method} {c : Code} {D : gx_D} {h0 : HX} {r : Int32} (C : gx_Ctx p R s m args meth c "ContractMachine$Run" cX4_allRejected 6 (some .int) 1 24 D h0 h0) (hx : meth.name = "allRejected") {a0 : Nat} (hf : f_X4_allRejected D h0 a0 = some r) : gx_G p l e R s m args below meth c D h0 h0 6 (gx_MQ below args s D h0 h0 (some (.int r))) 0 [(0, (va_rf (some a0)))] [] h0 := by
  unfold f_X4_allRejected at hf
  replace hf := gx_bs hf
  obtain ⟨_, -, hf⟩ := hf
  refine gx_iconst (v := 0) C dX4_allRejected_0 rfl ?_
  refine gx_istn C dX4_allRejected_1 1 rfl (by decide) [0]  rfl (gx_okr rfl gx_catv_r gx_ok0) ?_
  refine gx_aload_n C dX4_allRejected_2 1 rfl ?_
  replace hf := gx_bs hf
  obtain ⟨r1, g9, hf⟩ := hf
  refine gx_gr C g9 gz_61 q604 dX4_allRejected_3 ?_
  refine gx_astn C dX4_allRejected_6 2 rfl (by decide) [0]  rfl (gx_okr rfl gx_catv_i gx_ok0) ?_
  refine gx_aload_n C dX4_allRejected_7 0 rfl ?_
  replace hf := gx_bs hf
  obtain ⟨a2, rfl, hf⟩ := hf
  replace hf := gx_bs hf
  obtain ⟨x3, g8, hf⟩ := hf
  refine gx_alen C g8 dX4_allRejected_8 ?_
  refine gx_istn C dX4_allRejected_9 3 rfl (by decide) [0, 1]  rfl (gx_okr rfl gx_catv_r (gx_okn rfl rfl gx_ok0)) ?_
  refine gx_iconst (v := 0) C dX4_allRejected_10 rfl ?_
  refine gx_ist C dX4_allRejected_11 (by decide) [0, 1, 2]  rfl (gx_okr rfl gx_catv_i (gx_okn rfl rfl (gx_okn rfl rfl gx_ok0))) ?_
  refine gx_sub [3, 2, 1, 0] rfl ?_
  exact w_X4_allRejected_b13 hlt C hx gx_fuel hf
theorem w_X4_allRejected {l : Launch} (hlt : l.stackTraces = false) {D : gx_D} {h : HX} {a0 : Nat} {r : Int32} (hf : f_X4_allRejected D h a0 = some r) : gx_Met l yX4_allRejected cX4_allRejected 6 (some .int) 1 24 D [(va_rf (some a0))] h (some (.int r)) h :=
  gx_ofG gz_64 (by simp only [gx_lsr, gx_lsi, gx_lsj, gx_ls0]; decide) gx_le.rf (fun p e R s m args below meth c C hx => by
    simp only [gx_lar, gx_lai, gx_laj, gx_la0, Nat.reduceAdd]
    exact w_X4_allRejected_b hlt C hx hf)
def f_X1_rejectedCount (D : gx_D) (h : HX) (a0 : Nat) : Option Int32 :=
  (hx_is h a0 [9]).bind fun _ =>
  (hx_gr h a0 [9] 6).bind fun r1 =>
  r1.bind fun a2 =>
  (f_X4_allRejected D h a2).bind fun x4 =>
  some x4
theorem is_X1_rejectedCount {D : gx_D} {h : HX} {a0 : Nat} {z} (hf : f_X1_rejectedCount D h a0 = some z) : gx_isC h a0 [9] := by
  unfold f_X1_rejectedCount at hf
  obtain ⟨_, g, -⟩ := gx_bs hf
  exact hx_is_of g
theorem w_X1_rejectedCount_b {l : Launch} (hlt : l.stackTraces = false) {p : Program} {e : Env} {R : Room} {s : State} {m : MethodId} {args : Array Value} {below : List Frame} {meth : Method} {c : Code} {D : gx_D} {h0 : HX} {r : Int32} (C : gx_Ctx p R s m args meth c "ContractMachine" cX1_rejectedCount 1 (some .int) 2 49 D h0 h0) (hx : meth.name = "rejectedCount") {a0 : Nat} (hf : f_X1_rejectedCount D h0 a0 = some r) : gx_G p l e R s m args below meth c D h0 h0 1 (gx_MQ below args s D h0 h0 (some (.int r))) 0 [(0, (va_rf (some a0)))] [] h0 := by
  unfold f_X1_rejectedCount at hf
  replace hf := gx_bs hf
  obtain ⟨_, -, hf⟩ := hf
  refine gx_aload_n C dX1_rejectedCount_0 0 rfl ?_
  replace hf := gx_bs hf
  obtain ⟨r1, g5, hf⟩ := hf
  refine gx_gr C g5 gz_85 q896 dX1_rejectedCount_1 ?_
  replace hf := gx_bs hf
  obtain ⟨a2, rfl, hf⟩ := hf
  replace hf := gx_bs hf
  obtain ⟨x4, g3, hf⟩ := hf
  refine gx_callV (st := []) C (w_X4_allRejected hlt g3) (is_X4_allRejected g3) gz_13 rfl (lw_V q1962 q1963 q1964 q144 q1965) gz_382 (by decide) rfl rfl (gx_catn (Nat.le_of_ble_eq_true rfl)) dX1_rejectedCount_4 ?_
  obtain rfl := Option.some.inj hf
  exact gx_iret C dX1_rejectedCount_7
theorem w_X1_rejectedCount {l : Launch} (hlt : l.stackTraces = false) {D : gx_D} {h : HX} {a0 : Nat} {r : Int32} (hf : f_X1_rejectedCount D h a0 = some r) : gx_Met l yX1_rejectedCount cX1_rejectedCount 1 (some .int) 2 49 D [(va_rf (some a0))] h (some (.int r)) h :=
  gx_ofG gz_26 (by simp only [gx_lsr, gx_lsi, gx_lsj, gx_ls0]; decide) gx_le.rf (fun p e R s m args below meth c C hx => by
    simp only [gx_lar, gx_lai, gx_laj, gx_la0, Nat.reduceAdd]
    exact w_X1_rejectedCount_b hlt C hx hf)
def f_X1_stateCoverage_b42 (D : gx_D) (h : HX) (v0 : Nat) (v1 : Int32) : Option UInt32 :=
  (hx_gr h v0 [9] 5).bind fun r7 =>
  r7.bind fun a8 =>
  (hx_gr h a8 [10] 0).bind fun r9 =>
  r9.bind fun a10 =>
  (f_J2_size D h a10).bind fun x12 =>
  if (FP.fdiv (FP.i2f v1) (FP.i2f x12)) &&& 0x7fffffff ≤ 0x7f800000 then
  some ((FP.fdiv (FP.i2f v1) (FP.i2f x12)))
  else none
theorem w_X1_stateCoverage_b42 {l : Launch} (hlt : l.stackTraces = false) {p : Program} {e : Env} {R : Room} {s : State} {m : MethodId} {args : Array Value} {below : List Frame} {meth : Method} {c : Code} {D : gx_D} {h0 : HX} {r : UInt32} (C : gx_Ctx p R s m args meth c "ContractMachine" cX1_stateCoverage 6 (some .float) 2 44 D h0 h0) (hx : meth.name = "stateCoverage")  {v0 : Nat} {v1 : Int32} (hf : f_X1_stateCoverage_b42 D h0 v0 v1 = some r) : gx_G p l e R s m args below meth c D h0 h0 6 (gx_MQ below args s D h0 h0 (some (.float r))) 42 [(0, (va_rf (some v0))), (1, (.int v1))] [] h0 := by
  unfold f_X1_stateCoverage_b42 at hf
  refine gx_iload_n C dX1_stateCoverage_42 1 rfl ?_
  refine gx_i2f C dX1_stateCoverage_43 ?_
  refine gx_aload_n C dX1_stateCoverage_44 0 rfl ?_
  replace hf := gx_bs hf
  obtain ⟨r7, g15, hf⟩ := hf
  refine gx_gr C g15 gz_20 q892 dX1_stateCoverage_45 ?_
  replace hf := gx_bs hf
  obtain ⟨a8, rfl, hf⟩ := hf
  replace hf := gx_bs hf
  obtain ⟨r9, g14, hf⟩ := hf
  refine gx_grN C g14 gz_28 q560 dX1_stateCoverage_48 ?_
  replace hf := gx_bs hf
  obtain ⟨a10, rfl, hf⟩ := hf
  replace hf := gx_bs hf
  obtain ⟨x12, g11, hf⟩ := hf
  refine gx_callF (st := [(.float (FP.i2f v1))]) C (w_J2_size hlt g11) (is_J2_size g11) q1481 (gx_cis1 gz_19 ⟨gz_51, q770⟩ gx_cis0) q772 q127 q774 gz_50 (by decide) rfl rfl (gx_catn (Nat.le_of_ble_eq_true rfl)) dX1_stateCoverage_51 ?_
  refine gx_i2f C dX1_stateCoverage_56 ?_
  replace hf := gx_ite hf
  rcases hf with ⟨c13, hf⟩ | ⟨c13, hf⟩
  rotate_left
  · cases hf
  refine gx_fdiv C dX1_stateCoverage_57 c13 ?_
  obtain rfl := Option.some.inj hf
  exact gx_fret C dX1_stateCoverage_58
def f_X1_stateCoverage_b36 (D : gx_D) (k16 : HX → Nat → Int32 → Option Nat → Int32 → Int32 → Option UInt32) (h : HX) (v0 : Nat) (v1 : Int32) (v2 : Option Nat) (v3 : Int32) (v4 : Int32) : Option UInt32 :=
  k16 h v0 v1 v2 v3 ((v4 + (1 : Int32)))
theorem w_X1_stateCoverage_b36 {l : Launch} (hlt : l.stackTraces = false) {p : Program} {e : Env} {R : Room} {s : State} {m : MethodId} {args : Array Value} {below : List Frame} {meth : Method} {c : Code} {D : gx_D} {h0 : HX} {r : UInt32} (C : gx_Ctx p R s m args meth c "ContractMachine" cX1_stateCoverage 6 (some .float) 2 44 D h0 h0) (hx : meth.name = "stateCoverage")  {k16 : HX → Nat → Int32 → Option Nat → Int32 → Int32 → Option UInt32} (wk16 : ∀ ⦃v0 : Nat⦄ ⦃v1 : Int32⦄ ⦃v2 : Option Nat⦄ ⦃v3 : Int32⦄ ⦃v4 : Int32⦄, k16 h0 v0 v1 v2 v3 v4 = some r → gx_G p l e R s m args below meth c D h0 h0 6 (gx_MQ below args s D h0 h0 (some (.float r))) 16 [(0, (va_rf (some v0))), (1, (.int v1)), (2, (va_rf v2)), (3, (.int v3)), (4, (.int v4))] [] h0) {v0 : Nat} {v1 : Int32} {v2 : Option Nat} {v3 : Int32} {v4 : Int32} (hf : f_X1_stateCoverage_b36 D k16 h0 v0 v1 v2 v3 v4 = some r) : gx_G p l e R s m args below meth c D h0 h0 6 (gx_MQ below args s D h0 h0 (some (.float r))) 36 [(0, (va_rf (some v0))), (1, (.int v1)), (2, (va_rf v2)), (3, (.int v3)), (4, (.int v4))] [] h0 := by
  unfold f_X1_stateCoverage_b36 at hf
  refine gx_inc (v := 1) C dX1_stateCoverage_36 4 rfl rfl (by decide) [0, 1, 2, 3] rfl (gx_okn rfl rfl (gx_okn rfl rfl (gx_okn rfl rfl (gx_okr rfl gx_catv_i gx_ok0)))) ?_
  refine gx_goto (tgt := 16) C dX1_stateCoverage_39 rfl ?_
  refine gx_sub [1, 2, 3, 4, 0] rfl ?_
  exact wk16 hf
def f_X1_stateCoverage_b16 (D : gx_D) : Nat → HX → Nat → Int32 → Option Nat → Int32 → Int32 → Option UInt32
  | 0, _, _, _, _, _, _ => none
  | n + 1, h, v0, v1, v2, v3, v4 =>
  if v3 ≤ v4 then
  f_X1_stateCoverage_b42 D h v0 v1
  else
  v2.bind fun a16 =>
  (hx_ai h a16 0 v4).bind fun x17 =>
  if x17 ≤ 0 then
  f_X1_stateCoverage_b36 D (f_X1_stateCoverage_b16 D n) h v0 v1 (some a16) v3 v4
  else
  f_X1_stateCoverage_b36 D (f_X1_stateCoverage_b16 D n) h v0 ((v1 + (1 : Int32))) (some a16) v3 v4
theorem w_X1_stateCoverage_b16 {l : Launch} (hlt : l.stackTraces = false) {p : Program} {e : Env} {R : Room} {s : State} {m : MethodId} {args : Array Value} {below : List Frame} {meth : Method} {c : Code} {D : gx_D} {h0 : HX} {r : UInt32} (C : gx_Ctx p R s m args meth c "ContractMachine" cX1_stateCoverage 6 (some .float) 2 44 D h0 h0) (hx : meth.name = "stateCoverage")  : ∀ (n : Nat) ⦃v0 : Nat⦄ ⦃v1 : Int32⦄ ⦃v2 : Option Nat⦄ ⦃v3 : Int32⦄ ⦃v4 : Int32⦄, f_X1_stateCoverage_b16 D n h0 v0 v1 v2 v3 v4 = some r → gx_G p l e R s m args below meth c D h0 h0 6 (gx_MQ below args s D h0 h0 (some (.float r))) 16 [(0, (va_rf (some v0))), (1, (.int v1)), (2, (va_rf v2)), (3, (.int v3)), (4, (.int v4))] [] h0 := by
  intro n
  induction n with
  | zero => intro v0 v1 v2 v3 v4 hf; unfold f_X1_stateCoverage_b16 at hf; cases hf
  | succ n wk16 =>
    intro v0 v1 v2 v3 v4 hf
    unfold f_X1_stateCoverage_b16 at hf
    refine gx_iload C dX1_stateCoverage_16 4 rfl ?_
    refine gx_iload_n C dX1_stateCoverage_18 3 rfl ?_
    replace hf := gx_ite hf
    rcases hf with ⟨c6, hf⟩ | ⟨c6, hf⟩
    · refine gx_icmp_ge_t (tgt := 42) C dX1_stateCoverage_19 rfl c6 ?_
      refine gx_sub [0, 1] rfl ?_
      exact w_X1_stateCoverage_b42 hlt C hx hf
    · refine gx_icmp_ge_f (tgt := 42) C dX1_stateCoverage_19 rfl c6 ?_
      refine gx_aload_n C dX1_stateCoverage_22 2 rfl ?_
      refine gx_iload C dX1_stateCoverage_23 4 rfl ?_
      replace hf := gx_bs hf
      obtain ⟨a16, rfl, hf⟩ := hf
      replace hf := gx_bs hf
      obtain ⟨x17, g19, hf⟩ := hf
      refine gx_iald C g19 dX1_stateCoverage_25 ?_
      refine gx_ist C dX1_stateCoverage_26 (by decide) [0, 1, 2, 3, 4]  rfl (gx_okn rfl rfl (gx_okn rfl rfl (gx_okn rfl rfl (gx_okn rfl rfl (gx_okr rfl gx_catv_i gx_ok0))))) ?_
      refine gx_iload C dX1_stateCoverage_28 0 rfl ?_
      replace hf := gx_ite hf
      rcases hf with ⟨c18, hf⟩ | ⟨c18, hf⟩
      · refine gx_if_le_t (tgt := 36) C dX1_stateCoverage_30 rfl c18 ?_
        refine gx_sub [1, 2, 3, 4, 5] rfl ?_
        exact w_X1_stateCoverage_b36 hlt C hx wk16 hf
      · refine gx_if_le_f (tgt := 36) C dX1_stateCoverage_30 rfl c18 ?_
        refine gx_inc (v := 1) C dX1_stateCoverage_33 2 rfl rfl (by decide) [1, 3, 4, 5] rfl (gx_okr rfl gx_catv_r (gx_okn rfl rfl (gx_okn rfl rfl (gx_okn rfl rfl gx_ok0)))) ?_
        refine gx_sub [1, 0, 2, 3, 4] rfl ?_
        exact w_X1_stateCoverage_b36 hlt C hx wk16 hf
def f_X1_stateCoverage (D : gx_D) (h : HX) (a0 : Nat) : Option UInt32 :=
  (hx_is h a0 [9]).bind fun _ =>
  (hx_gr h a0 [9] 6).bind fun r1 =>
  r1.bind fun a2 =>
  (hx_gr h a2 [11] 2).bind fun r3 =>
  r3.bind fun a4 =>
  (hx_len h a4).bind fun x5 =>
  f_X1_stateCoverage_b16 D gx_fuel h a0 ((0 : Int32)) (some a4) x5 ((0 : Int32))
theorem is_X1_stateCoverage {D : gx_D} {h : HX} {a0 : Nat} {z} (hf : f_X1_stateCoverage D h a0 = some z) : gx_isC h a0 [9] := by
  unfold f_X1_stateCoverage at hf
  obtain ⟨_, g, -⟩ := gx_bs hf
  exact hx_is_of g
theorem w_X1_stateCoverage_b {l : Launch} (hlt : l.stackTraces = false) {p : Program} {e : Env} {R : Room} {s : State} {m : MethodId} {args : Array Value} {below : List Frame} {meth : Method} {c : Code} {D : gx_D} {h0 : HX} {r : UInt32} (C : gx_Ctx p R s m args meth c "ContractMachine" cX1_stateCoverage 6 (some .float) 2 44 D h0 h0) (hx : meth.name = "stateCoverage") {a0 : Nat} (hf : f_X1_stateCoverage D h0 a0 = some r) : gx_G p l e R s m args below meth c D h0 h0 6 (gx_MQ below args s D h0 h0 (some (.float r))) 0 [(0, (va_rf (some a0)))] [] h0 := by
  unfold f_X1_stateCoverage at hf
  replace hf := gx_bs hf
  obtain ⟨_, -, hf⟩ := hf
  refine gx_iconst (v := 0) C dX1_stateCoverage_0 rfl ?_
  refine gx_istn C dX1_stateCoverage_1 1 rfl (by decide) [0]  rfl (gx_okr rfl gx_catv_r gx_ok0) ?_
  refine gx_aload_n C dX1_stateCoverage_2 1 rfl ?_
  replace hf := gx_bs hf
  obtain ⟨r1, g22, hf⟩ := hf
  refine gx_gr C g22 gz_85 q896 dX1_stateCoverage_3 ?_
  replace hf := gx_bs hf
  obtain ⟨a2, rfl, hf⟩ := hf
  replace hf := gx_bs hf
  obtain ⟨r3, g21, hf⟩ := hf
  refine gx_grN C g21 gz_60 q603 dX1_stateCoverage_6 ?_
  refine gx_astn C dX1_stateCoverage_9 2 rfl (by decide) [0, 1]  rfl (gx_okr rfl gx_catv_i (gx_okn rfl rfl gx_ok0)) ?_
  refine gx_aload_n C dX1_stateCoverage_10 0 rfl ?_
  replace hf := gx_bs hf
  obtain ⟨a4, rfl, hf⟩ := hf
  replace hf := gx_bs hf
  obtain ⟨x5, g20, hf⟩ := hf
  refine gx_alen C g20 dX1_stateCoverage_11 ?_
  refine gx_istn C dX1_stateCoverage_12 3 rfl (by decide) [0, 1, 2]  rfl (gx_okr rfl gx_catv_r (gx_okn rfl rfl (gx_okn rfl rfl gx_ok0))) ?_
  refine gx_iconst (v := 0) C dX1_stateCoverage_13 rfl ?_
  refine gx_ist C dX1_stateCoverage_14 (by decide) [0, 1, 2, 3]  rfl (gx_okr rfl gx_catv_i (gx_okn rfl rfl (gx_okn rfl rfl (gx_okn rfl rfl gx_ok0)))) ?_
  refine gx_sub [4, 3, 2, 1, 0] rfl ?_
  exact w_X1_stateCoverage_b16 hlt C hx gx_fuel hf
theorem w_X1_stateCoverage {l : Launch} (hlt : l.stackTraces = false) {D : gx_D} {h : HX} {a0 : Nat} {r : UInt32} (hf : f_X1_stateCoverage D h a0 = some r) : gx_Met l yX1_stateCoverage cX1_stateCoverage 6 (some .float) 2 44 D [(va_rf (some a0))] h (some (.float r)) h :=
  gx_ofG gz_26 (by simp only [gx_lsr, gx_lsi, gx_lsj, gx_ls0]; decide) gx_le.rf (fun p e R s m args below meth c C hx => by
    simp only [gx_lar, gx_lai, gx_laj, gx_la0, Nat.reduceAdd]
    exact w_X1_stateCoverage_b hlt C hx hf)
def f_X1_transitionCoverage_b42 (D : gx_D) (h : HX) (v0 : Nat) (v1 : Int32) : Option UInt32 :=
  (hx_gr h v0 [9] 5).bind fun r7 =>
  r7.bind fun a8 =>
  (hx_gr h a8 [10] 3).bind fun r9 =>
  r9.bind fun a10 =>
  (f_J2_size D h a10).bind fun x12 =>
  if x12 = 0 then
  some FP.fconst1
  else
  if (FP.fdiv (FP.i2f v1) (FP.i2f x12)) &&& 0x7fffffff ≤ 0x7f800000 then
  some ((FP.fdiv (FP.i2f v1) (FP.i2f x12)))
  else none
theorem w_X1_transitionCoverage_b42 {l : Launch} (hlt : l.stackTraces = false) {p : Program} {e : Env} {R : Room} {s : State} {m : MethodId} {args : Array Value} {below : List Frame} {meth : Method} {c : Code} {D : gx_D} {h0 : HX} {r : UInt32} (C : gx_Ctx p R s m args meth c "ContractMachine" cX1_transitionCoverage 6 (some .float) 2 44 D h0 h0) (hx : meth.name = "transitionCoverage")  {v0 : Nat} {v1 : Int32} (hf : f_X1_transitionCoverage_b42 D h0 v0 v1 = some r) : gx_G p l e R s m args below meth c D h0 h0 6 (gx_MQ below args s D h0 h0 (some (.float r))) 42 [(0, (va_rf (some v0))), (1, (.int v1))] [] h0 := by
  unfold f_X1_transitionCoverage_b42 at hf
  refine gx_aload_n C dX1_transitionCoverage_42 0 rfl ?_
  replace hf := gx_bs hf
  obtain ⟨r7, g16, hf⟩ := hf
  refine gx_gr C g16 gz_20 q892 dX1_transitionCoverage_43 ?_
  replace hf := gx_bs hf
  obtain ⟨a8, rfl, hf⟩ := hf
  replace hf := gx_bs hf
  obtain ⟨r9, g15, hf⟩ := hf
  refine gx_grN C g15 gz_21 q572 dX1_transitionCoverage_46 ?_
  replace hf := gx_bs hf
  obtain ⟨a10, rfl, hf⟩ := hf
  replace hf := gx_bs hf
  obtain ⟨x12, g11, hf⟩ := hf
  refine gx_callF (st := []) C (w_J2_size hlt g11) (is_J2_size g11) q1481 (gx_cis1 gz_19 ⟨gz_51, q770⟩ gx_cis0) q772 q127 q774 gz_50 (by decide) rfl rfl (gx_catn (Nat.le_of_ble_eq_true rfl)) dX1_transitionCoverage_49 ?_
  refine gx_istn C dX1_transitionCoverage_54 2 rfl (by decide) [1]  rfl (gx_okr rfl gx_catv_i gx_ok0) ?_
  refine gx_iload_n C dX1_transitionCoverage_55 0 rfl ?_
  replace hf := gx_ite hf
  rcases hf with ⟨c13, hf⟩ | ⟨c13, hf⟩
  · refine gx_if_ne_f (tgt := 63) C dX1_transitionCoverage_56 rfl c13 ?_
    refine gx_fconst1 C dX1_transitionCoverage_59 ?_
    refine gx_goto (tgt := 68) C dX1_transitionCoverage_60 rfl ?_
    obtain rfl := Option.some.inj hf
    exact gx_fret C dX1_transitionCoverage_68
  · refine gx_if_ne_t (tgt := 63) C dX1_transitionCoverage_56 rfl c13 ?_
    refine gx_iload_n C dX1_transitionCoverage_63 1 rfl ?_
    refine gx_i2f C dX1_transitionCoverage_64 ?_
    refine gx_iload_n C dX1_transitionCoverage_65 0 rfl ?_
    refine gx_i2f C dX1_transitionCoverage_66 ?_
    replace hf := gx_ite hf
    rcases hf with ⟨c14, hf⟩ | ⟨c14, hf⟩
    rotate_left
    · cases hf
    refine gx_fdiv C dX1_transitionCoverage_67 c14 ?_
    obtain rfl := Option.some.inj hf
    exact gx_fret C dX1_transitionCoverage_68
def f_X1_transitionCoverage_b36 (D : gx_D) (k16 : HX → Nat → Int32 → Option Nat → Int32 → Int32 → Option UInt32) (h : HX) (v0 : Nat) (v1 : Int32) (v2 : Option Nat) (v3 : Int32) (v4 : Int32) : Option UInt32 :=
  k16 h v0 v1 v2 v3 ((v4 + (1 : Int32)))
theorem w_X1_transitionCoverage_b36 {l : Launch} (hlt : l.stackTraces = false) {p : Program} {e : Env} {R : Room} {s : State} {m : MethodId} {args : Array Value} {below : List Frame} {meth : Method} {c : Code} {D : gx_D} {h0 : HX} {r : UInt32} (C : gx_Ctx p R s m args meth c "ContractMachine" cX1_transitionCoverage 6 (some .float) 2 44 D h0 h0) (hx : meth.name = "transitionCoverage")  {k16 : HX → Nat → Int32 → Option Nat → Int32 → Int32 → Option UInt32} (wk16 : ∀ ⦃v0 : Nat⦄ ⦃v1 : Int32⦄ ⦃v2 : Option Nat⦄ ⦃v3 : Int32⦄ ⦃v4 : Int32⦄, k16 h0 v0 v1 v2 v3 v4 = some r → gx_G p l e R s m args below meth c D h0 h0 6 (gx_MQ below args s D h0 h0 (some (.float r))) 16 [(0, (va_rf (some v0))), (1, (.int v1)), (2, (va_rf v2)), (3, (.int v3)), (4, (.int v4))] [] h0) {v0 : Nat} {v1 : Int32} {v2 : Option Nat} {v3 : Int32} {v4 : Int32} (hf : f_X1_transitionCoverage_b36 D k16 h0 v0 v1 v2 v3 v4 = some r) : gx_G p l e R s m args below meth c D h0 h0 6 (gx_MQ below args s D h0 h0 (some (.float r))) 36 [(0, (va_rf (some v0))), (1, (.int v1)), (2, (va_rf v2)), (3, (.int v3)), (4, (.int v4))] [] h0 := by
  unfold f_X1_transitionCoverage_b36 at hf
  refine gx_inc (v := 1) C dX1_transitionCoverage_36 4 rfl rfl (by decide) [0, 1, 2, 3] rfl (gx_okn rfl rfl (gx_okn rfl rfl (gx_okn rfl rfl (gx_okr rfl gx_catv_i gx_ok0)))) ?_
  refine gx_goto (tgt := 16) C dX1_transitionCoverage_39 rfl ?_
  refine gx_sub [1, 2, 3, 4, 0] rfl ?_
  exact wk16 hf
def f_X1_transitionCoverage_b16 (D : gx_D) : Nat → HX → Nat → Int32 → Option Nat → Int32 → Int32 → Option UInt32
  | 0, _, _, _, _, _, _ => none
  | n + 1, h, v0, v1, v2, v3, v4 =>
  if v3 ≤ v4 then
  f_X1_transitionCoverage_b42 D h v0 v1
  else
  v2.bind fun a17 =>
  (hx_ai h a17 0 v4).bind fun x18 =>
  if x18 ≤ 0 then
  f_X1_transitionCoverage_b36 D (f_X1_transitionCoverage_b16 D n) h v0 v1 (some a17) v3 v4
  else
  f_X1_transitionCoverage_b36 D (f_X1_transitionCoverage_b16 D n) h v0 ((v1 + (1 : Int32))) (some a17) v3 v4
theorem w_X1_transitionCoverage_b16 {l : Launch} (hlt : l.stackTraces = false) {p : Program} {e : Env} {R : Room} {s : State} {m : MethodId} {args : Array Value} {below : List Frame} {meth : Method} {c : Code} {D : gx_D} {h0 : HX} {r : UInt32} (C : gx_Ctx p R s m args meth c "ContractMachine" cX1_transitionCoverage 6 (some .float) 2 44 D h0 h0) (hx : meth.name = "transitionCoverage")  : ∀ (n : Nat) ⦃v0 : Nat⦄ ⦃v1 : Int32⦄ ⦃v2 : Option Nat⦄ ⦃v3 : Int32⦄ ⦃v4 : Int32⦄, f_X1_transitionCoverage_b16 D n h0 v0 v1 v2 v3 v4 = some r → gx_G p l e R s m args below meth c D h0 h0 6 (gx_MQ below args s D h0 h0 (some (.float r))) 16 [(0, (va_rf (some v0))), (1, (.int v1)), (2, (va_rf v2)), (3, (.int v3)), (4, (.int v4))] [] h0 := by
  intro n
  induction n with
  | zero => intro v0 v1 v2 v3 v4 hf; unfold f_X1_transitionCoverage_b16 at hf; cases hf
  | succ n wk16 =>
    intro v0 v1 v2 v3 v4 hf
    unfold f_X1_transitionCoverage_b16 at hf
    refine gx_iload C dX1_transitionCoverage_16 4 rfl ?_
    refine gx_iload_n C dX1_transitionCoverage_18 3 rfl ?_
    replace hf := gx_ite hf
    rcases hf with ⟨c6, hf⟩ | ⟨c6, hf⟩
    · refine gx_icmp_ge_t (tgt := 42) C dX1_transitionCoverage_19 rfl c6 ?_
      refine gx_sub [0, 1] rfl ?_
      exact w_X1_transitionCoverage_b42 hlt C hx hf
    · refine gx_icmp_ge_f (tgt := 42) C dX1_transitionCoverage_19 rfl c6 ?_
      refine gx_aload_n C dX1_transitionCoverage_22 2 rfl ?_
      refine gx_iload C dX1_transitionCoverage_23 4 rfl ?_
      replace hf := gx_bs hf
      obtain ⟨a17, rfl, hf⟩ := hf
      replace hf := gx_bs hf
      obtain ⟨x18, g20, hf⟩ := hf
      refine gx_iald C g20 dX1_transitionCoverage_25 ?_
      refine gx_ist C dX1_transitionCoverage_26 (by decide) [0, 1, 2, 3, 4]  rfl (gx_okn rfl rfl (gx_okn rfl rfl (gx_okn rfl rfl (gx_okn rfl rfl (gx_okr rfl gx_catv_i gx_ok0))))) ?_
      refine gx_iload C dX1_transitionCoverage_28 0 rfl ?_
      replace hf := gx_ite hf
      rcases hf with ⟨c19, hf⟩ | ⟨c19, hf⟩
      · refine gx_if_le_t (tgt := 36) C dX1_transitionCoverage_30 rfl c19 ?_
        refine gx_sub [1, 2, 3, 4, 5] rfl ?_
        exact w_X1_transitionCoverage_b36 hlt C hx wk16 hf
      · refine gx_if_le_f (tgt := 36) C dX1_transitionCoverage_30 rfl c19 ?_
        refine gx_inc (v := 1) C dX1_transitionCoverage_33 2 rfl rfl (by decide) [1, 3, 4, 5] rfl (gx_okr rfl gx_catv_r (gx_okn rfl rfl (gx_okn rfl rfl (gx_okn rfl rfl gx_ok0)))) ?_
        refine gx_sub [1, 0, 2, 3, 4] rfl ?_
        exact w_X1_transitionCoverage_b36 hlt C hx wk16 hf
def f_X1_transitionCoverage (D : gx_D) (h : HX) (a0 : Nat) : Option UInt32 :=
  (hx_is h a0 [9]).bind fun _ =>
  (hx_gr h a0 [9] 6).bind fun r1 =>
  r1.bind fun a2 =>
  (hx_gr h a2 [11] 1).bind fun r3 =>
  r3.bind fun a4 =>
  (hx_len h a4).bind fun x5 =>
  f_X1_transitionCoverage_b16 D gx_fuel h a0 ((0 : Int32)) (some a4) x5 ((0 : Int32))
theorem is_X1_transitionCoverage {D : gx_D} {h : HX} {a0 : Nat} {z} (hf : f_X1_transitionCoverage D h a0 = some z) : gx_isC h a0 [9] := by
  unfold f_X1_transitionCoverage at hf
  obtain ⟨_, g, -⟩ := gx_bs hf
  exact hx_is_of g
theorem w_X1_transitionCoverage_b {l : Launch} (hlt : l.stackTraces = false) {p : Program} {e : Env} {R : Room} {s : State} {m : MethodId} {args : Array Value} {below : List Frame} {meth : Method} {c : Code} {D : gx_D} {h0 : HX} {r : UInt32} (C : gx_Ctx p R s m args meth c "ContractMachine" cX1_transitionCoverage 6 (some .float) 2 44 D h0 h0) (hx : meth.name = "transitionCoverage") {a0 : Nat} (hf : f_X1_transitionCoverage D h0 a0 = some r) : gx_G p l e R s m args below meth c D h0 h0 6 (gx_MQ below args s D h0 h0 (some (.float r))) 0 [(0, (va_rf (some a0)))] [] h0 := by
  unfold f_X1_transitionCoverage at hf
  replace hf := gx_bs hf
  obtain ⟨_, -, hf⟩ := hf
  refine gx_iconst (v := 0) C dX1_transitionCoverage_0 rfl ?_
  refine gx_istn C dX1_transitionCoverage_1 1 rfl (by decide) [0]  rfl (gx_okr rfl gx_catv_r gx_ok0) ?_
  refine gx_aload_n C dX1_transitionCoverage_2 1 rfl ?_
  replace hf := gx_bs hf
  obtain ⟨r1, g23, hf⟩ := hf
  refine gx_gr C g23 gz_85 q896 dX1_transitionCoverage_3 ?_
  replace hf := gx_bs hf
  obtain ⟨a2, rfl, hf⟩ := hf
  replace hf := gx_bs hf
  obtain ⟨r3, g22, hf⟩ := hf
  refine gx_grN C g22 gz_58 q600 dX1_transitionCoverage_6 ?_
  refine gx_astn C dX1_transitionCoverage_9 2 rfl (by decide) [0, 1]  rfl (gx_okr rfl gx_catv_i (gx_okn rfl rfl gx_ok0)) ?_
  refine gx_aload_n C dX1_transitionCoverage_10 0 rfl ?_
  replace hf := gx_bs hf
  obtain ⟨a4, rfl, hf⟩ := hf
  replace hf := gx_bs hf
  obtain ⟨x5, g21, hf⟩ := hf
  refine gx_alen C g21 dX1_transitionCoverage_11 ?_
  refine gx_istn C dX1_transitionCoverage_12 3 rfl (by decide) [0, 1, 2]  rfl (gx_okr rfl gx_catv_r (gx_okn rfl rfl (gx_okn rfl rfl gx_ok0))) ?_
  refine gx_iconst (v := 0) C dX1_transitionCoverage_13 rfl ?_
  refine gx_ist C dX1_transitionCoverage_14 (by decide) [0, 1, 2, 3]  rfl (gx_okr rfl gx_catv_i (gx_okn rfl rfl (gx_okn rfl rfl (gx_okn rfl rfl gx_ok0)))) ?_
  refine gx_sub [4, 3, 2, 1, 0] rfl ?_
  exact w_X1_transitionCoverage_b16 hlt C hx gx_fuel hf
theorem w_X1_transitionCoverage {l : Launch} (hlt : l.stackTraces = false) {D : gx_D} {h : HX} {a0 : Nat} {r : UInt32} (hf : f_X1_transitionCoverage D h a0 = some r) : gx_Met l yX1_transitionCoverage cX1_transitionCoverage 6 (some .float) 2 44 D [(va_rf (some a0))] h (some (.float r)) h :=
  gx_ofG gz_26 (by simp only [gx_lsr, gx_lsi, gx_lsj, gx_ls0]; decide) gx_le.rf (fun p e R s m args below meth c C hx => by
    simp only [gx_lar, gx_lai, gx_laj, gx_la0, Nat.reduceAdd]
    exact w_X1_transitionCoverage_b hlt C hx hf)
def f_X1_firstUncovered_b2 (D : gx_D) : Nat → HX → Nat → Int32 → Option Int32
  | 0, _, _, _ => none
  | n + 1, h, v0, v1 =>
  (hx_gr h v0 [9] 5).bind fun r1 =>
  r1.bind fun a2 =>
  (hx_gr h a2 [10] 3).bind fun r3 =>
  r3.bind fun a4 =>
  (f_J2_size D h a4).bind fun x6 =>
  if x6 ≤ v1 then
  some ((-1 : Int32))
  else
  (hx_gr h v0 [9] 6).bind fun r8 =>
  r8.bind fun a9 =>
  (hx_gr h a9 [11] 1).bind fun r10 =>
  r10.bind fun a11 =>
  (hx_ai h a11 0 v1).bind fun x12 =>
  if x12 = 0 then
  some v1
  else
  (f_X1_firstUncovered_b2 D n) h v0 ((v1 + (1 : Int32)))
theorem w_X1_firstUncovered_b2 {l : Launch} (hlt : l.stackTraces = false) {p : Program} {e : Env} {R : Room} {s : State} {m : MethodId} {args : Array Value} {below : List Frame} {meth : Method} {c : Code} {D : gx_D} {h0 : HX} {r : Int32} (C : gx_Ctx p R s m args meth c "ContractMachine" cX1_firstUncovered 2 (some .int) 2 44 D h0 h0) (hx : meth.name = "firstUncovered")  : ∀ (n : Nat) ⦃v0 : Nat⦄ ⦃v1 : Int32⦄, f_X1_firstUncovered_b2 D n h0 v0 v1 = some r → gx_G p l e R s m args below meth c D h0 h0 2 (gx_MQ below args s D h0 h0 (some (.int r))) 2 [(0, (va_rf (some v0))), (1, (.int v1))] [] h0 := by
  intro n
  induction n with
  | zero => intro v0 v1 hf; unfold f_X1_firstUncovered_b2 at hf; cases hf
  | succ n wk2 =>
    intro v0 v1 hf
    unfold f_X1_firstUncovered_b2 at hf
    refine gx_iload_n C dX1_firstUncovered_2 1 rfl ?_
    refine gx_aload_n C dX1_firstUncovered_3 0 rfl ?_
    replace hf := gx_bs hf
    obtain ⟨r1, g18, hf⟩ := hf
    refine gx_gr C g18 gz_20 q892 dX1_firstUncovered_4 ?_
    replace hf := gx_bs hf
    obtain ⟨a2, rfl, hf⟩ := hf
    replace hf := gx_bs hf
    obtain ⟨r3, g17, hf⟩ := hf
    refine gx_grN C g17 gz_21 q572 dX1_firstUncovered_7 ?_
    replace hf := gx_bs hf
    obtain ⟨a4, rfl, hf⟩ := hf
    replace hf := gx_bs hf
    obtain ⟨x6, g5, hf⟩ := hf
    refine gx_callF (st := [(.int v1)]) C (w_J2_size hlt g5) (is_J2_size g5) q1481 (gx_cis1 gz_19 ⟨gz_51, q770⟩ gx_cis0) q772 q127 q774 gz_50 (by decide) rfl rfl (gx_catn (Nat.le_of_ble_eq_true rfl)) dX1_firstUncovered_10 ?_
    replace hf := gx_ite hf
    rcases hf with ⟨c7, hf⟩ | ⟨c7, hf⟩
    · refine gx_icmp_ge_t (tgt := 38) C dX1_firstUncovered_15 rfl c7 ?_
      refine gx_iconst (v := -1) C dX1_firstUncovered_38 rfl ?_
      obtain rfl := Option.some.inj hf
      exact gx_iret C dX1_firstUncovered_39
    · refine gx_icmp_ge_f (tgt := 38) C dX1_firstUncovered_15 rfl c7 ?_
      refine gx_aload_n C dX1_firstUncovered_18 0 rfl ?_
      replace hf := gx_bs hf
      obtain ⟨r8, g16, hf⟩ := hf
      refine gx_gr C g16 gz_85 q896 dX1_firstUncovered_19 ?_
      replace hf := gx_bs hf
      obtain ⟨a9, rfl, hf⟩ := hf
      replace hf := gx_bs hf
      obtain ⟨r10, g15, hf⟩ := hf
      refine gx_grN C g15 gz_58 q600 dX1_firstUncovered_22 ?_
      refine gx_iload_n C dX1_firstUncovered_25 1 rfl ?_
      replace hf := gx_bs hf
      obtain ⟨a11, rfl, hf⟩ := hf
      replace hf := gx_bs hf
      obtain ⟨x12, g14, hf⟩ := hf
      refine gx_iald C g14 dX1_firstUncovered_26 ?_
      replace hf := gx_ite hf
      rcases hf with ⟨c13, hf⟩ | ⟨c13, hf⟩
      · refine gx_if_ne_f (tgt := 32) C dX1_firstUncovered_27 rfl c13 ?_
        refine gx_iload_n C dX1_firstUncovered_30 1 rfl ?_
        obtain rfl := Option.some.inj hf
        exact gx_iret C dX1_firstUncovered_31
      · refine gx_if_ne_t (tgt := 32) C dX1_firstUncovered_27 rfl c13 ?_
        refine gx_inc (v := 1) C dX1_firstUncovered_32 1 rfl rfl (by decide) [0] rfl (gx_okr rfl gx_catv_r gx_ok0) ?_
        refine gx_goto (tgt := 2) C dX1_firstUncovered_35 rfl ?_
        refine gx_sub [1, 0] rfl ?_
        exact wk2 hf
def f_X1_firstUncovered (D : gx_D) (h : HX) (a0 : Nat) : Option Int32 :=
  (hx_is h a0 [9]).bind fun _ =>
  f_X1_firstUncovered_b2 D gx_fuel h a0 ((0 : Int32))
theorem is_X1_firstUncovered {D : gx_D} {h : HX} {a0 : Nat} {z} (hf : f_X1_firstUncovered D h a0 = some z) : gx_isC h a0 [9] := by
  unfold f_X1_firstUncovered at hf
  obtain ⟨_, g, -⟩ := gx_bs hf
  exact hx_is_of g
theorem w_X1_firstUncovered_b {l : Launch} (hlt : l.stackTraces = false) {p : Program} {e : Env} {R : Room} {s : State} {m : MethodId} {args : Array Value} {below : List Frame} {meth : Method} {c : Code} {D : gx_D} {h0 : HX} {r : Int32} (C : gx_Ctx p R s m args meth c "ContractMachine" cX1_firstUncovered 2 (some .int) 2 44 D h0 h0) (hx : meth.name = "firstUncovered") {a0 : Nat} (hf : f_X1_firstUncovered D h0 a0 = some r) : gx_G p l e R s m args below meth c D h0 h0 2 (gx_MQ below args s D h0 h0 (some (.int r))) 0 [(0, (va_rf (some a0)))] [] h0 := by
  unfold f_X1_firstUncovered at hf
  replace hf := gx_bs hf
  obtain ⟨_, -, hf⟩ := hf
  refine gx_iconst (v := 0) C dX1_firstUncovered_0 rfl ?_
  refine gx_istn C dX1_firstUncovered_1 1 rfl (by decide) [0]  rfl (gx_okr rfl gx_catv_r gx_ok0) ?_
  refine gx_sub [1, 0] rfl ?_
  exact w_X1_firstUncovered_b2 hlt C hx gx_fuel hf
theorem w_X1_firstUncovered {l : Launch} (hlt : l.stackTraces = false) {D : gx_D} {h : HX} {a0 : Nat} {r : Int32} (hf : f_X1_firstUncovered D h a0 = some r) : gx_Met l yX1_firstUncovered cX1_firstUncovered 2 (some .int) 2 44 D [(va_rf (some a0))] h (some (.int r)) h :=
  gx_ofG gz_26 (by simp only [gx_lsr, gx_lsi, gx_lsj, gx_ls0]; decide) gx_le.rf (fun p e R s m args below meth c C hx => by
    simp only [gx_lar, gx_lai, gx_laj, gx_la0, Nat.reduceAdd]
    exact w_X1_firstUncovered_b hlt C hx hf)
def f_X1_mostVisitedState_b43 (D : gx_D) (k4 : HX → Nat → Int32 → Int32 → Option Int32) (h : HX) (v0 : Nat) (v1 : Int32) (v2 : Int32) : Option Int32 :=
  k4 h v0 v1 ((v2 + (1 : Int32)))
theorem w_X1_mostVisitedState_b43 {l : Launch} (hlt : l.stackTraces = false) {p : Program} {e : Env} {R : Room} {s : State} {m : MethodId} {args : Array Value} {below : List Frame} {meth : Method} {c : Code} {D : gx_D} {h0 : HX} {r : Int32} (C : gx_Ctx p R s m args meth c "ContractMachine" cX1_mostVisitedState 3 (some .int) 2 44 D h0 h0) (hx : meth.name = "mostVisitedState")  {k4 : HX → Nat → Int32 → Int32 → Option Int32} (wk4 : ∀ ⦃v0 : Nat⦄ ⦃v1 : Int32⦄ ⦃v2 : Int32⦄, k4 h0 v0 v1 v2 = some r → gx_G p l e R s m args below meth c D h0 h0 3 (gx_MQ below args s D h0 h0 (some (.int r))) 4 [(0, (va_rf (some v0))), (1, (.int v1)), (2, (.int v2))] [] h0) {v0 : Nat} {v1 : Int32} {v2 : Int32} (hf : f_X1_mostVisitedState_b43 D k4 h0 v0 v1 v2 = some r) : gx_G p l e R s m args below meth c D h0 h0 3 (gx_MQ below args s D h0 h0 (some (.int r))) 43 [(0, (va_rf (some v0))), (1, (.int v1)), (2, (.int v2))] [] h0 := by
  unfold f_X1_mostVisitedState_b43 at hf
  refine gx_inc (v := 1) C dX1_mostVisitedState_43 2 rfl rfl (by decide) [0, 1] rfl (gx_okn rfl rfl (gx_okr rfl gx_catv_i gx_ok0)) ?_
  refine gx_goto (tgt := 4) C dX1_mostVisitedState_46 rfl ?_
  refine gx_sub [1, 2, 0] rfl ?_
  exact wk4 hf
def f_X1_mostVisitedState_b4 (D : gx_D) : Nat → HX → Nat → Int32 → Int32 → Option Int32
  | 0, _, _, _, _ => none
  | n + 1, h, v0, v1, v2 =>
  (hx_gr h v0 [9] 5).bind fun r1 =>
  r1.bind fun a2 =>
  (hx_gr h a2 [10] 0).bind fun r3 =>
  r3.bind fun a4 =>
  (f_J2_size D h a4).bind fun x6 =>
  if x6 ≤ v2 then
  some v1
  else
  (hx_gr h v0 [9] 6).bind fun r8 =>
  r8.bind fun a9 =>
  (hx_gr h a9 [11] 2).bind fun r10 =>
  r10.bind fun a11 =>
  (hx_ai h a11 0 v2).bind fun x12 =>
  (hx_gr h v0 [9] 6).bind fun r13 =>
  r13.bind fun a14 =>
  (hx_gr h a14 [11] 2).bind fun r15 =>
  r15.bind fun a16 =>
  (hx_ai h a16 0 v1).bind fun x17 =>
  if x12 ≤ x17 then
  f_X1_mostVisitedState_b43 D (f_X1_mostVisitedState_b4 D n) h v0 v1 v2
  else
  f_X1_mostVisitedState_b43 D (f_X1_mostVisitedState_b4 D n) h v0 v2 v2
theorem w_X1_mostVisitedState_b4 {l : Launch} (hlt : l.stackTraces = false) {p : Program} {e : Env} {R : Room} {s : State} {m : MethodId} {args : Array Value} {below : List Frame} {meth : Method} {c : Code} {D : gx_D} {h0 : HX} {r : Int32} (C : gx_Ctx p R s m args meth c "ContractMachine" cX1_mostVisitedState 3 (some .int) 2 44 D h0 h0) (hx : meth.name = "mostVisitedState")  : ∀ (n : Nat) ⦃v0 : Nat⦄ ⦃v1 : Int32⦄ ⦃v2 : Int32⦄, f_X1_mostVisitedState_b4 D n h0 v0 v1 v2 = some r → gx_G p l e R s m args below meth c D h0 h0 3 (gx_MQ below args s D h0 h0 (some (.int r))) 4 [(0, (va_rf (some v0))), (1, (.int v1)), (2, (.int v2))] [] h0 := by
  intro n
  induction n with
  | zero => intro v0 v1 v2 hf; unfold f_X1_mostVisitedState_b4 at hf; cases hf
  | succ n wk4 =>
    intro v0 v1 v2 hf
    unfold f_X1_mostVisitedState_b4 at hf
    refine gx_iload_n C dX1_mostVisitedState_4 2 rfl ?_
    refine gx_aload_n C dX1_mostVisitedState_5 0 rfl ?_
    replace hf := gx_bs hf
    obtain ⟨r1, g26, hf⟩ := hf
    refine gx_gr C g26 gz_20 q892 dX1_mostVisitedState_6 ?_
    replace hf := gx_bs hf
    obtain ⟨a2, rfl, hf⟩ := hf
    replace hf := gx_bs hf
    obtain ⟨r3, g25, hf⟩ := hf
    refine gx_grN C g25 gz_28 q560 dX1_mostVisitedState_9 ?_
    replace hf := gx_bs hf
    obtain ⟨a4, rfl, hf⟩ := hf
    replace hf := gx_bs hf
    obtain ⟨x6, g5, hf⟩ := hf
    refine gx_callF (st := [(.int v2)]) C (w_J2_size hlt g5) (is_J2_size g5) q1481 (gx_cis1 gz_19 ⟨gz_51, q770⟩ gx_cis0) q772 q127 q774 gz_50 (by decide) rfl rfl (gx_catn (Nat.le_of_ble_eq_true rfl)) dX1_mostVisitedState_12 ?_
    replace hf := gx_ite hf
    rcases hf with ⟨c7, hf⟩ | ⟨c7, hf⟩
    · refine gx_icmp_ge_t (tgt := 49) C dX1_mostVisitedState_17 rfl c7 ?_
      refine gx_iload_n C dX1_mostVisitedState_49 1 rfl ?_
      obtain rfl := Option.some.inj hf
      exact gx_iret C dX1_mostVisitedState_50
    · refine gx_icmp_ge_f (tgt := 49) C dX1_mostVisitedState_17 rfl c7 ?_
      refine gx_aload_n C dX1_mostVisitedState_20 0 rfl ?_
      replace hf := gx_bs hf
      obtain ⟨r8, g24, hf⟩ := hf
      refine gx_gr C g24 gz_85 q896 dX1_mostVisitedState_21 ?_
      replace hf := gx_bs hf
      obtain ⟨a9, rfl, hf⟩ := hf
      replace hf := gx_bs hf
      obtain ⟨r10, g23, hf⟩ := hf
      refine gx_grN C g23 gz_60 q603 dX1_mostVisitedState_24 ?_
      refine gx_iload_n C dX1_mostVisitedState_27 2 rfl ?_
      replace hf := gx_bs hf
      obtain ⟨a11, rfl, hf⟩ := hf
      replace hf := gx_bs hf
      obtain ⟨x12, g22, hf⟩ := hf
      refine gx_iald C g22 dX1_mostVisitedState_28 ?_
      refine gx_aload_n C dX1_mostVisitedState_29 0 rfl ?_
      replace hf := gx_bs hf
      obtain ⟨r13, g21, hf⟩ := hf
      refine gx_gr C g21 gz_85 q896 dX1_mostVisitedState_30 ?_
      replace hf := gx_bs hf
      obtain ⟨a14, rfl, hf⟩ := hf
      replace hf := gx_bs hf
      obtain ⟨r15, g20, hf⟩ := hf
      refine gx_grN C g20 gz_60 q603 dX1_mostVisitedState_33 ?_
      refine gx_iload_n C dX1_mostVisitedState_36 1 rfl ?_
      replace hf := gx_bs hf
      obtain ⟨a16, rfl, hf⟩ := hf
      replace hf := gx_bs hf
      obtain ⟨x17, g19, hf⟩ := hf
      refine gx_iald C g19 dX1_mostVisitedState_37 ?_
      replace hf := gx_ite hf
      rcases hf with ⟨c18, hf⟩ | ⟨c18, hf⟩
      · refine gx_icmp_le_t (tgt := 43) C dX1_mostVisitedState_38 rfl c18 ?_
        refine gx_sub [0, 1, 2] rfl ?_
        exact w_X1_mostVisitedState_b43 hlt C hx wk4 hf
      · refine gx_icmp_le_f (tgt := 43) C dX1_mostVisitedState_38 rfl c18 ?_
        refine gx_iload_n C dX1_mostVisitedState_41 2 rfl ?_
        refine gx_istn C dX1_mostVisitedState_42 1 rfl (by decide) [0, 2]  rfl (gx_okr rfl gx_catv_r (gx_okn rfl rfl gx_ok0)) ?_
        refine gx_sub [1, 0, 2] rfl ?_
        exact w_X1_mostVisitedState_b43 hlt C hx wk4 hf
def f_X1_mostVisitedState (D : gx_D) (h : HX) (a0 : Nat) : Option Int32 :=
  (hx_is h a0 [9]).bind fun _ =>
  f_X1_mostVisitedState_b4 D gx_fuel h a0 ((0 : Int32)) ((1 : Int32))
theorem is_X1_mostVisitedState {D : gx_D} {h : HX} {a0 : Nat} {z} (hf : f_X1_mostVisitedState D h a0 = some z) : gx_isC h a0 [9] := by
  unfold f_X1_mostVisitedState at hf
  obtain ⟨_, g, -⟩ := gx_bs hf
  exact hx_is_of g
theorem w_X1_mostVisitedState_b {l : Launch} (hlt : l.stackTraces = false) {p : Program} {e : Env} {R : Room} {s : State} {m : MethodId} {args : Array Value} {below : List Frame} {meth : Method} {c : Code} {D : gx_D} {h0 : HX} {r : Int32} (C : gx_Ctx p R s m args meth c "ContractMachine" cX1_mostVisitedState 3 (some .int) 2 44 D h0 h0) (hx : meth.name = "mostVisitedState") {a0 : Nat} (hf : f_X1_mostVisitedState D h0 a0 = some r) : gx_G p l e R s m args below meth c D h0 h0 3 (gx_MQ below args s D h0 h0 (some (.int r))) 0 [(0, (va_rf (some a0)))] [] h0 := by
  unfold f_X1_mostVisitedState at hf
  replace hf := gx_bs hf
  obtain ⟨_, -, hf⟩ := hf
  refine gx_iconst (v := 0) C dX1_mostVisitedState_0 rfl ?_
  refine gx_istn C dX1_mostVisitedState_1 1 rfl (by decide) [0]  rfl (gx_okr rfl gx_catv_r gx_ok0) ?_
  refine gx_iconst (v := 1) C dX1_mostVisitedState_2 rfl ?_
  refine gx_istn C dX1_mostVisitedState_3 2 rfl (by decide) [0, 1]  rfl (gx_okr rfl gx_catv_i (gx_okn rfl rfl gx_ok0)) ?_
  refine gx_sub [2, 1, 0] rfl ?_
  exact w_X1_mostVisitedState_b4 hlt C hx gx_fuel hf
theorem w_X1_mostVisitedState {l : Launch} (hlt : l.stackTraces = false) {D : gx_D} {h : HX} {a0 : Nat} {r : Int32} (hf : f_X1_mostVisitedState D h a0 = some r) : gx_Met l yX1_mostVisitedState cX1_mostVisitedState 3 (some .int) 2 44 D [(va_rf (some a0))] h (some (.int r)) h :=
  gx_ofG gz_26 (by simp only [gx_lsr, gx_lsi, gx_lsj, gx_ls0]; decide) gx_le.rf (fun p e R s m args below meth c C hx => by
    simp only [gx_lar, gx_lai, gx_laj, gx_la0, Nat.reduceAdd]
    exact w_X1_mostVisitedState_b hlt C hx hf)
def f_X1_traceLength (D : gx_D) (h : HX) (a0 : Nat) : Option Int32 :=
  (hx_is h a0 [9]).bind fun _ =>
  (hx_gr h a0 [9] 6).bind fun r1 =>
  r1.bind fun a2 =>
  (hx_gi h a2 [11] 8).bind fun x3 =>
  some x3
theorem is_X1_traceLength {D : gx_D} {h : HX} {a0 : Nat} {z} (hf : f_X1_traceLength D h a0 = some z) : gx_isC h a0 [9] := by
  unfold f_X1_traceLength at hf
  obtain ⟨_, g, -⟩ := gx_bs hf
  exact hx_is_of g
theorem w_X1_traceLength_b {l : Launch} (hlt : l.stackTraces = false) {p : Program} {e : Env} {R : Room} {s : State} {m : MethodId} {args : Array Value} {below : List Frame} {meth : Method} {c : Code} {D : gx_D} {h0 : HX} {r : Int32} (C : gx_Ctx p R s m args meth c "ContractMachine" cX1_traceLength 1 (some .int) 1 24 D h0 h0) (hx : meth.name = "traceLength") {a0 : Nat} (hf : f_X1_traceLength D h0 a0 = some r) : gx_G p l e R s m args below meth c D h0 h0 1 (gx_MQ below args s D h0 h0 (some (.int r))) 0 [(0, (va_rf (some a0)))] [] h0 := by
  unfold f_X1_traceLength at hf
  replace hf := gx_bs hf
  obtain ⟨_, -, hf⟩ := hf
  refine gx_aload_n C dX1_traceLength_0 0 rfl ?_
  replace hf := gx_bs hf
  obtain ⟨r1, g5, hf⟩ := hf
  refine gx_gr C g5 gz_85 q896 dX1_traceLength_1 ?_
  replace hf := gx_bs hf
  obtain ⟨a2, rfl, hf⟩ := hf
  replace hf := gx_bs hf
  obtain ⟨x3, g4, hf⟩ := hf
  refine gx_giN C g4 gz_67 q620 dX1_traceLength_4 ?_
  obtain rfl := Option.some.inj hf
  exact gx_iret C dX1_traceLength_7
theorem w_X1_traceLength {l : Launch} (hlt : l.stackTraces = false) {D : gx_D} {h : HX} {a0 : Nat} {r : Int32} (hf : f_X1_traceLength D h a0 = some r) : gx_Met l yX1_traceLength cX1_traceLength 1 (some .int) 1 24 D [(va_rf (some a0))] h (some (.int r)) h :=
  gx_ofG gz_26 (by simp only [gx_lsr, gx_lsi, gx_lsj, gx_ls0]; decide) gx_le.rf (fun p e R s m args below meth c C hx => by
    simp only [gx_lar, gx_lai, gx_laj, gx_la0, Nat.reduceAdd]
    exact w_X1_traceLength_b hlt C hx hf)
def f_X1_traceEvent (D : gx_D) (h : HX) (a0 : Nat) (p1 : Int32) : Option Int32 :=
  (hx_is h a0 [9]).bind fun _ =>
  (hx_gr h a0 [9] 6).bind fun r1 =>
  r1.bind fun a2 =>
  (hx_gi h a2 [11] 8).bind fun x3 =>
  (f_X1_isWithin D h (Int32.toInt64 p1) (0 : Int64) (Int32.toInt64 (x3 - (1 : Int32)))).bind fun b5 =>
  if b5 = true then
  (hx_gr h a0 [9] 6).bind fun r7 =>
  r7.bind fun a8 =>
  (hx_gr h a8 [11] 4).bind fun r9 =>
  r9.bind fun a10 =>
  (hx_ai h a10 0 p1).bind fun x11 =>
  some x11
  else
  some ((-1 : Int32))
theorem is_X1_traceEvent {D : gx_D} {h : HX} {a0 : Nat} {p1 : Int32} {z} (hf : f_X1_traceEvent D h a0 p1 = some z) : gx_isC h a0 [9] := by
  unfold f_X1_traceEvent at hf
  obtain ⟨_, g, -⟩ := gx_bs hf
  exact hx_is_of g
theorem w_X1_traceEvent_b {l : Launch} (hlt : l.stackTraces = false) {p : Program} {e : Env} {R : Room} {s : State} {m : MethodId} {args : Array Value} {below : List Frame} {meth : Method} {c : Code} {D : gx_D} {h0 : HX} {r : Int32} (C : gx_Ctx p R s m args meth c "ContractMachine" cX1_traceEvent 2 (some .int) 2 49 D h0 h0) (hx : meth.name = "traceEvent") {a0 : Nat} {p1 : Int32} (hf : f_X1_traceEvent D h0 a0 p1 = some r) : gx_G p l e R s m args below meth c D h0 h0 2 (gx_MQ below args s D h0 h0 (some (.int r))) 0 [(0, (va_rf (some a0))), (1, (.int p1))] [] h0 := by
  unfold f_X1_traceEvent at hf
  replace hf := gx_bs hf
  obtain ⟨_, -, hf⟩ := hf
  refine gx_iload_n C dX1_traceEvent_0 1 rfl ?_
  refine gx_i2l C dX1_traceEvent_1 ?_
  refine gx_lconst (v := 0) C dX1_traceEvent_2 rfl ?_
  refine gx_aload_n C dX1_traceEvent_3 0 rfl ?_
  replace hf := gx_bs hf
  obtain ⟨r1, g16, hf⟩ := hf
  refine gx_gr C g16 gz_85 q896 dX1_traceEvent_4 ?_
  replace hf := gx_bs hf
  obtain ⟨a2, rfl, hf⟩ := hf
  replace hf := gx_bs hf
  obtain ⟨x3, g15, hf⟩ := hf
  refine gx_giN C g15 gz_67 q620 dX1_traceEvent_7 ?_
  refine gx_iconst (v := 1) C dX1_traceEvent_10 rfl ?_
  refine gx_isub C dX1_traceEvent_11 ?_
  refine gx_i2l C dX1_traceEvent_12 ?_
  replace hf := gx_bs hf
  obtain ⟨b5, g4, hf⟩ := hf
  refine gx_callS (st := []) C (w_X1_isWithin hlt g4) (lw_S q953 q954 q121 q955) gz_121 (by decide) rfl rfl (gx_catn (Nat.le_of_ble_eq_true rfl)) dX1_traceEvent_13 ?_
  replace hf := gx_ite hf
  rcases hf with ⟨c6, hf⟩ | ⟨c6, hf⟩
  · refine gx_ifz_eq_f (tgt := 31) C dX1_traceEvent_16 rfl c6 ?_
    refine gx_aload_n C dX1_traceEvent_19 0 rfl ?_
    replace hf := gx_bs hf
    obtain ⟨r7, g14, hf⟩ := hf
    refine gx_gr C g14 gz_85 q896 dX1_traceEvent_20 ?_
    replace hf := gx_bs hf
    obtain ⟨a8, rfl, hf⟩ := hf
    replace hf := gx_bs hf
    obtain ⟨r9, g13, hf⟩ := hf
    refine gx_grN C g13 gz_62 q608 dX1_traceEvent_23 ?_
    refine gx_iload_n C dX1_traceEvent_26 1 rfl ?_
    replace hf := gx_bs hf
    obtain ⟨a10, rfl, hf⟩ := hf
    replace hf := gx_bs hf
    obtain ⟨x11, g12, hf⟩ := hf
    refine gx_iald C g12 dX1_traceEvent_27 ?_
    refine gx_goto (tgt := 32) C dX1_traceEvent_28 rfl ?_
    obtain rfl := Option.some.inj hf
    exact gx_iret C dX1_traceEvent_32
  · refine gx_ifz_eq_t (tgt := 31) C dX1_traceEvent_16 rfl c6 ?_
    refine gx_iconst (v := -1) C dX1_traceEvent_31 rfl ?_
    obtain rfl := Option.some.inj hf
    exact gx_iret C dX1_traceEvent_32
theorem w_X1_traceEvent {l : Launch} (hlt : l.stackTraces = false) {D : gx_D} {h : HX} {a0 : Nat} {p1 : Int32} {r : Int32} (hf : f_X1_traceEvent D h a0 p1 = some r) : gx_Met l yX1_traceEvent cX1_traceEvent 2 (some .int) 2 49 D [(va_rf (some a0)), (.int p1)] h (some (.int r)) h :=
  gx_ofG gz_26 (by simp only [gx_lsr, gx_lsi, gx_lsj, gx_ls0]; decide) gx_le.rf (fun p e R s m args below meth c C hx => by
    simp only [gx_lar, gx_lai, gx_laj, gx_la0, Nat.reduceAdd]
    exact w_X1_traceEvent_b hlt C hx hf)
def f_X1_traceTransition (D : gx_D) (h : HX) (a0 : Nat) (p1 : Int32) : Option Int32 :=
  (hx_is h a0 [9]).bind fun _ =>
  (hx_gr h a0 [9] 6).bind fun r1 =>
  r1.bind fun a2 =>
  (hx_gi h a2 [11] 8).bind fun x3 =>
  (f_X1_isWithin D h (Int32.toInt64 p1) (0 : Int64) (Int32.toInt64 (x3 - (1 : Int32)))).bind fun b5 =>
  if b5 = true then
  (hx_gr h a0 [9] 6).bind fun r7 =>
  r7.bind fun a8 =>
  (hx_gr h a8 [11] 5).bind fun r9 =>
  r9.bind fun a10 =>
  (hx_ai h a10 0 p1).bind fun x11 =>
  some x11
  else
  some ((-1 : Int32))
theorem is_X1_traceTransition {D : gx_D} {h : HX} {a0 : Nat} {p1 : Int32} {z} (hf : f_X1_traceTransition D h a0 p1 = some z) : gx_isC h a0 [9] := by
  unfold f_X1_traceTransition at hf
  obtain ⟨_, g, -⟩ := gx_bs hf
  exact hx_is_of g
theorem w_X1_traceTransition_b {l : Launch} (hlt : l.stackTraces = false) {p : Program} {e : Env} {R : Room} {s : State} {m : MethodId} {args : Array Value} {below : List Frame} {meth : Method} {c : Code} {D : gx_D} {h0 : HX} {r : Int32} (C : gx_Ctx p R s m args meth c "ContractMachine" cX1_traceTransition 2 (some .int) 2 49 D h0 h0) (hx : meth.name = "traceTransition") {a0 : Nat} {p1 : Int32} (hf : f_X1_traceTransition D h0 a0 p1 = some r) : gx_G p l e R s m args below meth c D h0 h0 2 (gx_MQ below args s D h0 h0 (some (.int r))) 0 [(0, (va_rf (some a0))), (1, (.int p1))] [] h0 := by
  unfold f_X1_traceTransition at hf
  replace hf := gx_bs hf
  obtain ⟨_, -, hf⟩ := hf
  refine gx_iload_n C dX1_traceTransition_0 1 rfl ?_
  refine gx_i2l C dX1_traceTransition_1 ?_
  refine gx_lconst (v := 0) C dX1_traceTransition_2 rfl ?_
  refine gx_aload_n C dX1_traceTransition_3 0 rfl ?_
  replace hf := gx_bs hf
  obtain ⟨r1, g16, hf⟩ := hf
  refine gx_gr C g16 gz_85 q896 dX1_traceTransition_4 ?_
  replace hf := gx_bs hf
  obtain ⟨a2, rfl, hf⟩ := hf
  replace hf := gx_bs hf
  obtain ⟨x3, g15, hf⟩ := hf
  refine gx_giN C g15 gz_67 q620 dX1_traceTransition_7 ?_
  refine gx_iconst (v := 1) C dX1_traceTransition_10 rfl ?_
  refine gx_isub C dX1_traceTransition_11 ?_
  refine gx_i2l C dX1_traceTransition_12 ?_
  replace hf := gx_bs hf
  obtain ⟨b5, g4, hf⟩ := hf
  refine gx_callS (st := []) C (w_X1_isWithin hlt g4) (lw_S q953 q954 q121 q955) gz_121 (by decide) rfl rfl (gx_catn (Nat.le_of_ble_eq_true rfl)) dX1_traceTransition_13 ?_
  replace hf := gx_ite hf
  rcases hf with ⟨c6, hf⟩ | ⟨c6, hf⟩
  · refine gx_ifz_eq_f (tgt := 31) C dX1_traceTransition_16 rfl c6 ?_
    refine gx_aload_n C dX1_traceTransition_19 0 rfl ?_
    replace hf := gx_bs hf
    obtain ⟨r7, g14, hf⟩ := hf
    refine gx_gr C g14 gz_85 q896 dX1_traceTransition_20 ?_
    replace hf := gx_bs hf
    obtain ⟨a8, rfl, hf⟩ := hf
    replace hf := gx_bs hf
    obtain ⟨r9, g13, hf⟩ := hf
    refine gx_grN C g13 gz_63 q610 dX1_traceTransition_23 ?_
    refine gx_iload_n C dX1_traceTransition_26 1 rfl ?_
    replace hf := gx_bs hf
    obtain ⟨a10, rfl, hf⟩ := hf
    replace hf := gx_bs hf
    obtain ⟨x11, g12, hf⟩ := hf
    refine gx_iald C g12 dX1_traceTransition_27 ?_
    refine gx_goto (tgt := 32) C dX1_traceTransition_28 rfl ?_
    obtain rfl := Option.some.inj hf
    exact gx_iret C dX1_traceTransition_32
  · refine gx_ifz_eq_t (tgt := 31) C dX1_traceTransition_16 rfl c6 ?_
    refine gx_iconst (v := -1) C dX1_traceTransition_31 rfl ?_
    obtain rfl := Option.some.inj hf
    exact gx_iret C dX1_traceTransition_32
theorem w_X1_traceTransition {l : Launch} (hlt : l.stackTraces = false) {D : gx_D} {h : HX} {a0 : Nat} {p1 : Int32} {r : Int32} (hf : f_X1_traceTransition D h a0 p1 = some r) : gx_Met l yX1_traceTransition cX1_traceTransition 2 (some .int) 2 49 D [(va_rf (some a0)), (.int p1)] h (some (.int r)) h :=
  gx_ofG gz_26 (by simp only [gx_lsr, gx_lsi, gx_lsj, gx_ls0]; decide) gx_le.rf (fun p e R s m args below meth c C hx => by
    simp only [gx_lar, gx_lai, gx_laj, gx_la0, Nat.reduceAdd]
    exact w_X1_traceTransition_b hlt C hx hf)
def f_X22_init (D : gx_D) (h : HX) (a0 : Nat) (p1 : Option Nat) : Option HX :=
  (hx_pr h a0 [26] 0 p1).bind fun h1 =>
  some h1
theorem w_X22_init_b {l : Launch} (hlt : l.stackTraces = false) {p : Program} {e : Env} {R : Room} {s : State} {m : MethodId} {args : Array Value} {below : List Frame} {meth : Method} {c : Code} {D : gx_D} {h0 : HX} {hz : HX} (C : gx_Ctx p R s m args meth c "ContractMachine$2" cX22_init 2 none 1 24 D h0 hz) (hx : meth.name = "<init>") {a0 : Nat} {p1 : Option Nat} (hf : f_X22_init D h0 a0 p1 = some hz) : gx_G p l e R s m args below meth c D h0 hz 2 (gx_MQ below args s D h0 hz none) 0 [(0, (va_rf (some a0))), (1, (va_rf p1))] [] h0 := by
  unfold f_X22_init at hf
  refine gx_aload_n C dX22_init_0 0 rfl ?_
  refine gx_aload_n C dX22_init_1 1 rfl ?_
  replace hf := gx_bs hf
  obtain ⟨h1, g2, hf⟩ := hf
  refine gx_putvF C hx g2 gz_383 gz_186 (gx_narrow_r rfl _).1 (gx_narrow_r rfl _).2 q2020 dX22_init_2 ?_
  refine gx_aload_n C dX22_init_5 0 rfl ?_
  refine gx_objInit (st := []) C q2019 q188 q189 (by decide) (by decide) dX22_init_6 ?_
  obtain rfl := Option.some.inj hf
  exact gx_vret C dX22_init_9
theorem le_X22_init {D : gx_D} {hz : HX} {h : HX} {a0 : Nat} {p1 : Option Nat} (hf : f_X22_init D h a0 p1 = some hz) : gx_le h hz := by
  unfold f_X22_init at hf
  replace hf := gx_bs hf
  obtain ⟨h1, g2, hf⟩ := hf
  refine (hx_le_pv g2).tr ?_
  obtain rfl := Option.some.inj hf
  exact gx_le.rf
theorem w_X22_init {l : Launch} (hlt : l.stackTraces = false) {D : gx_D} {h : HX} {a0 : Nat} {p1 : Option Nat} {hz : HX} (hf : f_X22_init D h a0 p1 = some hz) : gx_Met l yX22_init cX22_init 2 none 1 24 D [(va_rf (some a0)), (va_rf p1)] h none hz :=
  gx_ofG gz_384 (by simp only [gx_lsr, gx_lsi, gx_lsj, gx_ls0]; decide) (le_X22_init hf) (fun p e R s m args below meth c C hx => by
    simp only [gx_lar, gx_lai, gx_laj, gx_la0, Nat.reduceAdd]
    exact w_X22_init_b hlt C hx hf)
def f_X21_init_b11 (D : gx_D) : Nat → HX → Option Nat → Int32 → Option HX
  | 0, _, _, _ => none
  | n + 1, h, v1, v2 =>
  if (10000 : Int32) ≤ v2 then
  some h
  else
  v1.bind fun a3 =>
  (hx_gr h a3 [9] 9).bind fun r4 =>
  r4.bind fun a5 =>
  (hx_si h a5 v2 (-1 : Int32)).bind fun h6 =>
  (f_X21_init_b11 D n) h6 (some a3) ((v2 + (1 : Int32)))
theorem w_X21_init_b11 {l : Launch} (hlt : l.stackTraces = false) {p : Program} {e : Env} {R : Room} {s : State} {m : MethodId} {args : Array Value} {below : List Frame} {meth : Method} {c : Code} {D : gx_D} {h0 : HX} {hz : HX} (C : gx_Ctx p R s m args meth c "ContractMachine$Search" cX21_init 3 none 1 24 D h0 hz) (hx : meth.name = "<init>")  : ∀ (n : Nat) ⦃h : HX⦄ ⦃v1 : Option Nat⦄ ⦃v2 : Int32⦄, f_X21_init_b11 D n h v1 v2 = some hz → gx_G p l e R s m args below meth c D h0 hz 3 (gx_MQ below args s D h0 hz none) 11 [(1, (va_rf v1)), (2, (.int v2))] [] h := by
  intro n
  induction n with
  | zero => intro h v1 v2 hf; unfold f_X21_init_b11 at hf; cases hf
  | succ n wk11 =>
    intro h v1 v2 hf
    unfold f_X21_init_b11 at hf
    refine gx_iload_n C dX21_init_11 1 rfl ?_
    refine gx_sipush (v := 10000) C dX21_init_12 rfl ?_
    replace hf := gx_ite hf
    rcases hf with ⟨c2, hf⟩ | ⟨c2, hf⟩
    · refine gx_icmp_ge_t (tgt := 31) C dX21_init_15 rfl c2 ?_
      obtain rfl := Option.some.inj hf
      exact gx_vret C dX21_init_31
    · refine gx_icmp_ge_f (tgt := 31) C dX21_init_15 rfl c2 ?_
      refine gx_aload_n C dX21_init_18 0 rfl ?_
      replace hf := gx_bs hf
      obtain ⟨a3, rfl, hf⟩ := hf
      replace hf := gx_bs hf
      obtain ⟨r4, g8, hf⟩ := hf
      refine gx_grN C g8 gz_90 q899 dX21_init_19 ?_
      refine gx_iload_n C dX21_init_22 1 rfl ?_
      refine gx_iconst (v := -1) C dX21_init_23 rfl ?_
      replace hf := gx_bs hf
      obtain ⟨a5, rfl, hf⟩ := hf
      replace hf := gx_bs hf
      obtain ⟨h6, g7, hf⟩ := hf
      refine gx_iast C g7 dX21_init_24 ?_
      refine gx_inc (v := 1) C dX21_init_25 1 rfl rfl (by decide) [0] rfl (gx_okr rfl gx_catv_r gx_ok0) ?_
      refine gx_goto (tgt := 11) C dX21_init_28 rfl ?_
      refine gx_sub [1, 0] rfl ?_
      exact wk11 hf
theorem le_X21_init_b11 {D : gx_D} {hz : HX} : ∀ (n : Nat) ⦃h : HX⦄ ⦃v1 : Option Nat⦄ ⦃v2 : Int32⦄, f_X21_init_b11 D n h v1 v2 = some hz → gx_le h hz := by
  intro n
  induction n with
  | zero => intro h v1 v2 hf; unfold f_X21_init_b11 at hf; cases hf
  | succ n lek11 =>
    intro h v1 v2 hf
    unfold f_X21_init_b11 at hf
    replace hf := gx_ite hf
    rcases hf with ⟨c2, hf⟩ | ⟨c2, hf⟩
    · obtain rfl := Option.some.inj hf
      exact gx_le.rf
    · replace hf := gx_bs hf
      obtain ⟨a3, rfl, hf⟩ := hf
      replace hf := gx_bs hf
      obtain ⟨r4, g8, hf⟩ := hf
      replace hf := gx_bs hf
      obtain ⟨a5, rfl, hf⟩ := hf
      replace hf := gx_bs hf
      obtain ⟨h6, g7, hf⟩ := hf
      refine (hx_le_si g7).tr ?_
      exact lek11 hf
def f_X21_init (D : gx_D) (h : HX) (a0 : Nat) (p1 : Option Nat) : Option HX :=
  (hx_pr h a0 [25] 2 p1).bind fun h1 =>
  f_X21_init_b11 D gx_fuel h1 p1 ((0 : Int32))
theorem w_X21_init_b {l : Launch} (hlt : l.stackTraces = false) {p : Program} {e : Env} {R : Room} {s : State} {m : MethodId} {args : Array Value} {below : List Frame} {meth : Method} {c : Code} {D : gx_D} {h0 : HX} {hz : HX} (C : gx_Ctx p R s m args meth c "ContractMachine$Search" cX21_init 3 none 1 24 D h0 hz) (hx : meth.name = "<init>") {a0 : Nat} {p1 : Option Nat} (hf : f_X21_init D h0 a0 p1 = some hz) : gx_G p l e R s m args below meth c D h0 hz 3 (gx_MQ below args s D h0 hz none) 0 [(0, (va_rf (some a0))), (1, (va_rf p1))] [] h0 := by
  unfold f_X21_init at hf
  refine gx_aload_n C dX21_init_0 0 rfl ?_
  refine gx_aload_n C dX21_init_1 1 rfl ?_
  replace hf := gx_bs hf
  obtain ⟨h1, g9, hf⟩ := hf
  refine gx_putvF C hx g9 gz_385 gz_186 (gx_narrow_r rfl _).1 (gx_narrow_r rfl _).2 q2006 dX21_init_2 ?_
  refine gx_aload_n C dX21_init_5 0 rfl ?_
  refine gx_objInit (st := []) C q2003 q188 q189 (by decide) (by decide) dX21_init_6 ?_
  refine gx_iconst (v := 0) C dX21_init_9 rfl ?_
  refine gx_istn C dX21_init_10 2 rfl (by decide) [1]  rfl (gx_okr rfl gx_catv_r gx_ok0) ?_
  refine gx_sub [1, 0] rfl ?_
  exact w_X21_init_b11 hlt C hx gx_fuel hf
theorem le_X21_init {D : gx_D} {hz : HX} {h : HX} {a0 : Nat} {p1 : Option Nat} (hf : f_X21_init D h a0 p1 = some hz) : gx_le h hz := by
  unfold f_X21_init at hf
  replace hf := gx_bs hf
  obtain ⟨h1, g9, hf⟩ := hf
  refine (hx_le_pv g9).tr ?_
  exact le_X21_init_b11 gx_fuel hf
theorem w_X21_init {l : Launch} (hlt : l.stackTraces = false) {D : gx_D} {h : HX} {a0 : Nat} {p1 : Option Nat} {hz : HX} (hf : f_X21_init D h a0 p1 = some hz) : gx_Met l yX21_init cX21_init 3 none 1 24 D [(va_rf (some a0)), (va_rf p1)] h none hz :=
  gx_ofG gz_386 (by simp only [gx_lsr, gx_lsi, gx_lsj, gx_ls0]; decide) (le_X21_init hf) (fun p e R s m args below meth c C hx => by
    simp only [gx_lar, gx_lai, gx_laj, gx_la0, Nat.reduceAdd]
    exact w_X21_init_b hlt C hx hf)
def f_X22_visit (D : gx_D) (h : HX) (a0 : Nat) (p1 : Int32) : Option Unit :=
  (hx_is h a0 [26]).bind fun _ =>
  some ()
theorem is_X22_visit {D : gx_D} {h : HX} {a0 : Nat} {p1 : Int32} {z} (hf : f_X22_visit D h a0 p1 = some z) : gx_isC h a0 [26] := by
  unfold f_X22_visit at hf
  obtain ⟨_, g, -⟩ := gx_bs hf
  exact hx_is_of g
theorem w_X22_visit_b {l : Launch} (hlt : l.stackTraces = false) {p : Program} {e : Env} {R : Room} {s : State} {m : MethodId} {args : Array Value} {below : List Frame} {meth : Method} {c : Code} {D : gx_D} {h0 : HX} {r : Unit} (C : gx_Ctx p R s m args meth c "ContractMachine$2" cX22_visit 2 none 1 24 D h0 h0) (hx : meth.name = "visit") {a0 : Nat} {p1 : Int32} (hf : f_X22_visit D h0 a0 p1 = some r) : gx_G p l e R s m args below meth c D h0 h0 2 (gx_MQ below args s D h0 h0 none) 0 [(0, (va_rf (some a0))), (1, (.int p1))] [] h0 := by
  unfold f_X22_visit at hf
  replace hf := gx_bs hf
  obtain ⟨_, -, hf⟩ := hf
  obtain rfl := Option.some.inj hf
  exact gx_vret C dX22_visit_0
theorem w_X22_visit {l : Launch} (hlt : l.stackTraces = false) {D : gx_D} {h : HX} {a0 : Nat} {p1 : Int32} {r : Unit} (hf : f_X22_visit D h a0 p1 = some r) : gx_Met l yX22_visit cX22_visit 2 none 1 24 D [(va_rf (some a0)), (.int p1)] h none h :=
  gx_ofG gz_384 (by simp only [gx_lsr, gx_lsi, gx_lsj, gx_ls0]; decide) gx_le.rf (fun p e R s m args below meth c C hx => by
    simp only [gx_lar, gx_lai, gx_laj, gx_la0, Nat.reduceAdd]
    exact w_X22_visit_b hlt C hx hf)
def f_X26_visit (D : gx_D) (h : HX) (a0 : Nat) (p1 : Int32) : Option HX :=
  (hx_is h a0 [29]).bind fun _ =>
  (hx_gr h a0 [29] 0).bind fun r1 =>
  r1.bind fun a2 =>
  (f_X1_isDeadlock D h a2 p1).bind fun b4 =>
  if b4 = true then
  (hx_gr h a0 [29] 0).bind fun r6 =>
  r6.bind fun a7 =>
  (hx_gi h a7 [9] 13).bind fun x8 =>
  (hx_pi h a7 [9] 13 (x8 + (1 : Int32))).bind fun h9 =>
  some h9
  else
  some h
theorem is_X26_visit {D : gx_D} {h : HX} {a0 : Nat} {p1 : Int32} {z} (hf : f_X26_visit D h a0 p1 = some z) : gx_isC h a0 [29] := by
  unfold f_X26_visit at hf
  obtain ⟨_, g, -⟩ := gx_bs hf
  exact hx_is_of g
theorem w_X26_visit_b {l : Launch} (hlt : l.stackTraces = false) {p : Program} {e : Env} {R : Room} {s : State} {m : MethodId} {args : Array Value} {below : List Frame} {meth : Method} {c : Code} {D : gx_D} {h0 : HX} {hz : HX} (C : gx_Ctx p R s m args meth c "ContractMachine$4" cX26_visit 2 none 8 178 D h0 hz) (hx : meth.name = "visit") {a0 : Nat} {p1 : Int32} (hf : f_X26_visit D h0 a0 p1 = some hz) : gx_G p l e R s m args below meth c D h0 hz 2 (gx_MQ below args s D h0 hz none) 0 [(0, (va_rf (some a0))), (1, (.int p1))] [] h0 := by
  unfold f_X26_visit at hf
  replace hf := gx_bs hf
  obtain ⟨_, -, hf⟩ := hf
  refine gx_aload_n C dX26_visit_0 0 rfl ?_
  replace hf := gx_bs hf
  obtain ⟨r1, g13, hf⟩ := hf
  refine gx_gr C g13 gz_387 q2111 dX26_visit_1 ?_
  refine gx_iload_n C dX26_visit_4 1 rfl ?_
  replace hf := gx_bs hf
  obtain ⟨a2, rfl, hf⟩ := hf
  replace hf := gx_bs hf
  obtain ⟨b4, g3, hf⟩ := hf
  refine gx_callVN (st := []) C (w_X1_isDeadlock hlt g3) (is_X1_isDeadlock g3) gz_108 q2091 q1952 qs40 q121 q1953 gz_381 (by decide) rfl rfl (gx_catn (Nat.le_of_ble_eq_true rfl)) dX26_visit_5 ?_
  replace hf := gx_ite hf
  rcases hf with ⟨c5, hf⟩ | ⟨c5, hf⟩
  · refine gx_ifz_eq_f (tgt := 24) C dX26_visit_8 rfl c5 ?_
    refine gx_aload_n C dX26_visit_11 0 rfl ?_
    replace hf := gx_bs hf
    obtain ⟨r6, g12, hf⟩ := hf
    refine gx_gr C g12 gz_387 q2111 dX26_visit_12 ?_
    refine gx_dup C dX26_visit_15 (gx_rfcat _) ?_
    replace hf := gx_bs hf
    obtain ⟨a7, rfl, hf⟩ := hf
    replace hf := gx_bs hf
    obtain ⟨x8, g11, hf⟩ := hf
    refine gx_giN C g11 gz_388 q907 dX26_visit_16 ?_
    refine gx_iconst (v := 1) C dX26_visit_19 rfl ?_
    refine gx_iadd C dX26_visit_20 ?_
    replace hf := gx_bs hf
    obtain ⟨h9, g10, hf⟩ := hf
    refine gx_putvN C g10 gz_388 gz_1 rfl rfl q907 dX26_visit_21 ?_
    obtain rfl := Option.some.inj hf
    exact gx_vret C dX26_visit_24
  · refine gx_ifz_eq_t (tgt := 24) C dX26_visit_8 rfl c5 ?_
    obtain rfl := Option.some.inj hf
    exact gx_vret C dX26_visit_24
theorem le_X26_visit {D : gx_D} {hz : HX} {h : HX} {a0 : Nat} {p1 : Int32} (hf : f_X26_visit D h a0 p1 = some hz) : gx_le h hz := by
  unfold f_X26_visit at hf
  replace hf := gx_bs hf
  obtain ⟨_, -, hf⟩ := hf
  replace hf := gx_bs hf
  obtain ⟨r1, g13, hf⟩ := hf
  replace hf := gx_bs hf
  obtain ⟨a2, rfl, hf⟩ := hf
  replace hf := gx_bs hf
  obtain ⟨b4, g3, hf⟩ := hf
  replace hf := gx_ite hf
  rcases hf with ⟨c5, hf⟩ | ⟨c5, hf⟩
  · replace hf := gx_bs hf
    obtain ⟨r6, g12, hf⟩ := hf
    replace hf := gx_bs hf
    obtain ⟨a7, rfl, hf⟩ := hf
    replace hf := gx_bs hf
    obtain ⟨x8, g11, hf⟩ := hf
    replace hf := gx_bs hf
    obtain ⟨h9, g10, hf⟩ := hf
    refine (hx_le_pv g10).tr ?_
    obtain rfl := Option.some.inj hf
    exact gx_le.rf
  · obtain rfl := Option.some.inj hf
    exact gx_le.rf
theorem w_X26_visit {l : Launch} (hlt : l.stackTraces = false) {D : gx_D} {h : HX} {a0 : Nat} {p1 : Int32} {hz : HX} (hf : f_X26_visit D h a0 p1 = some hz) : gx_Met l yX26_visit cX26_visit 2 none 8 178 D [(va_rf (some a0)), (.int p1)] h none hz :=
  gx_ofG gz_389 (by simp only [gx_lsr, gx_lsi, gx_lsj, gx_ls0]; decide) (le_X26_visit hf) (fun p e R s m args below meth c C hx => by
    simp only [gx_lar, gx_lai, gx_laj, gx_la0, Nat.reduceAdd]
    exact w_X26_visit_b hlt C hx hf)
def f_X23_isDone (D : gx_D) (h : HX) (a0 : Nat) : Option Bool :=
  (hx_is h a0 [27, 28, 30]).bind fun _ =>
  (hx_gr h a0 [27, 28, 30] 0).bind fun r1 =>
  r1.bind fun a2 =>
  (hx_gi h a2 [9] 12).bind fun x3 =>
  if x3 = (-1 : Int32) then
  some false
  else
  some true
theorem is_X23_isDone {D : gx_D} {h : HX} {a0 : Nat} {z} (hf : f_X23_isDone D h a0 = some z) : gx_isC h a0 [27, 28, 30] := by
  unfold f_X23_isDone at hf
  obtain ⟨_, g, -⟩ := gx_bs hf
  exact hx_is_of g
theorem w_X23_isDone_b {l : Launch} (hlt : l.stackTraces = false) {p : Program} {e : Env} {R : Room} {s : State} {m : MethodId} {args : Array Value} {below : List Frame} {meth : Method} {c : Code} {D : gx_D} {h0 : HX} {r : Bool} (C : gx_Ctx p R s m args meth c "ContractMachine$Finder" cX23_isDone 1 (some .boolean) 1 24 D h0 h0) (hx : meth.name = "isDone") {a0 : Nat} (hf : f_X23_isDone D h0 a0 = some r) : gx_G p l e R s m args below meth c D h0 h0 1 (gx_MQ below args s D h0 h0 (some (.int (b2i r)))) 0 [(0, (va_rf (some a0)))] [] h0 := by
  unfold f_X23_isDone at hf
  replace hf := gx_bs hf
  obtain ⟨_, -, hf⟩ := hf
  refine gx_aload_n C dX23_isDone_0 0 rfl ?_
  replace hf := gx_bs hf
  obtain ⟨r1, g6, hf⟩ := hf
  refine gx_gr C g6 gz_390 q2129 dX23_isDone_1 ?_
  replace hf := gx_bs hf
  obtain ⟨a2, rfl, hf⟩ := hf
  replace hf := gx_bs hf
  obtain ⟨x3, g5, hf⟩ := hf
  refine gx_giN C g5 gz_391 q905 dX23_isDone_4 ?_
  refine gx_iconst (v := -1) C dX23_isDone_7 rfl ?_
  replace hf := gx_ite hf
  rcases hf with ⟨c4, hf⟩ | ⟨c4, hf⟩
  · refine gx_icmp_eq_t (tgt := 15) C dX23_isDone_8 rfl c4 ?_
    refine gx_iconst (v := 0) C dX23_isDone_15 rfl ?_
    obtain rfl := Option.some.inj hf
    exact gx_zret (b := false) C dX23_isDone_16
  · refine gx_icmp_eq_f (tgt := 15) C dX23_isDone_8 rfl c4 ?_
    refine gx_iconst (v := 1) C dX23_isDone_11 rfl ?_
    refine gx_goto (tgt := 16) C dX23_isDone_12 rfl ?_
    obtain rfl := Option.some.inj hf
    exact gx_zret (b := true) C dX23_isDone_16
theorem w_X23_isDone {l : Launch} (hlt : l.stackTraces = false) {D : gx_D} {h : HX} {a0 : Nat} {r : Bool} (hf : f_X23_isDone D h a0 = some r) : gx_Met l yX23_isDone cX23_isDone 1 (some .boolean) 1 24 D [(va_rf (some a0))] h (some (.int (b2i r))) h :=
  gx_ofG gz_392 (by simp only [gx_lsr, gx_lsi, gx_lsj, gx_ls0]; decide) gx_le.rf (fun p e R s m args below meth c C hx => by
    simp only [gx_lar, gx_lai, gx_laj, gx_la0, Nat.reduceAdd]
    exact w_X23_isDone_b hlt C hx hf)
def f_X24_isSought (D : gx_D) (h : HX) (a0 : Nat) (p1 : Int32) : Option Bool :=
  (hx_is h a0 [27]).bind fun _ =>
  (hx_gi h a0 [27] 1).bind fun x1 =>
  if (p1 / (1000 : Int32)) = x1 then
  some true
  else
  some false
theorem is_X24_isSought {D : gx_D} {h : HX} {a0 : Nat} {p1 : Int32} {z} (hf : f_X24_isSought D h a0 p1 = some z) : gx_isC h a0 [27] := by
  unfold f_X24_isSought at hf
  obtain ⟨_, g, -⟩ := gx_bs hf
  exact hx_is_of g
theorem w_X24_isSought_b {l : Launch} (hlt : l.stackTraces = false) {p : Program} {e : Env} {R : Room} {s : State} {m : MethodId} {args : Array Value} {below : List Frame} {meth : Method} {c : Code} {D : gx_D} {h0 : HX} {r : Bool} (C : gx_Ctx p R s m args meth c "ContractMachine$1" cX24_isSought 2 (some .boolean) 1 24 D h0 h0) (hx : meth.name = "isSought") {a0 : Nat} {p1 : Int32} (hf : f_X24_isSought D h0 a0 p1 = some r) : gx_G p l e R s m args below meth c D h0 h0 2 (gx_MQ below args s D h0 h0 (some (.int (b2i r)))) 0 [(0, (va_rf (some a0))), (1, (.int p1))] [] h0 := by
  unfold f_X24_isSought at hf
  replace hf := gx_bs hf
  obtain ⟨_, -, hf⟩ := hf
  refine gx_iload_n C dX24_isSought_0 1 rfl ?_
  refine gx_sipush (v := 1000) C dX24_isSought_1 rfl ?_
  refine gx_idiv C dX24_isSought_4 (by decide) ?_
  refine gx_aload_n C dX24_isSought_5 0 rfl ?_
  replace hf := gx_bs hf
  obtain ⟨x1, g3, hf⟩ := hf
  refine gx_gi C g3 gz_393 q2459 dX24_isSought_6 ?_
  replace hf := gx_ite hf
  rcases hf with ⟨c2, hf⟩ | ⟨c2, hf⟩
  · refine gx_icmp_ne_f (tgt := 16) C dX24_isSought_9 rfl c2 ?_
    refine gx_iconst (v := 1) C dX24_isSought_12 rfl ?_
    refine gx_goto (tgt := 17) C dX24_isSought_13 rfl ?_
    obtain rfl := Option.some.inj hf
    exact gx_zret (b := true) C dX24_isSought_17
  · refine gx_icmp_ne_t (tgt := 16) C dX24_isSought_9 rfl c2 ?_
    refine gx_iconst (v := 0) C dX24_isSought_16 rfl ?_
    obtain rfl := Option.some.inj hf
    exact gx_zret (b := false) C dX24_isSought_17
theorem w_X24_isSought {l : Launch} (hlt : l.stackTraces = false) {D : gx_D} {h : HX} {a0 : Nat} {p1 : Int32} {r : Bool} (hf : f_X24_isSought D h a0 p1 = some r) : gx_Met l yX24_isSought cX24_isSought 2 (some .boolean) 1 24 D [(va_rf (some a0)), (.int p1)] h (some (.int (b2i r))) h :=
  gx_ofG gz_394 (by simp only [gx_lsr, gx_lsi, gx_lsj, gx_ls0]; decide) gx_le.rf (fun p e R s m args below meth c C hx => by
    simp only [gx_lar, gx_lai, gx_laj, gx_la0, Nat.reduceAdd]
    exact w_X24_isSought_b hlt C hx hf)
