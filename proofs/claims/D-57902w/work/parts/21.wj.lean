/-! walks of the JDK's methods (printed by gen/run.py) -/
set_option maxRecDepth 100000
def f_J2_add_2 (D : gx_D) (h : HX) (a0 : Nat) (p1 : Option Nat) (p2 : Option Nat) (p3 : Int32) : Option HX :=
  (hx_is h a0 [0]).bind fun _ =>
  p2.bind fun a1 =>
  (hx_len h a1).bind fun x2 =>
  if p3 = x2 then
  none
  else
  (hx_sr h a1 4 [11, 13, 15, 2] p3 p1).bind fun h4 =>
  (hx_pi h4 a0 [0] 2 (p3 + (1 : Int32))).bind fun h5 =>
  some h5
theorem is_J2_add_2 {D : gx_D} {h : HX} {a0 : Nat} {p1 : Option Nat} {p2 : Option Nat} {p3 : Int32} {z} (hf : f_J2_add_2 D h a0 p1 p2 p3 = some z) : gx_isC h a0 [0] := by
  unfold f_J2_add_2 at hf
  obtain ⟨_, g, -⟩ := gx_bs hf
  exact hx_is_of g
theorem w_J2_add_2_b {l : Launch} (hlt : l.stackTraces = false) {p : Program} {e : Env} {R : Room} {s : State} {m : MethodId} {args : Array Value} {below : List Frame} {meth : Method} {c : Code} {D : gx_D} {h0 : HX} {hz : HX} (C : gx_Ctx p R s m args meth c "java/util/ArrayList" cJ2_add_2 4 none 1 24 D h0 hz) (hx : meth.name = "add") {a0 : Nat} {p1 : Option Nat} {p2 : Option Nat} {p3 : Int32} (hf : f_J2_add_2 D h0 a0 p1 p2 p3 = some hz) : gx_G p l e R s m args below meth c D h0 hz 4 (gx_MQ below args s D h0 hz none) 0 [(0, (va_rf (some a0))), (1, (va_rf p1)), (2, (va_rf p2)), (3, (.int p3))] [] h0 := by
  unfold f_J2_add_2 at hf
  replace hf := gx_bs hf
  obtain ⟨_, -, hf⟩ := hf
  refine gx_iload_n C dJ2_add_2_0 3 rfl ?_
  refine gx_aload_n C dJ2_add_2_1 2 rfl ?_
  replace hf := gx_bs hf
  obtain ⟨a1, rfl, hf⟩ := hf
  replace hf := gx_bs hf
  obtain ⟨x2, g8, hf⟩ := hf
  refine gx_alen C g8 dJ2_add_2_2 ?_
  replace hf := gx_ite hf
  rcases hf with ⟨c3, hf⟩ | ⟨c3, hf⟩
  · refine gx_icmp_ne_f (tgt := 11) C dJ2_add_2_3 rfl c3 ?_
    refine gx_aload_n C dJ2_add_2_6 0 rfl ?_
    cases hf
  · refine gx_icmp_ne_t (tgt := 11) C dJ2_add_2_3 rfl c3 ?_
    refine gx_aload_n C dJ2_add_2_11 2 rfl ?_
    refine gx_iload_n C dJ2_add_2_12 3 rfl ?_
    refine gx_aload_n C dJ2_add_2_13 1 rfl ?_
    replace hf := gx_bs hf
    obtain ⟨h4, g7, hf⟩ := hf
    refine gx_aast C gz_9 (t := 4) rfl g7 dJ2_add_2_14 ?_
    refine gx_aload_n C dJ2_add_2_15 0 rfl ?_
    refine gx_iload_n C dJ2_add_2_16 3 rfl ?_
    refine gx_iconst (v := 1) C dJ2_add_2_17 rfl ?_
    refine gx_iadd C dJ2_add_2_18 ?_
    replace hf := gx_bs hf
    obtain ⟨h5, g6, hf⟩ := hf
    refine gx_putv C g6 gz_14 gz_1 rfl rfl q546 dJ2_add_2_19 ?_
    obtain rfl := Option.some.inj hf
    exact gx_vret C dJ2_add_2_22
theorem le_J2_add_2 {D : gx_D} {hz : HX} {h : HX} {a0 : Nat} {p1 : Option Nat} {p2 : Option Nat} {p3 : Int32} (hf : f_J2_add_2 D h a0 p1 p2 p3 = some hz) : gx_le h hz := by
  unfold f_J2_add_2 at hf
  replace hf := gx_bs hf
  obtain ⟨_, -, hf⟩ := hf
  replace hf := gx_bs hf
  obtain ⟨a1, rfl, hf⟩ := hf
  replace hf := gx_bs hf
  obtain ⟨x2, g8, hf⟩ := hf
  replace hf := gx_ite hf
  rcases hf with ⟨c3, hf⟩ | ⟨c3, hf⟩
  · cases hf
  · replace hf := gx_bs hf
    obtain ⟨h4, g7, hf⟩ := hf
    refine (hx_le_sr g7).tr ?_
    replace hf := gx_bs hf
    obtain ⟨h5, g6, hf⟩ := hf
    refine (hx_le_pv g6).tr ?_
    obtain rfl := Option.some.inj hf
    exact gx_le.rf
theorem w_J2_add_2 {l : Launch} (hlt : l.stackTraces = false) {D : gx_D} {h : HX} {a0 : Nat} {p1 : Option Nat} {p2 : Option Nat} {p3 : Int32} {hz : HX} (hf : f_J2_add_2 D h a0 p1 p2 p3 = some hz) : gx_Met l yJ2_add_2 cJ2_add_2 4 none 1 24 D [(va_rf (some a0)), (va_rf p1), (va_rf p2), (.int p3)] h none hz :=
  gx_ofG gz_15 (by simp only [gx_lsr, gx_lsi, gx_lsj, gx_ls0]; decide) (le_J2_add_2 hf) (fun p e R s m args below meth c C hx => by
    simp only [gx_lar, gx_lai, gx_laj, gx_la0, Nat.reduceAdd]
    exact w_J2_add_2_b hlt C hx hf)
def f_J2_add (D : gx_D) (h : HX) (a0 : Nat) (p1 : Option Nat) : Option ((Bool) × HX) :=
  (hx_is h a0 [0]).bind fun _ =>
  (hx_gi h a0 [0] 0).bind fun x1 =>
  (hx_pi h a0 [0] 0 (x1 + (1 : Int32))).bind fun h2 =>
  (hx_gr h2 a0 [0] 1).bind fun r3 =>
  (hx_gi h2 a0 [0] 2).bind fun x4 =>
  (f_J2_add_2 D h2 a0 p1 r3 x4).bind fun h6 =>
  some (true, h6)
theorem is_J2_add {D : gx_D} {h : HX} {a0 : Nat} {p1 : Option Nat} {z} (hf : f_J2_add D h a0 p1 = some z) : gx_isC h a0 [0] := by
  unfold f_J2_add at hf
  obtain ⟨_, g, -⟩ := gx_bs hf
  exact hx_is_of g
theorem w_J2_add_b {l : Launch} (hlt : l.stackTraces = false) {p : Program} {e : Env} {R : Room} {s : State} {m : MethodId} {args : Array Value} {below : List Frame} {meth : Method} {c : Code} {D : gx_D} {h0 : HX} {r : Bool} {hz : HX} (C : gx_Ctx p R s m args meth c "java/util/ArrayList" cJ2_add 2 (some .boolean) 2 47 D h0 hz) (hx : meth.name = "add") {a0 : Nat} {p1 : Option Nat} (hf : f_J2_add D h0 a0 p1 = some (r, hz)) : gx_G p l e R s m args below meth c D h0 hz 2 (gx_MQ below args s D h0 hz (some (.int (b2i r)))) 0 [(0, (va_rf (some a0))), (1, (va_rf p1))] [] h0 := by
  unfold f_J2_add at hf
  replace hf := gx_bs hf
  obtain ⟨_, -, hf⟩ := hf
  refine gx_aload_n C dJ2_add_0 0 rfl ?_
  refine gx_dup C dJ2_add_1 rfl ?_
  replace hf := gx_bs hf
  obtain ⟨x1, g10, hf⟩ := hf
  refine gx_giS C g10 gz_16 q549 q550 dJ2_add_2 ?_
  refine gx_iconst (v := 1) C dJ2_add_5 rfl ?_
  refine gx_iadd C dJ2_add_6 ?_
  replace hf := gx_bs hf
  obtain ⟨h2, g9, hf⟩ := hf
  refine gx_putvS C g9 gz_16 gz_1 rfl rfl q549 q550 dJ2_add_7 ?_
  refine gx_aload_n C dJ2_add_10 0 rfl ?_
  refine gx_aload_n C dJ2_add_11 1 rfl ?_
  refine gx_aload_n C dJ2_add_12 0 rfl ?_
  replace hf := gx_bs hf
  obtain ⟨r3, g8, hf⟩ := hf
  refine gx_gr C g8 gz_17 q543 dJ2_add_13 ?_
  refine gx_aload_n C dJ2_add_16 0 rfl ?_
  replace hf := gx_bs hf
  obtain ⟨x4, g7, hf⟩ := hf
  refine gx_gi C g7 gz_14 q546 dJ2_add_17 ?_
  replace hf := gx_bs hf
  obtain ⟨h6, g5, hf⟩ := hf
  refine gx_callV (st := []) C (w_J2_add_2 hlt g5) (is_J2_add_2 g5) gz_19 rfl (lw_V q679 q681 qs2 q127 q682) gz_18 (by decide) rfl rfl (gx_catn (Nat.le_of_ble_eq_true rfl)) dJ2_add_20 ?_
  refine gx_iconst (v := 1) C dJ2_add_23 rfl ?_
  obtain ⟨rfl, rfl⟩ := Prod.mk.inj (Option.some.inj hf)
  exact gx_zret (b := true) C dJ2_add_24
theorem le_J2_add {D : gx_D} {r : Bool} {hz : HX} {h : HX} {a0 : Nat} {p1 : Option Nat} (hf : f_J2_add D h a0 p1 = some (r, hz)) : gx_le h hz := by
  unfold f_J2_add at hf
  replace hf := gx_bs hf
  obtain ⟨_, -, hf⟩ := hf
  replace hf := gx_bs hf
  obtain ⟨x1, g10, hf⟩ := hf
  replace hf := gx_bs hf
  obtain ⟨h2, g9, hf⟩ := hf
  refine (hx_le_pv g9).tr ?_
  replace hf := gx_bs hf
  obtain ⟨r3, g8, hf⟩ := hf
  replace hf := gx_bs hf
  obtain ⟨x4, g7, hf⟩ := hf
  replace hf := gx_bs hf
  obtain ⟨h6, g5, hf⟩ := hf
  refine (le_J2_add_2 g5).tr ?_
  obtain ⟨rfl, rfl⟩ := Prod.mk.inj (Option.some.inj hf)
  exact gx_le.rf
theorem w_J2_add {l : Launch} (hlt : l.stackTraces = false) {D : gx_D} {h : HX} {a0 : Nat} {p1 : Option Nat} {r : Bool} {hz : HX} (hf : f_J2_add D h a0 p1 = some (r, hz)) : gx_Met l yJ2_add cJ2_add 2 (some .boolean) 2 47 D [(va_rf (some a0)), (va_rf p1)] h (some (.int (b2i r))) hz :=
  gx_ofG gz_15 (by simp only [gx_lsr, gx_lsi, gx_lsj, gx_ls0]; decide) (le_J2_add hf) (fun p e R s m args below meth c C hx => by
    simp only [gx_lar, gx_lai, gx_laj, gx_la0, Nat.reduceAdd]
    exact w_J2_add_b hlt C hx hf)
def f_J0_init (D : gx_D) (h : HX) (a0 : Nat) : Option Unit :=
  some ()
theorem w_J0_init_b {l : Launch} (hlt : l.stackTraces = false) {p : Program} {e : Env} {R : Room} {s : State} {m : MethodId} {args : Array Value} {below : List Frame} {meth : Method} {c : Code} {D : gx_D} {h0 : HX} {r : Unit} (C : gx_Ctx p R s m args meth c "java/util/AbstractCollection" cJ0_init 1 none 1 24 D h0 h0) (hx : meth.name = "<init>") {a0 : Nat} (hf : f_J0_init D h0 a0 = some r) : gx_G p l e R s m args below meth c D h0 h0 1 (gx_MQ below args s D h0 h0 none) 0 [(0, (va_rf (some a0)))] [] h0 := by
  unfold f_J0_init at hf
  refine gx_aload_n C dJ0_init_0 0 rfl ?_
  refine gx_objInit (st := []) C q220 q188 q189 (by decide) (by decide) dJ0_init_1 ?_
  obtain rfl := Option.some.inj hf
  exact gx_vret C dJ0_init_4
theorem w_J0_init {l : Launch} (hlt : l.stackTraces = false) {D : gx_D} {h : HX} {a0 : Nat} {r : Unit} (hf : f_J0_init D h a0 = some r) : gx_Met l yJ0_init cJ0_init 1 none 1 24 D [(va_rf (some a0))] h none h :=
  gx_ofG gz_39 (by simp only [gx_lsr, gx_lsi, gx_lsj, gx_ls0]; decide) gx_le.rf (fun p e R s m args below meth c C hx => by
    simp only [gx_lar, gx_lai, gx_laj, gx_la0, Nat.reduceAdd]
    exact w_J0_init_b hlt C hx hf)
def f_J1_init (D : gx_D) (h : HX) (a0 : Nat) : Option HX :=
  (f_J0_init D h a0).bind fun u4 =>
  (hx_pi h a0 [0] 0 (0 : Int32)).bind fun h2 =>
  some h2
theorem w_J1_init_b {l : Launch} (hlt : l.stackTraces = false) {p : Program} {e : Env} {R : Room} {s : State} {m : MethodId} {args : Array Value} {below : List Frame} {meth : Method} {c : Code} {D : gx_D} {h0 : HX} {hz : HX} (C : gx_Ctx p R s m args meth c "java/util/AbstractList" cJ1_init 1 none 2 44 D h0 hz) (hx : meth.name = "<init>") {a0 : Nat} (hf : f_J1_init D h0 a0 = some hz) : gx_G p l e R s m args below meth c D h0 hz 1 (gx_MQ below args s D h0 hz none) 0 [(0, (va_rf (some a0)))] [] h0 := by
  unfold f_J1_init at hf
  refine gx_aload_n C dJ1_init_0 0 rfl ?_
  replace hf := gx_bs hf
  obtain ⟨u4, g1, hf⟩ := hf
  refine gx_callI (st := []) C (w_J0_init hlt g1) q217 q218 q125 q219 rfl gz_40 (by decide) rfl rfl (gx_catn (Nat.le_of_ble_eq_true rfl)) dJ1_init_1 ?_
  refine gx_aload_n C dJ1_init_4 0 rfl ?_
  refine gx_iconst (v := 0) C dJ1_init_5 rfl ?_
  replace hf := gx_bs hf
  obtain ⟨h2, g3, hf⟩ := hf
  refine gx_putv C g3 gz_16 gz_1 rfl rfl q547 dJ1_init_6 ?_
  obtain rfl := Option.some.inj hf
  exact gx_vret C dJ1_init_9
theorem le_J1_init {D : gx_D} {hz : HX} {h : HX} {a0 : Nat} (hf : f_J1_init D h a0 = some hz) : gx_le h hz := by
  unfold f_J1_init at hf
  replace hf := gx_bs hf
  obtain ⟨u4, g1, hf⟩ := hf
  replace hf := gx_bs hf
  obtain ⟨h2, g3, hf⟩ := hf
  refine (hx_le_pv g3).tr ?_
  obtain rfl := Option.some.inj hf
  exact gx_le.rf
theorem w_J1_init {l : Launch} (hlt : l.stackTraces = false) {D : gx_D} {h : HX} {a0 : Nat} {hz : HX} (hf : f_J1_init D h a0 = some hz) : gx_Met l yJ1_init cJ1_init 1 none 2 44 D [(va_rf (some a0))] h none hz :=
  gx_ofG gz_41 (by simp only [gx_lsr, gx_lsi, gx_lsj, gx_ls0]; decide) (le_J1_init hf) (fun p e R s m args below meth c C hx => by
    simp only [gx_lar, gx_lai, gx_laj, gx_la0, Nat.reduceAdd]
    exact w_J1_init_b hlt C hx hf)
def f_J2_init (D : gx_D) (h : HX) (a0 : Nat) (p1 : Int32) : Option HX :=
  (f_J1_init D h a0).bind fun h2 =>
  if p1 ≤ 0 then
  if p1 = 0 then
  (hx_pr h2 a0 [0] 1 (some (D.2.2.1 131))).bind fun h5 =>
  some h5
  else
  none
  else
  gx_b2 (hx_newa h2 4 p1 (fun _ => .inr (.inr (.inr (.inr fun _ => none))))) fun a7 h8 =>
  (hx_pr h8 a0 [0] 1 (some a7)).bind fun h9 =>
  some h9
theorem w_J2_init_b {l : Launch} (hlt : l.stackTraces = false) {p : Program} {e : Env} {R : Room} {s : State} {m : MethodId} {args : Array Value} {below : List Frame} {meth : Method} {c : Code} {D : gx_D} {h0 : HX} {hz : HX} (C : gx_Ctx p R s m args meth c "java/util/ArrayList" cJ2_init 2 none 3 64 D h0 hz) (hx : meth.name = "<init>") {a0 : Nat} {p1 : Int32} (hf : f_J2_init D h0 a0 p1 = some hz) : gx_G p l e R s m args below meth c D h0 hz 2 (gx_MQ below args s D h0 hz none) 0 [(0, (va_rf (some a0))), (1, (.int p1))] [] h0 := by
  unfold f_J2_init at hf
  refine gx_aload_n C dJ2_init_0 0 rfl ?_
  replace hf := gx_bs hf
  obtain ⟨h2, g1, hf⟩ := hf
  refine gx_callI (st := []) C (w_J1_init hlt g1) q214 q215 q126 q216 rfl gz_43 (by decide) rfl rfl (gx_catn (Nat.le_of_ble_eq_true rfl)) dJ2_init_1 ?_
  refine gx_iload_n C dJ2_init_4 1 rfl ?_
  replace hf := gx_ite hf
  rcases hf with ⟨c3, hf⟩ | ⟨c3, hf⟩
  · refine gx_if_le_t (tgt := 19) C dJ2_init_5 rfl c3 ?_
    refine gx_iload_n C dJ2_init_19 1 rfl ?_
    replace hf := gx_ite hf
    rcases hf with ⟨c4, hf⟩ | ⟨c4, hf⟩
    · refine gx_if_ne_f (tgt := 33) C dJ2_init_20 rfl c4 ?_
      refine gx_aload_n C dJ2_init_23 0 rfl ?_
      refine gx_statk C 15 rfl q223 dJ2_init_24 ?_
      replace hf := gx_bs hf
      obtain ⟨h5, g6, hf⟩ := hf
      refine gx_putv C g6 gz_17 gz_42 (gx_narrow_r rfl _).1 (gx_narrow_r rfl _).2 q543 dJ2_init_27 ?_
      refine gx_goto (tgt := 60) C dJ2_init_30 rfl ?_
      obtain rfl := Option.some.inj hf
      exact gx_vret C dJ2_init_60
    · refine gx_if_ne_t (tgt := 33) C dJ2_init_20 rfl c4 ?_
      cases hf
  · refine gx_if_le_f (tgt := 19) C dJ2_init_5 rfl c3 ?_
    refine gx_aload_n C dJ2_init_8 0 rfl ?_
    refine gx_iload_n C dJ2_init_9 1 rfl ?_
    replace hf := gx_b2s hf
    obtain ⟨a7, h8, g11, hf⟩ := hf
    refine gx_anew C g11 rfl q221 (by decide) dJ2_init_10 ?_
    replace hf := gx_bs hf
    obtain ⟨h9, g10, hf⟩ := hf
    refine gx_putv C g10 gz_17 gz_42 (gx_narrow_r rfl _).1 (gx_narrow_r rfl _).2 q543 dJ2_init_13 ?_
    refine gx_goto (tgt := 60) C dJ2_init_16 rfl ?_
    obtain rfl := Option.some.inj hf
    exact gx_vret C dJ2_init_60
theorem le_J2_init {D : gx_D} {hz : HX} {h : HX} {a0 : Nat} {p1 : Int32} (hf : f_J2_init D h a0 p1 = some hz) : gx_le h hz := by
  unfold f_J2_init at hf
  replace hf := gx_bs hf
  obtain ⟨h2, g1, hf⟩ := hf
  refine (le_J1_init g1).tr ?_
  replace hf := gx_ite hf
  rcases hf with ⟨c3, hf⟩ | ⟨c3, hf⟩
  · replace hf := gx_ite hf
    rcases hf with ⟨c4, hf⟩ | ⟨c4, hf⟩
    · replace hf := gx_bs hf
      obtain ⟨h5, g6, hf⟩ := hf
      refine (hx_le_pv g6).tr ?_
      obtain rfl := Option.some.inj hf
      exact gx_le.rf
    · cases hf
  · replace hf := gx_b2s hf
    obtain ⟨a7, h8, g11, hf⟩ := hf
    refine (hx_le_newa g11).tr ?_
    replace hf := gx_bs hf
    obtain ⟨h9, g10, hf⟩ := hf
    refine (hx_le_pv g10).tr ?_
    obtain rfl := Option.some.inj hf
    exact gx_le.rf
theorem w_J2_init {l : Launch} (hlt : l.stackTraces = false) {D : gx_D} {h : HX} {a0 : Nat} {p1 : Int32} {hz : HX} (hf : f_J2_init D h a0 p1 = some hz) : gx_Met l yJ2_init cJ2_init 2 none 3 64 D [(va_rf (some a0)), (.int p1)] h none hz :=
  gx_ofG gz_15 (by simp only [gx_lsr, gx_lsi, gx_lsj, gx_ls0]; decide) (le_J2_init hf) (fun p e R s m args below meth c C hx => by
    simp only [gx_lar, gx_lai, gx_laj, gx_la0, Nat.reduceAdd]
    exact w_J2_init_b hlt C hx hf)
def f_J2_size (D : gx_D) (h : HX) (a0 : Nat) : Option Int32 :=
  (hx_is h a0 [0]).bind fun _ =>
  (hx_gi h a0 [0] 2).bind fun x1 =>
  some x1
theorem is_J2_size {D : gx_D} {h : HX} {a0 : Nat} {z} (hf : f_J2_size D h a0 = some z) : gx_isC h a0 [0] := by
  unfold f_J2_size at hf
  obtain ⟨_, g, -⟩ := gx_bs hf
  exact hx_is_of g
theorem w_J2_size_b {l : Launch} (hlt : l.stackTraces = false) {p : Program} {e : Env} {R : Room} {s : State} {m : MethodId} {args : Array Value} {below : List Frame} {meth : Method} {c : Code} {D : gx_D} {h0 : HX} {r : Int32} (C : gx_Ctx p R s m args meth c "java/util/ArrayList" cJ2_size 1 (some .int) 1 24 D h0 h0) (hx : meth.name = "size") {a0 : Nat} (hf : f_J2_size D h0 a0 = some r) : gx_G p l e R s m args below meth c D h0 h0 1 (gx_MQ below args s D h0 h0 (some (.int r))) 0 [(0, (va_rf (some a0)))] [] h0 := by
  unfold f_J2_size at hf
  replace hf := gx_bs hf
  obtain ⟨_, -, hf⟩ := hf
  refine gx_aload_n C dJ2_size_0 0 rfl ?_
  replace hf := gx_bs hf
  obtain ⟨x1, g2, hf⟩ := hf
  refine gx_gi C g2 gz_14 q546 dJ2_size_1 ?_
  obtain rfl := Option.some.inj hf
  exact gx_iret C dJ2_size_4
theorem w_J2_size {l : Launch} (hlt : l.stackTraces = false) {D : gx_D} {h : HX} {a0 : Nat} {r : Int32} (hf : f_J2_size D h a0 = some r) : gx_Met l yJ2_size cJ2_size 1 (some .int) 1 24 D [(va_rf (some a0))] h (some (.int r)) h :=
  gx_ofG gz_15 (by simp only [gx_lsr, gx_lsi, gx_lsj, gx_ls0]; decide) gx_le.rf (fun p e R s m args below meth c C hx => by
    simp only [gx_lar, gx_lai, gx_laj, gx_la0, Nat.reduceAdd]
    exact w_J2_size_b hlt C hx hf)
def f_J7_init (D : gx_D) (h : HX) (a0 : Nat) (p1 : Int32) : Option HX :=
  gx_b2 (hx_newa h 1 p1 (fun _ => .inl fun _ => 0)) fun a1 h2 =>
  (hx_pr h2 a0 [1] 0 (some a1)).bind fun h3 =>
  (hx_pi h3 a0 [1] 1 (0 : Int32)).bind fun h4 =>
  some h4
theorem w_J7_init_b {l : Launch} (hlt : l.stackTraces = false) {p : Program} {e : Env} {R : Room} {s : State} {m : MethodId} {args : Array Value} {below : List Frame} {meth : Method} {c : Code} {D : gx_D} {h0 : HX} {hz : HX} (C : gx_Ctx p R s m args meth c "java/lang/AbstractStringBuilder" cJ7_init 2 none 1 24 D h0 hz) (hx : meth.name = "<init>") {a0 : Nat} {p1 : Int32} (hf : f_J7_init D h0 a0 p1 = some hz) : gx_G p l e R s m args below meth c D h0 hz 2 (gx_MQ below args s D h0 hz none) 0 [(0, (va_rf (some a0))), (1, (.int p1))] [] h0 := by
  unfold f_J7_init at hf
  refine gx_aload_n C dJ7_init_0 0 rfl ?_
  refine gx_objInit (st := []) C q279 q188 q189 (by decide) (by decide) dJ7_init_1 ?_
  refine gx_stati C 20 rfl q280 dJ7_init_4 ?_
  refine gx_if_eq_f (tgt := 25) C dJ7_init_7 rfl (by decide) ?_
  refine gx_aload_n C dJ7_init_10 0 rfl ?_
  refine gx_iload_n C dJ7_init_11 1 rfl ?_
  replace hf := gx_b2s hf
  obtain ⟨a1, h2, g7, hf⟩ := hf
  refine gx_newarr_byte C g7 q303 dJ7_init_12 ?_
  replace hf := gx_bs hf
  obtain ⟨h3, g6, hf⟩ := hf
  refine gx_putv C g6 gz_69 gz_70 (gx_narrow_r rfl _).1 (gx_narrow_r rfl _).2 q289 dJ7_init_14 ?_
  refine gx_aload_n C dJ7_init_17 0 rfl ?_
  refine gx_iconst (v := 0) C dJ7_init_18 rfl ?_
  replace hf := gx_bs hf
  obtain ⟨h4, g5, hf⟩ := hf
  refine gx_putv C g5 gz_71 gz_72 rfl rfl q290 dJ7_init_19 ?_
  refine gx_goto (tgt := 38) C dJ7_init_22 rfl ?_
  obtain rfl := Option.some.inj hf
  exact gx_vret C dJ7_init_38
theorem le_J7_init {D : gx_D} {hz : HX} {h : HX} {a0 : Nat} {p1 : Int32} (hf : f_J7_init D h a0 p1 = some hz) : gx_le h hz := by
  unfold f_J7_init at hf
  replace hf := gx_b2s hf
  obtain ⟨a1, h2, g7, hf⟩ := hf
  refine (hx_le_newa g7).tr ?_
  replace hf := gx_bs hf
  obtain ⟨h3, g6, hf⟩ := hf
  refine (hx_le_pv g6).tr ?_
  replace hf := gx_bs hf
  obtain ⟨h4, g5, hf⟩ := hf
  refine (hx_le_pv g5).tr ?_
  obtain rfl := Option.some.inj hf
  exact gx_le.rf
theorem w_J7_init {l : Launch} (hlt : l.stackTraces = false) {D : gx_D} {h : HX} {a0 : Nat} {p1 : Int32} {hz : HX} (hf : f_J7_init D h a0 p1 = some hz) : gx_Met l yJ7_init cJ7_init 2 none 1 24 D [(va_rf (some a0)), (.int p1)] h none hz :=
  gx_ofG gz_73 (by simp only [gx_lsr, gx_lsi, gx_lsj, gx_ls0]; decide) (le_J7_init hf) (fun p e R s m args below meth c C hx => by
    simp only [gx_lar, gx_lai, gx_laj, gx_la0, Nat.reduceAdd]
    exact w_J7_init_b hlt C hx hf)
def f_J8_init (D : gx_D) (h : HX) (a0 : Nat) : Option HX :=
  (f_J7_init D h a0 (16 : Int32)).bind fun h2 =>
  some h2
theorem w_J8_init_b {l : Launch} (hlt : l.stackTraces = false) {p : Program} {e : Env} {R : Room} {s : State} {m : MethodId} {args : Array Value} {below : List Frame} {meth : Method} {c : Code} {D : gx_D} {h0 : HX} {hz : HX} (C : gx_Ctx p R s m args meth c "java/lang/StringBuilder" cJ8_init 1 none 2 45 D h0 hz) (hx : meth.name = "<init>") {a0 : Nat} (hf : f_J8_init D h0 a0 = some hz) : gx_G p l e R s m args below meth c D h0 hz 1 (gx_MQ below args s D h0 hz none) 0 [(0, (va_rf (some a0)))] [] h0 := by
  unfold f_J8_init at hf
  refine gx_aload_n C dJ8_init_0 0 rfl ?_
  refine gx_bipush (v := 16) C dJ8_init_1 rfl ?_
  replace hf := gx_bs hf
  obtain ⟨h2, g1, hf⟩ := hf
  refine gx_callI (st := []) C (w_J7_init hlt g1) q276 q277 q132 q278 rfl gz_74 (by decide) rfl rfl (gx_catn (Nat.le_of_ble_eq_true rfl)) dJ8_init_3 ?_
  obtain rfl := Option.some.inj hf
  exact gx_vret C dJ8_init_6
theorem le_J8_init {D : gx_D} {hz : HX} {h : HX} {a0 : Nat} (hf : f_J8_init D h a0 = some hz) : gx_le h hz := by
  unfold f_J8_init at hf
  replace hf := gx_bs hf
  obtain ⟨h2, g1, hf⟩ := hf
  refine (le_J7_init g1).tr ?_
  obtain rfl := Option.some.inj hf
  exact gx_le.rf
theorem w_J8_init {l : Launch} (hlt : l.stackTraces = false) {D : gx_D} {h : HX} {a0 : Nat} {hz : HX} (hf : f_J8_init D h a0 = some hz) : gx_Met l yJ8_init cJ8_init 1 none 2 45 D [(va_rf (some a0))] h none hz :=
  gx_ofG gz_75 (by simp only [gx_lsr, gx_lsi, gx_lsj, gx_ls0]; decide) (le_J8_init hf) (fun p e R s m args below meth c C hx => by
    simp only [gx_lar, gx_lai, gx_laj, gx_la0, Nat.reduceAdd]
    exact w_J8_init_b hlt C hx hf)
def f_J17_init (D : gx_D) (h : HX) (a0 : Nat) : Option HX :=
  (f_J0_init D h a0).bind fun u7 =>
  gx_b2 (hx_newa h 4 (17 : Int32) (fun _ => .inr (.inr (.inr (.inr fun _ => none))))) fun a2 h3 =>
  (hx_pr h3 a0 [3] 0 (some a2)).bind fun h4 =>
  some h4
theorem w_J17_init_b {l : Launch} (hlt : l.stackTraces = false) {p : Program} {e : Env} {R : Room} {s : State} {m : MethodId} {args : Array Value} {below : List Frame} {meth : Method} {c : Code} {D : gx_D} {h0 : HX} {hz : HX} (C : gx_Ctx p R s m args meth c "java/util/ArrayDeque" cJ17_init 1 none 2 44 D h0 hz) (hx : meth.name = "<init>") {a0 : Nat} (hf : f_J17_init D h0 a0 = some hz) : gx_G p l e R s m args below meth c D h0 hz 1 (gx_MQ below args s D h0 hz none) 0 [(0, (va_rf (some a0)))] [] h0 := by
  unfold f_J17_init at hf
  refine gx_aload_n C dJ17_init_0 0 rfl ?_
  replace hf := gx_bs hf
  obtain ⟨u7, g1, hf⟩ := hf
  refine gx_callI (st := []) C (w_J0_init hlt g1) q646 q218 q125 q219 rfl gz_40 (by decide) rfl rfl (gx_catn (Nat.le_of_ble_eq_true rfl)) dJ17_init_1 ?_
  refine gx_aload_n C dJ17_init_4 0 rfl ?_
  refine gx_bipush (v := 17) C dJ17_init_5 rfl ?_
  replace hf := gx_b2s hf
  obtain ⟨a2, h3, g6, hf⟩ := hf
  refine gx_anew C g6 rfl q647 (by decide) dJ17_init_7 ?_
  replace hf := gx_bs hf
  obtain ⟨h4, g5, hf⟩ := hf
  refine gx_putv C g5 gz_76 gz_42 (gx_narrow_r rfl _).1 (gx_narrow_r rfl _).2 q648 dJ17_init_10 ?_
  obtain rfl := Option.some.inj hf
  exact gx_vret C dJ17_init_13
theorem le_J17_init {D : gx_D} {hz : HX} {h : HX} {a0 : Nat} (hf : f_J17_init D h a0 = some hz) : gx_le h hz := by
  unfold f_J17_init at hf
  replace hf := gx_bs hf
  obtain ⟨u7, g1, hf⟩ := hf
  replace hf := gx_b2s hf
  obtain ⟨a2, h3, g6, hf⟩ := hf
  refine (hx_le_newa g6).tr ?_
  replace hf := gx_bs hf
  obtain ⟨h4, g5, hf⟩ := hf
  refine (hx_le_pv g5).tr ?_
  obtain rfl := Option.some.inj hf
  exact gx_le.rf
theorem w_J17_init {l : Launch} (hlt : l.stackTraces = false) {D : gx_D} {h : HX} {a0 : Nat} {hz : HX} (hf : f_J17_init D h a0 = some hz) : gx_Met l yJ17_init cJ17_init 1 none 2 44 D [(va_rf (some a0))] h none hz :=
  gx_ofG gz_77 (by simp only [gx_lsr, gx_lsi, gx_lsj, gx_ls0]; decide) (le_J17_init hf) (fun p e R s m args below meth c C hx => by
    simp only [gx_lar, gx_lai, gx_laj, gx_la0, Nat.reduceAdd]
    exact w_J17_init_b hlt C hx hf)
def f_J12_max (D : gx_D) (h : HX) (p0 : Int32) (p1 : Int32) : Option Int32 :=
  if p0 < p1 then
  some p1
  else
  some p0
theorem w_J12_max_b {l : Launch} (hlt : l.stackTraces = false) {p : Program} {e : Env} {R : Room} {s : State} {m : MethodId} {args : Array Value} {below : List Frame} {meth : Method} {c : Code} {D : gx_D} {h0 : HX} {r : Int32} (C : gx_Ctx p R s m args meth c "java/lang/Math" cJ12_max 2 (some .int) 1 24 D h0 h0) (hx : meth.name = "max") {p0 : Int32} {p1 : Int32} (hf : f_J12_max D h0 p0 p1 = some r) : gx_G p l e R s m args below meth c D h0 h0 2 (gx_MQ below args s D h0 h0 (some (.int r))) 0 [(0, (.int p0)), (1, (.int p1))] [] h0 := by
  unfold f_J12_max at hf
  refine gx_iload_n C dJ12_max_0 0 rfl ?_
  refine gx_iload_n C dJ12_max_1 1 rfl ?_
  replace hf := gx_ite hf
  rcases hf with ⟨c1, hf⟩ | ⟨c1, hf⟩
  · refine gx_icmp_lt_t (tgt := 9) C dJ12_max_2 rfl c1 ?_
    refine gx_iload_n C dJ12_max_9 1 rfl ?_
    obtain rfl := Option.some.inj hf
    exact gx_iret C dJ12_max_10
  · refine gx_icmp_lt_f (tgt := 9) C dJ12_max_2 rfl c1 ?_
    refine gx_iload_n C dJ12_max_5 0 rfl ?_
    refine gx_goto (tgt := 10) C dJ12_max_6 rfl ?_
    obtain rfl := Option.some.inj hf
    exact gx_iret C dJ12_max_10
theorem w_J12_max {l : Launch} (hlt : l.stackTraces = false) {D : gx_D} {h : HX} {p0 : Int32} {p1 : Int32} {r : Int32} (hf : f_J12_max D h p0 p1 = some r) : gx_Met l yJ12_max cJ12_max 2 (some .int) 1 24 D [(.int p0), (.int p1)] h (some (.int r)) h :=
  gx_ofGF gz_130 (by simp only [gx_lsr, gx_lsi, gx_lsj, gx_ls0]; decide) gx_le.rf (fun p e R s m args below meth c C hx => by
    simp only [gx_lar, gx_lai, gx_laj, gx_la0, Nat.reduceAdd]
    exact w_J12_max_b hlt C hx hf)
def f_J11_newLength_b21 (D : gx_D) (h : HX) (v0 : Int32) (v1 : Int32) : Option Int32 :=
  none
theorem w_J11_newLength_b21 {l : Launch} (hlt : l.stackTraces = false) {p : Program} {e : Env} {R : Room} {s : State} {m : MethodId} {args : Array Value} {below : List Frame} {meth : Method} {c : Code} {D : gx_D} {h0 : HX} {r : Int32} (C : gx_Ctx p R s m args meth c "jdk/internal/util/ArraysSupport" cJ11_newLength 4 (some .int) 2 45 D h0 h0) (hx : meth.name = "newLength")  {v0 : Int32} {v1 : Int32} (hf : f_J11_newLength_b21 D h0 v0 v1 = some r) : gx_G p l e R s m args below meth c D h0 h0 4 (gx_MQ below args s D h0 h0 (some (.int r))) 21 [(0, (.int v0)), (1, (.int v1))] [] h0 := by
  unfold f_J11_newLength_b21 at hf
  refine gx_iload_n C dJ11_newLength_21 0 rfl ?_
  refine gx_iload_n C dJ11_newLength_22 1 rfl ?_
  cases hf
def f_J11_newLength (D : gx_D) (h : HX) (p0 : Int32) (p1 : Int32) (p2 : Int32) : Option Int32 :=
  (f_J12_max D h p1 p2).bind fun x2 =>
  if (p0 + x2) ≤ (0 : Int32) then
  f_J11_newLength_b21 D h p0 p1
  else
  if (2147483639 : Int32) < (p0 + x2) then
  f_J11_newLength_b21 D h p0 p1
  else
  some ((p0 + x2))
theorem w_J11_newLength_b {l : Launch} (hlt : l.stackTraces = false) {p : Program} {e : Env} {R : Room} {s : State} {m : MethodId} {args : Array Value} {below : List Frame} {meth : Method} {c : Code} {D : gx_D} {h0 : HX} {r : Int32} (C : gx_Ctx p R s m args meth c "jdk/internal/util/ArraysSupport" cJ11_newLength 4 (some .int) 2 45 D h0 h0) (hx : meth.name = "newLength") {p0 : Int32} {p1 : Int32} {p2 : Int32} (hf : f_J11_newLength D h0 p0 p1 p2 = some r) : gx_G p l e R s m args below meth c D h0 h0 4 (gx_MQ below args s D h0 h0 (some (.int r))) 0 [(0, (.int p0)), (1, (.int p1)), (2, (.int p2))] [] h0 := by
  unfold f_J11_newLength at hf
  refine gx_iload_n C dJ11_newLength_0 0 rfl ?_
  refine gx_iload_n C dJ11_newLength_1 1 rfl ?_
  refine gx_iload_n C dJ11_newLength_2 2 rfl ?_
  replace hf := gx_bs hf
  obtain ⟨x2, g1, hf⟩ := hf
  refine gx_callS (st := [(.int p0)]) C (w_J12_max hlt g1) (lw_S q327 q328 q137 q329) gz_131 (by decide) rfl rfl (gx_catn (Nat.le_of_ble_eq_true rfl)) dJ11_newLength_3 ?_
  refine gx_iadd C dJ11_newLength_6 ?_
  refine gx_istn C dJ11_newLength_7 3 rfl (by decide) [0, 1]  rfl (gx_okn rfl rfl (gx_okn rfl rfl gx_ok0)) ?_
  refine gx_iconst (v := 0) C dJ11_newLength_8 rfl ?_
  refine gx_iload_n C dJ11_newLength_9 0 rfl ?_
  replace hf := gx_ite hf
  rcases hf with ⟨c3, hf⟩ | ⟨c3, hf⟩
  · refine gx_icmp_ge_t (tgt := 21) C dJ11_newLength_10 rfl c3 ?_
    refine gx_sub [1, 2] rfl ?_
    exact w_J11_newLength_b21 hlt C hx hf
  · refine gx_icmp_ge_f (tgt := 21) C dJ11_newLength_10 rfl c3 ?_
    refine gx_iload_n C dJ11_newLength_13 0 rfl ?_
    refine gx_ldc C q330 dJ11_newLength_14 ?_
    replace hf := gx_ite hf
    rcases hf with ⟨c4, hf⟩ | ⟨c4, hf⟩
    · refine gx_icmp_gt_t (tgt := 21) C dJ11_newLength_16 rfl c4 ?_
      refine gx_sub [1, 2] rfl ?_
      exact w_J11_newLength_b21 hlt C hx hf
    · refine gx_icmp_gt_f (tgt := 21) C dJ11_newLength_16 rfl c4 ?_
      refine gx_iload_n C dJ11_newLength_19 0 rfl ?_
      obtain rfl := Option.some.inj hf
      exact gx_iret C dJ11_newLength_20
theorem w_J11_newLength {l : Launch} (hlt : l.stackTraces = false) {D : gx_D} {h : HX} {p0 : Int32} {p1 : Int32} {p2 : Int32} {r : Int32} (hf : f_J11_newLength D h p0 p1 p2 = some r) : gx_Met l yJ11_newLength cJ11_newLength 4 (some .int) 2 45 D [(.int p0), (.int p1), (.int p2)] h (some (.int r)) h :=
  gx_ofG gz_132 (by simp only [gx_lsr, gx_lsi, gx_lsj, gx_ls0]; decide) gx_le.rf (fun p e R s m args below meth c C hx => by
    simp only [gx_lar, gx_lai, gx_laj, gx_la0, Nat.reduceAdd]
    exact w_J11_newLength_b hlt C hx hf)
def f_J7_newCapacity (D : gx_D) (h : HX) (a0 : Nat) (p1 : Int32) : Option Int32 :=
  (hx_is h a0 [1]).bind fun _ =>
  (hx_gr h a0 [1] 0).bind fun r1 =>
  r1.bind fun a2 =>
  (hx_len h a2).bind fun x3 =>
  (hx_gi h a0 [1] 1).bind fun x4 =>
  (hx_gi h a0 [1] 1).bind fun x5 =>
  (f_J11_newLength D h x3 ((p1 <<< (x4 &&& 31)) - x3) (x3 + ((2 : Int32) <<< (x5 &&& 31)))).bind fun x7 =>
  if x7 = (2147483647 : Int32) then
  none
  else
  (hx_gi h a0 [1] 1).bind fun x9 =>
  some ((x7 >>> (x9 &&& 31)))
theorem is_J7_newCapacity {D : gx_D} {h : HX} {a0 : Nat} {p1 : Int32} {z} (hf : f_J7_newCapacity D h a0 p1 = some z) : gx_isC h a0 [1] := by
  unfold f_J7_newCapacity at hf
  obtain ⟨_, g, -⟩ := gx_bs hf
  exact hx_is_of g
theorem w_J7_newCapacity_b {l : Launch} (hlt : l.stackTraces = false) {p : Program} {e : Env} {R : Room} {s : State} {m : MethodId} {args : Array Value} {below : List Frame} {meth : Method} {c : Code} {D : gx_D} {h0 : HX} {r : Int32} (C : gx_Ctx p R s m args meth c "java/lang/AbstractStringBuilder" cJ7_newCapacity 6 (some .int) 3 68 D h0 h0) (hx : meth.name = "newCapacity") {a0 : Nat} {p1 : Int32} (hf : f_J7_newCapacity D h0 a0 p1 = some r) : gx_G p l e R s m args below meth c D h0 h0 6 (gx_MQ below args s D h0 h0 (some (.int r))) 0 [(0, (va_rf (some a0))), (1, (.int p1))] [] h0 := by
  unfold f_J7_newCapacity at hf
  replace hf := gx_bs hf
  obtain ⟨_, -, hf⟩ := hf
  refine gx_aload_n C dJ7_newCapacity_0 0 rfl ?_
  replace hf := gx_bs hf
  obtain ⟨r1, g14, hf⟩ := hf
  refine gx_gr C g14 gz_69 q289 dJ7_newCapacity_1 ?_
  replace hf := gx_bs hf
  obtain ⟨a2, rfl, hf⟩ := hf
  replace hf := gx_bs hf
  obtain ⟨x3, g13, hf⟩ := hf
  refine gx_alen C g13 dJ7_newCapacity_4 ?_
  refine gx_istn C dJ7_newCapacity_5 2 rfl (by decide) [0, 1]  rfl (gx_okn rfl rfl (gx_okr rfl gx_catv_i gx_ok0)) ?_
  refine gx_iload_n C dJ7_newCapacity_6 2 rfl ?_
  refine gx_aload_n C dJ7_newCapacity_7 1 rfl ?_
  replace hf := gx_bs hf
  obtain ⟨x4, g12, hf⟩ := hf
  refine gx_gi C g12 gz_71 q290 dJ7_newCapacity_8 ?_
  refine gx_ishl C dJ7_newCapacity_11 ?_
  refine gx_istn C dJ7_newCapacity_12 3 rfl (by decide) [0, 1]  rfl (gx_okr rfl gx_catv_i (gx_okn rfl rfl gx_ok0)) ?_
  refine gx_iload_n C dJ7_newCapacity_13 0 rfl ?_
  refine gx_iload_n C dJ7_newCapacity_14 1 rfl ?_
  refine gx_isub C dJ7_newCapacity_15 ?_
  refine gx_ist C dJ7_newCapacity_16 (by decide) [1, 2]  rfl (gx_okn rfl rfl (gx_okn rfl rfl gx_ok0)) ?_
  refine gx_iload_n C dJ7_newCapacity_18 1 rfl ?_
  refine gx_iload C dJ7_newCapacity_19 0 rfl ?_
  refine gx_iload_n C dJ7_newCapacity_21 1 rfl ?_
  refine gx_iconst (v := 2) C dJ7_newCapacity_22 rfl ?_
  refine gx_aload_n C dJ7_newCapacity_23 2 rfl ?_
  replace hf := gx_bs hf
  obtain ⟨x5, g11, hf⟩ := hf
  refine gx_gi C g11 gz_71 q290 dJ7_newCapacity_24 ?_
  refine gx_ishl C dJ7_newCapacity_27 ?_
  refine gx_iadd C dJ7_newCapacity_28 ?_
  replace hf := gx_bs hf
  obtain ⟨x7, g6, hf⟩ := hf
  refine gx_callS (st := []) C (w_J11_newLength hlt g6) (lw_S q324 q325 q136 q326) gz_133 (by decide) rfl rfl (gx_catn (Nat.le_of_ble_eq_true rfl)) dJ7_newCapacity_29 ?_
  refine gx_ist C dJ7_newCapacity_32 (by decide) [2]  rfl (gx_okn rfl rfl gx_ok0) ?_
  refine gx_iload C dJ7_newCapacity_34 0 rfl ?_
  refine gx_ldc C q334 dJ7_newCapacity_36 ?_
  replace hf := gx_ite hf
  rcases hf with ⟨c8, hf⟩ | ⟨c8, hf⟩
  · refine gx_icmp_ne_f (tgt := 51) C dJ7_newCapacity_38 rfl c8 ?_
    cases hf
  · refine gx_icmp_ne_t (tgt := 51) C dJ7_newCapacity_38 rfl c8 ?_
    refine gx_iload C dJ7_newCapacity_51 0 rfl ?_
    refine gx_aload_n C dJ7_newCapacity_53 1 rfl ?_
    replace hf := gx_bs hf
    obtain ⟨x9, g10, hf⟩ := hf
    refine gx_gi C g10 gz_71 q290 dJ7_newCapacity_54 ?_
    refine gx_ishr C dJ7_newCapacity_57 ?_
    obtain rfl := Option.some.inj hf
    exact gx_iret C dJ7_newCapacity_58
theorem w_J7_newCapacity {l : Launch} (hlt : l.stackTraces = false) {D : gx_D} {h : HX} {a0 : Nat} {p1 : Int32} {r : Int32} (hf : f_J7_newCapacity D h a0 p1 = some r) : gx_Met l yJ7_newCapacity cJ7_newCapacity 6 (some .int) 3 68 D [(va_rf (some a0)), (.int p1)] h (some (.int r)) h :=
  gx_ofG gz_73 (by simp only [gx_lsr, gx_lsi, gx_lsj, gx_ls0]; decide) gx_le.rf (fun p e R s m args below meth c C hx => by
    simp only [gx_lar, gx_lai, gx_laj, gx_la0, Nat.reduceAdd]
    exact w_J7_newCapacity_b hlt C hx hf)
def f_J12_min (D : gx_D) (h : HX) (p0 : Int32) (p1 : Int32) : Option Int32 :=
  if p1 < p0 then
  some p1
  else
  some p0
theorem w_J12_min_b {l : Launch} (hlt : l.stackTraces = false) {p : Program} {e : Env} {R : Room} {s : State} {m : MethodId} {args : Array Value} {below : List Frame} {meth : Method} {c : Code} {D : gx_D} {h0 : HX} {r : Int32} (C : gx_Ctx p R s m args meth c "java/lang/Math" cJ12_min 2 (some .int) 1 24 D h0 h0) (hx : meth.name = "min") {p0 : Int32} {p1 : Int32} (hf : f_J12_min D h0 p0 p1 = some r) : gx_G p l e R s m args below meth c D h0 h0 2 (gx_MQ below args s D h0 h0 (some (.int r))) 0 [(0, (.int p0)), (1, (.int p1))] [] h0 := by
  unfold f_J12_min at hf
  refine gx_iload_n C dJ12_min_0 0 rfl ?_
  refine gx_iload_n C dJ12_min_1 1 rfl ?_
  replace hf := gx_ite hf
  rcases hf with ⟨c1, hf⟩ | ⟨c1, hf⟩
  · refine gx_icmp_gt_t (tgt := 9) C dJ12_min_2 rfl c1 ?_
    refine gx_iload_n C dJ12_min_9 1 rfl ?_
    obtain rfl := Option.some.inj hf
    exact gx_iret C dJ12_min_10
  · refine gx_icmp_gt_f (tgt := 9) C dJ12_min_2 rfl c1 ?_
    refine gx_iload_n C dJ12_min_5 0 rfl ?_
    refine gx_goto (tgt := 10) C dJ12_min_6 rfl ?_
    obtain rfl := Option.some.inj hf
    exact gx_iret C dJ12_min_10
theorem w_J12_min {l : Launch} (hlt : l.stackTraces = false) {D : gx_D} {h : HX} {p0 : Int32} {p1 : Int32} {r : Int32} (hf : f_J12_min D h p0 p1 = some r) : gx_Met l yJ12_min cJ12_min 2 (some .int) 1 24 D [(.int p0), (.int p1)] h (some (.int r)) h :=
  gx_ofGF gz_134 (by simp only [gx_lsr, gx_lsi, gx_lsj, gx_ls0]; decide) gx_le.rf (fun p e R s m args below meth c C hx => by
    simp only [gx_lar, gx_lai, gx_laj, gx_la0, Nat.reduceAdd]
    exact w_J12_min_b hlt C hx hf)
def f_J13_copyOf (D : gx_D) (h : HX) (p0 : Option Nat) (p1 : Int32) : Option ((Option Nat) × HX) :=
  p0.bind fun a1 =>
  (hx_len h a1).bind fun x2 =>
  if p1 = x2 then
  none
  else
  gx_b2 (hx_newa h 1 p1 (fun _ => .inl fun _ => 0)) fun a4 h5 =>
  (hx_len h5 a1).bind fun x6 =>
  (f_J12_min D h5 x6 p1).bind fun x8 =>
  (hx_cpy h5 a1 (0 : Int32) a4 (0 : Int32) x8).bind fun h9 =>
  some ((some a4), h9)
theorem w_J13_copyOf_b {l : Launch} (hlt : l.stackTraces = false) {p : Program} {e : Env} {R : Room} {s : State} {m : MethodId} {args : Array Value} {below : List Frame} {meth : Method} {c : Code} {D : gx_D} {h0 : HX} {r : Option Nat} {hz : HX} (C : gx_Ctx p R s m args meth c "java/util/Arrays" cJ13_copyOf 3 (some (.array .byte)) 2 64 D h0 hz) (hx : meth.name = "copyOf") {p0 : Option Nat} {p1 : Int32} (hf : f_J13_copyOf D h0 p0 p1 = some (r, hz)) : gx_G p l e R s m args below meth c D h0 hz 3 (gx_MQ below args s D h0 hz (some (va_rf r))) 0 [(0, (va_rf p0)), (1, (.int p1))] [] h0 := by
  unfold f_J13_copyOf at hf
  refine gx_iload_n C dJ13_copyOf_0 1 rfl ?_
  refine gx_aload_n C dJ13_copyOf_1 0 rfl ?_
  replace hf := gx_bs hf
  obtain ⟨a1, rfl, hf⟩ := hf
  replace hf := gx_bs hf
  obtain ⟨x2, g13, hf⟩ := hf
  refine gx_alen C g13 dJ13_copyOf_2 ?_
  replace hf := gx_ite hf
  rcases hf with ⟨c3, hf⟩ | ⟨c3, hf⟩
  · refine gx_icmp_ne_f (tgt := 14) C dJ13_copyOf_3 rfl c3 ?_
    refine gx_aload_n C dJ13_copyOf_6 0 rfl ?_
    cases hf
  · refine gx_icmp_ne_t (tgt := 14) C dJ13_copyOf_3 rfl c3 ?_
    refine gx_iload_n C dJ13_copyOf_14 1 rfl ?_
    replace hf := gx_b2s hf
    obtain ⟨a4, h5, g12, hf⟩ := hf
    refine gx_newarr_byte C g12 q303 dJ13_copyOf_15 ?_
    refine gx_astn C dJ13_copyOf_17 2 rfl (by decide) [0, 1]  rfl (gx_okn rfl rfl (gx_okr rfl gx_catv_i gx_ok0)) ?_
    refine gx_aload_n C dJ13_copyOf_18 1 rfl ?_
    refine gx_iconst (v := 0) C dJ13_copyOf_19 rfl ?_
    refine gx_aload_n C dJ13_copyOf_20 0 rfl ?_
    refine gx_iconst (v := 0) C dJ13_copyOf_21 rfl ?_
    refine gx_aload_n C dJ13_copyOf_22 1 rfl ?_
    replace hf := gx_bs hf
    obtain ⟨x6, g11, hf⟩ := hf
    refine gx_alen C g11 dJ13_copyOf_23 ?_
    refine gx_iload_n C dJ13_copyOf_24 2 rfl ?_
    replace hf := gx_bs hf
    obtain ⟨x8, g7, hf⟩ := hf
    refine gx_callS (st := [(.int (0 : Int32)), (va_rf (some a4)), (.int (0 : Int32)), (va_rf (some a1))]) C (w_J12_min hlt g7) (lw_S q343 q344 q137 q345) gz_135 (by decide) rfl rfl (gx_catn (Nat.le_of_ble_eq_true rfl)) dJ13_copyOf_25 ?_
    replace hf := gx_bs hf
    obtain ⟨h9, g10, hf⟩ := hf
    refine gx_copy (st := []) C g10 q346 q348 q347 q139 (by decide) (by decide) dJ13_copyOf_28 ?_
    refine gx_aload_n C dJ13_copyOf_31 0 rfl ?_
    obtain ⟨rfl, rfl⟩ := Prod.mk.inj (Option.some.inj hf)
    exact gx_aret C rfl rfl dJ13_copyOf_32
theorem le_J13_copyOf {D : gx_D} {r : Option Nat} {hz : HX} {h : HX} {p0 : Option Nat} {p1 : Int32} (hf : f_J13_copyOf D h p0 p1 = some (r, hz)) : gx_le h hz := by
  unfold f_J13_copyOf at hf
  replace hf := gx_bs hf
  obtain ⟨a1, rfl, hf⟩ := hf
  replace hf := gx_bs hf
  obtain ⟨x2, g13, hf⟩ := hf
  replace hf := gx_ite hf
  rcases hf with ⟨c3, hf⟩ | ⟨c3, hf⟩
  · cases hf
  · replace hf := gx_b2s hf
    obtain ⟨a4, h5, g12, hf⟩ := hf
    refine (hx_le_newa g12).tr ?_
    replace hf := gx_bs hf
    obtain ⟨x6, g11, hf⟩ := hf
    replace hf := gx_bs hf
    obtain ⟨x8, g7, hf⟩ := hf
    replace hf := gx_bs hf
    obtain ⟨h9, g10, hf⟩ := hf
    refine (hx_le_cpy g10).tr ?_
    obtain ⟨rfl, rfl⟩ := Prod.mk.inj (Option.some.inj hf)
    exact gx_le.rf
theorem w_J13_copyOf {l : Launch} (hlt : l.stackTraces = false) {D : gx_D} {h : HX} {p0 : Option Nat} {p1 : Int32} {r : Option Nat} {hz : HX} (hf : f_J13_copyOf D h p0 p1 = some (r, hz)) : gx_Met l yJ13_copyOf cJ13_copyOf 3 (some (.array .byte)) 2 64 D [(va_rf p0), (.int p1)] h (some (va_rf r)) hz :=
  gx_ofG gz_136 (by simp only [gx_lsr, gx_lsi, gx_lsj, gx_ls0]; decide) (le_J13_copyOf hf) (fun p e R s m args below meth c C hx => by
    simp only [gx_lar, gx_lai, gx_laj, gx_la0, Nat.reduceAdd]
    exact w_J13_copyOf_b hlt C hx hf)
def f_J7_ensureCapacityInternal (D : gx_D) (h : HX) (a0 : Nat) (p1 : Int32) : Option HX :=
  (hx_is h a0 [1]).bind fun _ =>
  (hx_gr h a0 [1] 0).bind fun r1 =>
  r1.bind fun a2 =>
  (hx_len h a2).bind fun x3 =>
  (hx_gi h a0 [1] 1).bind fun x4 =>
  if (p1 - (x3 >>> (x4 &&& 31))) ≤ 0 then
  some h
  else
  (hx_gr h a0 [1] 0).bind fun r6 =>
  (f_J7_newCapacity D h a0 p1).bind fun x8 =>
  (hx_gi h a0 [1] 1).bind fun x9 =>
  gx_b2 (f_J13_copyOf D h r6 (x8 <<< (x9 &&& 31))) fun r11 h12 =>
  (hx_pr h12 a0 [1] 0 r11).bind fun h13 =>
  some h13
theorem is_J7_ensureCapacityInternal {D : gx_D} {h : HX} {a0 : Nat} {p1 : Int32} {z} (hf : f_J7_ensureCapacityInternal D h a0 p1 = some z) : gx_isC h a0 [1] := by
  unfold f_J7_ensureCapacityInternal at hf
  obtain ⟨_, g, -⟩ := gx_bs hf
  exact hx_is_of g
theorem w_J7_ensureCapacityInternal_b {l : Launch} (hlt : l.stackTraces = false) {p : Program} {e : Env} {R : Room} {s : State} {m : MethodId} {args : Array Value} {below : List Frame} {meth : Method} {c : Code} {D : gx_D} {h0 : HX} {hz : HX} (C : gx_Ctx p R s m args meth c "java/lang/AbstractStringBuilder" cJ7_ensureCapacityInternal 3 none 4 93 D h0 hz) (hx : meth.name = "ensureCapacityInternal") {a0 : Nat} {p1 : Int32} (hf : f_J7_ensureCapacityInternal D h0 a0 p1 = some hz) : gx_G p l e R s m args below meth c D h0 hz 3 (gx_MQ below args s D h0 hz none) 0 [(0, (va_rf (some a0))), (1, (.int p1))] [] h0 := by
  unfold f_J7_ensureCapacityInternal at hf
  replace hf := gx_bs hf
  obtain ⟨_, -, hf⟩ := hf
  refine gx_aload_n C dJ7_ensureCapacityInternal_0 0 rfl ?_
  replace hf := gx_bs hf
  obtain ⟨r1, g19, hf⟩ := hf
  refine gx_gr C g19 gz_69 q289 dJ7_ensureCapacityInternal_1 ?_
  replace hf := gx_bs hf
  obtain ⟨a2, rfl, hf⟩ := hf
  replace hf := gx_bs hf
  obtain ⟨x3, g18, hf⟩ := hf
  refine gx_alen C g18 dJ7_ensureCapacityInternal_4 ?_
  refine gx_aload_n C dJ7_ensureCapacityInternal_5 0 rfl ?_
  replace hf := gx_bs hf
  obtain ⟨x4, g17, hf⟩ := hf
  refine gx_gi C g17 gz_71 q290 dJ7_ensureCapacityInternal_6 ?_
  refine gx_ishr C dJ7_ensureCapacityInternal_9 ?_
  refine gx_istn C dJ7_ensureCapacityInternal_10 2 rfl (by decide) [0, 1]  rfl (gx_okn rfl rfl (gx_okr rfl gx_catv_i gx_ok0)) ?_
  refine gx_iload_n C dJ7_ensureCapacityInternal_11 2 rfl ?_
  refine gx_iload_n C dJ7_ensureCapacityInternal_12 0 rfl ?_
  refine gx_isub C dJ7_ensureCapacityInternal_13 ?_
  replace hf := gx_ite hf
  rcases hf with ⟨c5, hf⟩ | ⟨c5, hf⟩
  · refine gx_if_le_t (tgt := 38) C dJ7_ensureCapacityInternal_14 rfl c5 ?_
    obtain rfl := Option.some.inj hf
    exact gx_vret C dJ7_ensureCapacityInternal_38
  · refine gx_if_le_f (tgt := 38) C dJ7_ensureCapacityInternal_14 rfl c5 ?_
    refine gx_aload_n C dJ7_ensureCapacityInternal_17 1 rfl ?_
    refine gx_aload_n C dJ7_ensureCapacityInternal_18 1 rfl ?_
    replace hf := gx_bs hf
    obtain ⟨r6, g16, hf⟩ := hf
    refine gx_gr C g16 gz_69 q289 dJ7_ensureCapacityInternal_19 ?_
    refine gx_aload_n C dJ7_ensureCapacityInternal_22 1 rfl ?_
    refine gx_iload_n C dJ7_ensureCapacityInternal_23 2 rfl ?_
    replace hf := gx_bs hf
    obtain ⟨x8, g7, hf⟩ := hf
    refine gx_callU (st := [(va_rf r6), (va_rf (some a0))]) C (w_J7_newCapacity hlt g7) (is_J7_newCapacity g7) q320 q3265 (va_Decl.of (C.hts _ q322) (C.hts _ q323)) ⟨by decide, by decide⟩ (gx_cis1 gz_113 (gx_priv C 8 rfl) gx_cis0) q322 q132 q323 gz_137 (by decide) rfl rfl (gx_catn (Nat.le_of_ble_eq_true rfl)) dJ7_ensureCapacityInternal_24 ?_
    refine gx_aload_n C dJ7_ensureCapacityInternal_27 1 rfl ?_
    replace hf := gx_bs hf
    obtain ⟨x9, g15, hf⟩ := hf
    refine gx_gi C g15 gz_71 q290 dJ7_ensureCapacityInternal_28 ?_
    refine gx_ishl C dJ7_ensureCapacityInternal_31 ?_
    replace hf := gx_b2s hf
    obtain ⟨r11, h12, g10, hf⟩ := hf
    refine gx_callS (st := [(va_rf (some a0))]) C (w_J13_copyOf hlt g10) (lw_S q335 q336 q138 q337) gz_138 (by decide) rfl rfl (gx_catn (Nat.le_of_ble_eq_true rfl)) dJ7_ensureCapacityInternal_32 ?_
    replace hf := gx_bs hf
    obtain ⟨h13, g14, hf⟩ := hf
    refine gx_putv C g14 gz_69 gz_70 (gx_narrow_r rfl _).1 (gx_narrow_r rfl _).2 q289 dJ7_ensureCapacityInternal_35 ?_
    obtain rfl := Option.some.inj hf
    exact gx_vret C dJ7_ensureCapacityInternal_38
theorem le_J7_ensureCapacityInternal {D : gx_D} {hz : HX} {h : HX} {a0 : Nat} {p1 : Int32} (hf : f_J7_ensureCapacityInternal D h a0 p1 = some hz) : gx_le h hz := by
  unfold f_J7_ensureCapacityInternal at hf
  replace hf := gx_bs hf
  obtain ⟨_, -, hf⟩ := hf
  replace hf := gx_bs hf
  obtain ⟨r1, g19, hf⟩ := hf
  replace hf := gx_bs hf
  obtain ⟨a2, rfl, hf⟩ := hf
  replace hf := gx_bs hf
  obtain ⟨x3, g18, hf⟩ := hf
  replace hf := gx_bs hf
  obtain ⟨x4, g17, hf⟩ := hf
  replace hf := gx_ite hf
  rcases hf with ⟨c5, hf⟩ | ⟨c5, hf⟩
  · obtain rfl := Option.some.inj hf
    exact gx_le.rf
  · replace hf := gx_bs hf
    obtain ⟨r6, g16, hf⟩ := hf
    replace hf := gx_bs hf
    obtain ⟨x8, g7, hf⟩ := hf
    replace hf := gx_bs hf
    obtain ⟨x9, g15, hf⟩ := hf
    replace hf := gx_b2s hf
    obtain ⟨r11, h12, g10, hf⟩ := hf
    refine (le_J13_copyOf g10).tr ?_
    replace hf := gx_bs hf
    obtain ⟨h13, g14, hf⟩ := hf
    refine (hx_le_pv g14).tr ?_
    obtain rfl := Option.some.inj hf
    exact gx_le.rf
theorem w_J7_ensureCapacityInternal {l : Launch} (hlt : l.stackTraces = false) {D : gx_D} {h : HX} {a0 : Nat} {p1 : Int32} {hz : HX} (hf : f_J7_ensureCapacityInternal D h a0 p1 = some hz) : gx_Met l yJ7_ensureCapacityInternal cJ7_ensureCapacityInternal 3 none 4 93 D [(va_rf (some a0)), (.int p1)] h none hz :=
  gx_ofG gz_73 (by simp only [gx_lsr, gx_lsi, gx_lsj, gx_ls0]; decide) (le_J7_ensureCapacityInternal hf) (fun p e R s m args below meth c C hx => by
    simp only [gx_lar, gx_lai, gx_laj, gx_la0, Nat.reduceAdd]
    exact w_J7_ensureCapacityInternal_b hlt C hx hf)
def f_J7_isLatin1 (D : gx_D) (h : HX) (a0 : Nat) : Option Bool :=
  (hx_is h a0 [1]).bind fun _ =>
  (hx_gi h a0 [1] 1).bind fun x1 =>
  if x1 = 0 then
  some true
  else
  some false
theorem is_J7_isLatin1 {D : gx_D} {h : HX} {a0 : Nat} {z} (hf : f_J7_isLatin1 D h a0 = some z) : gx_isC h a0 [1] := by
  unfold f_J7_isLatin1 at hf
  obtain ⟨_, g, -⟩ := gx_bs hf
  exact hx_is_of g
theorem w_J7_isLatin1_b {l : Launch} (hlt : l.stackTraces = false) {p : Program} {e : Env} {R : Room} {s : State} {m : MethodId} {args : Array Value} {below : List Frame} {meth : Method} {c : Code} {D : gx_D} {h0 : HX} {r : Bool} (C : gx_Ctx p R s m args meth c "java/lang/AbstractStringBuilder" cJ7_isLatin1 1 (some .boolean) 1 24 D h0 h0) (hx : meth.name = "isLatin1") {a0 : Nat} (hf : f_J7_isLatin1 D h0 a0 = some r) : gx_G p l e R s m args below meth c D h0 h0 1 (gx_MQ below args s D h0 h0 (some (.int (b2i r)))) 0 [(0, (va_rf (some a0)))] [] h0 := by
  unfold f_J7_isLatin1 at hf
  replace hf := gx_bs hf
  obtain ⟨_, -, hf⟩ := hf
  refine gx_stati C 20 rfl q280 dJ7_isLatin1_0 ?_
  refine gx_if_eq_f (tgt := 17) C dJ7_isLatin1_3 rfl (by decide) ?_
  refine gx_aload_n C dJ7_isLatin1_6 0 rfl ?_
  replace hf := gx_bs hf
  obtain ⟨x1, g3, hf⟩ := hf
  refine gx_gi C g3 gz_71 q290 dJ7_isLatin1_7 ?_
  replace hf := gx_ite hf
  rcases hf with ⟨c2, hf⟩ | ⟨c2, hf⟩
  · refine gx_if_ne_f (tgt := 17) C dJ7_isLatin1_10 rfl c2 ?_
    refine gx_iconst (v := 1) C dJ7_isLatin1_13 rfl ?_
    refine gx_goto (tgt := 18) C dJ7_isLatin1_14 rfl ?_
    obtain rfl := Option.some.inj hf
    exact gx_zret (b := true) C dJ7_isLatin1_18
  · refine gx_if_ne_t (tgt := 17) C dJ7_isLatin1_10 rfl c2 ?_
    refine gx_iconst (v := 0) C dJ7_isLatin1_17 rfl ?_
    obtain rfl := Option.some.inj hf
    exact gx_zret (b := false) C dJ7_isLatin1_18
theorem w_J7_isLatin1 {l : Launch} (hlt : l.stackTraces = false) {D : gx_D} {h : HX} {a0 : Nat} {r : Bool} (hf : f_J7_isLatin1 D h a0 = some r) : gx_Met l yJ7_isLatin1 cJ7_isLatin1 1 (some .boolean) 1 24 D [(va_rf (some a0))] h (some (.int (b2i r))) h :=
  gx_ofG gz_73 (by simp only [gx_lsr, gx_lsi, gx_lsj, gx_ls0]; decide) gx_le.rf (fun p e R s m args below meth c C hx => by
    simp only [gx_lar, gx_lai, gx_laj, gx_la0, Nat.reduceAdd]
    exact w_J7_isLatin1_b hlt C hx hf)
def f_J15_canEncode (D : gx_D) (h : HX) (p0 : Int32) : Option Bool :=
  if (255 : Int32) < p0 then
  some false
  else
  some true
theorem w_J15_canEncode_b {l : Launch} (hlt : l.stackTraces = false) {p : Program} {e : Env} {R : Room} {s : State} {m : MethodId} {args : Array Value} {below : List Frame} {meth : Method} {c : Code} {D : gx_D} {h0 : HX} {r : Bool} (C : gx_Ctx p R s m args meth c "java/lang/StringLatin1" cJ15_canEncode 1 (some .boolean) 1 24 D h0 h0) (hx : meth.name = "canEncode") {p0 : Int32} (hf : f_J15_canEncode D h0 p0 = some r) : gx_G p l e R s m args below meth c D h0 h0 1 (gx_MQ below args s D h0 h0 (some (.int (b2i r)))) 0 [(0, (.int p0))] [] h0 := by
  unfold f_J15_canEncode at hf
  refine gx_iload_n C dJ15_canEncode_0 0 rfl ?_
  refine gx_sipush (v := 255) C dJ15_canEncode_1 rfl ?_
  replace hf := gx_ite hf
  rcases hf with ⟨c1, hf⟩ | ⟨c1, hf⟩
  · refine gx_icmp_gt_t (tgt := 11) C dJ15_canEncode_4 rfl c1 ?_
    refine gx_iconst (v := 0) C dJ15_canEncode_11 rfl ?_
    obtain rfl := Option.some.inj hf
    exact gx_zret (b := false) C dJ15_canEncode_12
  · refine gx_icmp_gt_f (tgt := 11) C dJ15_canEncode_4 rfl c1 ?_
    refine gx_iconst (v := 1) C dJ15_canEncode_7 rfl ?_
    refine gx_goto (tgt := 12) C dJ15_canEncode_8 rfl ?_
    obtain rfl := Option.some.inj hf
    exact gx_zret (b := true) C dJ15_canEncode_12
theorem w_J15_canEncode {l : Launch} (hlt : l.stackTraces = false) {D : gx_D} {h : HX} {p0 : Int32} {r : Bool} (hf : f_J15_canEncode D h p0 = some r) : gx_Met l yJ15_canEncode cJ15_canEncode 1 (some .boolean) 1 24 D [(.int p0)] h (some (.int (b2i r))) h :=
  gx_ofG gz_139 (by simp only [gx_lsr, gx_lsi, gx_lsj, gx_ls0]; decide) gx_le.rf (fun p e R s m args below meth c C hx => by
    simp only [gx_lar, gx_lai, gx_laj, gx_la0, Nat.reduceAdd]
    exact w_J15_canEncode_b hlt C hx hf)
def f_J7_append_3_b45 (D : gx_D) (h : HX) (v0 : Nat) (v1 : Int32) : Option ((Option Nat) × HX) :=
  (f_J7_isLatin1 D h v0).bind fun b20 =>
  if b20 = true then
  none
  else
  (hx_gr h v0 [1] 0).bind fun r22 =>
  (hx_gi h v0 [1] 3).bind fun x23 =>
  (hx_pi h v0 [1] 3 (x23 + (1 : Int32))).bind fun h24 =>
  none
theorem w_J7_append_3_b45 {l : Launch} (hlt : l.stackTraces = false) {p : Program} {e : Env} {R : Room} {s : State} {m : MethodId} {args : Array Value} {below : List Frame} {meth : Method} {c : Code} {D : gx_D} {h0 : HX} {r : Option Nat} {hz : HX} (C : gx_Ctx p R s m args meth c "java/lang/AbstractStringBuilder" cJ7_append_3 2 (some (.object "java/lang/AbstractStringBuilder")) 5 115 D h0 hz) (hx : meth.name = "append")  {h : HX} {v0 : Nat} {v1 : Int32} (hf : f_J7_append_3_b45 D h v0 v1 = some (r, hz)) : gx_G p l e R s m args below meth c D h0 hz 2 (gx_MQ below args s D h0 hz (some (va_rf r))) 45 [(0, (va_rf (some v0))), (1, (.int v1))] [] h := by
  unfold f_J7_append_3_b45 at hf
  refine gx_aload_n C dJ7_append_3_45 0 rfl ?_
  replace hf := gx_bs hf
  obtain ⟨b20, g19, hf⟩ := hf
  refine gx_callU (st := []) C (w_J7_isLatin1 hlt g19) (is_J7_isLatin1 g19) q349 q351 (va_Decl.of (C.hts _ q350) (C.hts _ q353)) ⟨by decide, by decide⟩ (gx_cis1 gz_113 (C.hts _ q352) gx_cis0) q350 q132 q353 gz_142 (by decide) rfl rfl (gx_catn (Nat.le_of_ble_eq_true rfl)) dJ7_append_3_46 ?_
  replace hf := gx_ite hf
  rcases hf with ⟨c21, hf⟩ | ⟨c21, hf⟩
  · refine gx_ifz_eq_f (tgt := 56) C dJ7_append_3_49 rfl c21 ?_
    refine gx_aload_n C dJ7_append_3_52 0 rfl ?_
    cases hf
  · refine gx_ifz_eq_t (tgt := 56) C dJ7_append_3_49 rfl c21 ?_
    refine gx_aload_n C dJ7_append_3_56 0 rfl ?_
    replace hf := gx_bs hf
    obtain ⟨r22, g27, hf⟩ := hf
    refine gx_gr C g27 gz_69 q289 dJ7_append_3_57 ?_
    refine gx_aload_n C dJ7_append_3_60 0 rfl ?_
    refine gx_dup C dJ7_append_3_61 rfl ?_
    replace hf := gx_bs hf
    obtain ⟨x23, g26, hf⟩ := hf
    refine gx_gi C g26 gz_140 q293 dJ7_append_3_62 ?_
    refine gx_dup_x1 C dJ7_append_3_65 rfl rfl ?_
    refine gx_iconst (v := 1) C dJ7_append_3_66 rfl ?_
    refine gx_iadd C dJ7_append_3_67 ?_
    replace hf := gx_bs hf
    obtain ⟨h24, g25, hf⟩ := hf
    refine gx_putv C g25 gz_140 gz_1 rfl rfl q293 dJ7_append_3_68 ?_
    refine gx_iload_n C dJ7_append_3_71 1 rfl ?_
    cases hf
theorem le_J7_append_3_b45 {D : gx_D} {r : Option Nat} {hz : HX} {h : HX} {v0 : Nat} {v1 : Int32} (hf : f_J7_append_3_b45 D h v0 v1 = some (r, hz)) : gx_le h hz := by
  unfold f_J7_append_3_b45 at hf
  replace hf := gx_bs hf
  obtain ⟨b20, g19, hf⟩ := hf
  replace hf := gx_ite hf
  rcases hf with ⟨c21, hf⟩ | ⟨c21, hf⟩
  · cases hf
  · replace hf := gx_bs hf
    obtain ⟨r22, g27, hf⟩ := hf
    replace hf := gx_bs hf
    obtain ⟨x23, g26, hf⟩ := hf
    replace hf := gx_bs hf
    obtain ⟨h24, g25, hf⟩ := hf
    refine (hx_le_pv g25).tr ?_
    cases hf
def f_J7_append_3 (D : gx_D) (h : HX) (a0 : Nat) (p1 : Int32) : Option ((Option Nat) × HX) :=
  (hx_is h a0 [1]).bind fun _ =>
  (hx_gi h a0 [1] 3).bind fun x1 =>
  (f_J7_ensureCapacityInternal D h a0 (x1 + (1 : Int32))).bind fun h3 =>
  (f_J7_isLatin1 D h3 a0).bind fun b5 =>
  if b5 = true then
  (f_J15_canEncode D h3 p1).bind fun b8 =>
  if b8 = true then
  (hx_gr h3 a0 [1] 0).bind fun r10 =>
  (hx_gi h3 a0 [1] 3).bind fun x11 =>
  (hx_pi h3 a0 [1] 3 (x11 + (1 : Int32))).bind fun h12 =>
  r10.bind fun a13 =>
  (hx_sb h12 a13 x11 ((Int32.toInt8 p1).toInt32)).bind fun h14 =>
  some ((some a0), h14)
  else
  f_J7_append_3_b45 D h3 a0 p1
  else
  f_J7_append_3_b45 D h3 a0 p1
theorem is_J7_append_3 {D : gx_D} {h : HX} {a0 : Nat} {p1 : Int32} {z} (hf : f_J7_append_3 D h a0 p1 = some z) : gx_isC h a0 [1] := by
  unfold f_J7_append_3 at hf
  obtain ⟨_, g, -⟩ := gx_bs hf
  exact hx_is_of g
theorem w_J7_append_3_b {l : Launch} (hlt : l.stackTraces = false) {p : Program} {e : Env} {R : Room} {s : State} {m : MethodId} {args : Array Value} {below : List Frame} {meth : Method} {c : Code} {D : gx_D} {h0 : HX} {r : Option Nat} {hz : HX} (C : gx_Ctx p R s m args meth c "java/lang/AbstractStringBuilder" cJ7_append_3 2 (some (.object "java/lang/AbstractStringBuilder")) 5 115 D h0 hz) (hx : meth.name = "append") {a0 : Nat} {p1 : Int32} (hf : f_J7_append_3 D h0 a0 p1 = some (r, hz)) : gx_G p l e R s m args below meth c D h0 hz 2 (gx_MQ below args s D h0 hz (some (va_rf r))) 0 [(0, (va_rf (some a0))), (1, (.int p1))] [] h0 := by
  unfold f_J7_append_3 at hf
  replace hf := gx_bs hf
  obtain ⟨_, -, hf⟩ := hf
  refine gx_aload_n C dJ7_append_3_0 0 rfl ?_
  refine gx_aload_n C dJ7_append_3_1 0 rfl ?_
  replace hf := gx_bs hf
  obtain ⟨x1, g28, hf⟩ := hf
  refine gx_gi C g28 gz_140 q293 dJ7_append_3_2 ?_
  refine gx_iconst (v := 1) C dJ7_append_3_5 rfl ?_
  refine gx_iadd C dJ7_append_3_6 ?_
  replace hf := gx_bs hf
  obtain ⟨h3, g2, hf⟩ := hf
  refine gx_callU (st := []) C (w_J7_ensureCapacityInternal hlt g2) (is_J7_ensureCapacityInternal g2) q316 q3264 (va_Decl.of (C.hts _ q318) (C.hts _ q319)) ⟨by decide, by decide⟩ (gx_cis1 gz_113 (gx_priv C 7 rfl) gx_cis0) q318 q132 q319 gz_141 (by decide) rfl rfl (gx_catn (Nat.le_of_ble_eq_true rfl)) dJ7_append_3_7 ?_
  refine gx_aload_n C dJ7_append_3_10 0 rfl ?_
  replace hf := gx_bs hf
  obtain ⟨b5, g4, hf⟩ := hf
  refine gx_callU (st := []) C (w_J7_isLatin1 hlt g4) (is_J7_isLatin1 g4) q349 q351 (va_Decl.of (C.hts _ q350) (C.hts _ q353)) ⟨by decide, by decide⟩ (gx_cis1 gz_113 (C.hts _ q352) gx_cis0) q350 q132 q353 gz_142 (by decide) rfl rfl (gx_catn (Nat.le_of_ble_eq_true rfl)) dJ7_append_3_11 ?_
  replace hf := gx_ite hf
  rcases hf with ⟨c6, hf⟩ | ⟨c6, hf⟩
  · refine gx_ifz_eq_f (tgt := 45) C dJ7_append_3_14 rfl c6 ?_
    refine gx_iload_n C dJ7_append_3_17 1 rfl ?_
    replace hf := gx_bs hf
    obtain ⟨b8, g7, hf⟩ := hf
    refine gx_callS (st := []) C (w_J15_canEncode hlt g7) (lw_S q1012 q1013 q141 q1014) gz_143 (by decide) rfl rfl (gx_catn (Nat.le_of_ble_eq_true rfl)) dJ7_append_3_18 ?_
    replace hf := gx_ite hf
    rcases hf with ⟨c9, hf⟩ | ⟨c9, hf⟩
    · refine gx_ifz_eq_f (tgt := 45) C dJ7_append_3_21 rfl c9 ?_
      refine gx_aload_n C dJ7_append_3_24 0 rfl ?_
      replace hf := gx_bs hf
      obtain ⟨r10, g18, hf⟩ := hf
      refine gx_gr C g18 gz_69 q289 dJ7_append_3_25 ?_
      refine gx_aload_n C dJ7_append_3_28 0 rfl ?_
      refine gx_dup C dJ7_append_3_29 rfl ?_
      replace hf := gx_bs hf
      obtain ⟨x11, g17, hf⟩ := hf
      refine gx_gi C g17 gz_140 q293 dJ7_append_3_30 ?_
      refine gx_dup_x1 C dJ7_append_3_33 rfl rfl ?_
      refine gx_iconst (v := 1) C dJ7_append_3_34 rfl ?_
      refine gx_iadd C dJ7_append_3_35 ?_
      replace hf := gx_bs hf
      obtain ⟨h12, g16, hf⟩ := hf
      refine gx_putv C g16 gz_140 gz_1 rfl rfl q293 dJ7_append_3_36 ?_
      refine gx_iload_n C dJ7_append_3_39 1 rfl ?_
      refine gx_i2b C dJ7_append_3_40 ?_
      replace hf := gx_bs hf
      obtain ⟨a13, rfl, hf⟩ := hf
      replace hf := gx_bs hf
      obtain ⟨h14, g15, hf⟩ := hf
      refine gx_bast C g15 dJ7_append_3_41 ?_
      refine gx_goto (tgt := 75) C dJ7_append_3_42 rfl ?_
      refine gx_aload_n C dJ7_append_3_75 0 rfl ?_
      obtain ⟨rfl, rfl⟩ := Prod.mk.inj (Option.some.inj hf)
      exact gx_aret C rfl rfl dJ7_append_3_76
    · refine gx_ifz_eq_t (tgt := 45) C dJ7_append_3_21 rfl c9 ?_
      refine gx_sub [0, 1] rfl ?_
      exact w_J7_append_3_b45 hlt C hx hf
  · refine gx_ifz_eq_t (tgt := 45) C dJ7_append_3_14 rfl c6 ?_
    refine gx_sub [0, 1] rfl ?_
    exact w_J7_append_3_b45 hlt C hx hf
theorem le_J7_append_3 {D : gx_D} {r : Option Nat} {hz : HX} {h : HX} {a0 : Nat} {p1 : Int32} (hf : f_J7_append_3 D h a0 p1 = some (r, hz)) : gx_le h hz := by
  unfold f_J7_append_3 at hf
  replace hf := gx_bs hf
  obtain ⟨_, -, hf⟩ := hf
  replace hf := gx_bs hf
  obtain ⟨x1, g28, hf⟩ := hf
  replace hf := gx_bs hf
  obtain ⟨h3, g2, hf⟩ := hf
  refine (le_J7_ensureCapacityInternal g2).tr ?_
  replace hf := gx_bs hf
  obtain ⟨b5, g4, hf⟩ := hf
  replace hf := gx_ite hf
  rcases hf with ⟨c6, hf⟩ | ⟨c6, hf⟩
  · replace hf := gx_bs hf
    obtain ⟨b8, g7, hf⟩ := hf
    replace hf := gx_ite hf
    rcases hf with ⟨c9, hf⟩ | ⟨c9, hf⟩
    · replace hf := gx_bs hf
      obtain ⟨r10, g18, hf⟩ := hf
      replace hf := gx_bs hf
      obtain ⟨x11, g17, hf⟩ := hf
      replace hf := gx_bs hf
      obtain ⟨h12, g16, hf⟩ := hf
      refine (hx_le_pv g16).tr ?_
      replace hf := gx_bs hf
      obtain ⟨a13, rfl, hf⟩ := hf
      replace hf := gx_bs hf
      obtain ⟨h14, g15, hf⟩ := hf
      refine (hx_le_sb g15).tr ?_
      obtain ⟨rfl, rfl⟩ := Prod.mk.inj (Option.some.inj hf)
      exact gx_le.rf
    · exact le_J7_append_3_b45 hf
  · exact le_J7_append_3_b45 hf
theorem w_J7_append_3 {l : Launch} (hlt : l.stackTraces = false) {D : gx_D} {h : HX} {a0 : Nat} {p1 : Int32} {r : Option Nat} {hz : HX} (hf : f_J7_append_3 D h a0 p1 = some (r, hz)) : gx_Met l yJ7_append_3 cJ7_append_3 2 (some (.object "java/lang/AbstractStringBuilder")) 5 115 D [(va_rf (some a0)), (.int p1)] h (some (va_rf r)) hz :=
  gx_ofG gz_73 (by simp only [gx_lsr, gx_lsi, gx_lsj, gx_ls0]; decide) (le_J7_append_3 hf) (fun p e R s m args below meth c C hx => by
    simp only [gx_lar, gx_lai, gx_laj, gx_la0, Nat.reduceAdd]
    exact w_J7_append_3_b hlt C hx hf)
def f_J8_append_3 (D : gx_D) (h : HX) (a0 : Nat) (p1 : Int32) : Option ((Option Nat) × HX) :=
  (hx_is h a0 [1]).bind fun _ =>
  gx_b2 (f_J7_append_3 D h a0 p1) fun r2 h3 =>
  some ((some a0), h3)
theorem is_J8_append_3 {D : gx_D} {h : HX} {a0 : Nat} {p1 : Int32} {z} (hf : f_J8_append_3 D h a0 p1 = some z) : gx_isC h a0 [1] := by
  unfold f_J8_append_3 at hf
  obtain ⟨_, g, -⟩ := gx_bs hf
  exact hx_is_of g
theorem w_J8_append_3_b {l : Launch} (hlt : l.stackTraces = false) {p : Program} {e : Env} {R : Room} {s : State} {m : MethodId} {args : Array Value} {below : List Frame} {meth : Method} {c : Code} {D : gx_D} {h0 : HX} {r : Option Nat} {hz : HX} (C : gx_Ctx p R s m args meth c "java/lang/StringBuilder" cJ8_append_3 2 (some (.object "java/lang/StringBuilder")) 6 136 D h0 hz) (hx : meth.name = "append") {a0 : Nat} {p1 : Int32} (hf : f_J8_append_3 D h0 a0 p1 = some (r, hz)) : gx_G p l e R s m args below meth c D h0 hz 2 (gx_MQ below args s D h0 hz (some (va_rf r))) 0 [(0, (va_rf (some a0))), (1, (.int p1))] [] h0 := by
  unfold f_J8_append_3 at hf
  replace hf := gx_bs hf
  obtain ⟨_, -, hf⟩ := hf
  refine gx_aload_n C dJ8_append_3_0 0 rfl ?_
  refine gx_iload_n C dJ8_append_3_1 1 rfl ?_
  replace hf := gx_b2s hf
  obtain ⟨r2, h3, g1, hf⟩ := hf
  refine gx_callSU (st := []) C (w_J7_append_3 hlt g1) (is_J7_append_3 g1) q1009 q3273 q302 q1010 q132 q1011 (by decide) gz_144 (by decide) rfl rfl (gx_catn (Nat.le_of_ble_eq_true rfl)) dJ8_append_3_2 ?_
  refine gx_pop C dJ8_append_3_5 (gx_rfcat _) ?_
  refine gx_aload_n C dJ8_append_3_6 0 rfl ?_
  obtain ⟨rfl, rfl⟩ := Prod.mk.inj (Option.some.inj hf)
  exact gx_aret C rfl rfl dJ8_append_3_7
theorem le_J8_append_3 {D : gx_D} {r : Option Nat} {hz : HX} {h : HX} {a0 : Nat} {p1 : Int32} (hf : f_J8_append_3 D h a0 p1 = some (r, hz)) : gx_le h hz := by
  unfold f_J8_append_3 at hf
  replace hf := gx_bs hf
  obtain ⟨_, -, hf⟩ := hf
  replace hf := gx_b2s hf
  obtain ⟨r2, h3, g1, hf⟩ := hf
  refine (le_J7_append_3 g1).tr ?_
  obtain ⟨rfl, rfl⟩ := Prod.mk.inj (Option.some.inj hf)
  exact gx_le.rf
theorem w_J8_append_3 {l : Launch} (hlt : l.stackTraces = false) {D : gx_D} {h : HX} {a0 : Nat} {p1 : Int32} {r : Option Nat} {hz : HX} (hf : f_J8_append_3 D h a0 p1 = some (r, hz)) : gx_Met l yJ8_append_3 cJ8_append_3 2 (some (.object "java/lang/StringBuilder")) 6 136 D [(va_rf (some a0)), (.int p1)] h (some (va_rf r)) hz :=
  gx_ofG gz_75 (by simp only [gx_lsr, gx_lsi, gx_lsj, gx_ls0]; decide) (le_J8_append_3 hf) (fun p e R s m args below meth c C hx => by
    simp only [gx_lar, gx_lai, gx_laj, gx_la0, Nat.reduceAdd]
    exact w_J8_append_3_b hlt C hx hf)
def f_J7_getValue (D : gx_D) (h : HX) (a0 : Nat) : Option (Option Nat) :=
  (hx_is h a0 [1]).bind fun _ =>
  (hx_gr h a0 [1] 0).bind fun r1 =>
  some r1
theorem is_J7_getValue {D : gx_D} {h : HX} {a0 : Nat} {z} (hf : f_J7_getValue D h a0 = some z) : gx_isC h a0 [1] := by
  unfold f_J7_getValue at hf
  obtain ⟨_, g, -⟩ := gx_bs hf
  exact hx_is_of g
theorem w_J7_getValue_b {l : Launch} (hlt : l.stackTraces = false) {p : Program} {e : Env} {R : Room} {s : State} {m : MethodId} {args : Array Value} {below : List Frame} {meth : Method} {c : Code} {D : gx_D} {h0 : HX} {r : Option Nat} (C : gx_Ctx p R s m args meth c "java/lang/AbstractStringBuilder" cJ7_getValue 1 (some (.array .byte)) 1 24 D h0 h0) (hx : meth.name = "getValue") {a0 : Nat} (hf : f_J7_getValue D h0 a0 = some r) : gx_G p l e R s m args below meth c D h0 h0 1 (gx_MQ below args s D h0 h0 (some (va_rf r))) 0 [(0, (va_rf (some a0)))] [] h0 := by
  unfold f_J7_getValue at hf
  replace hf := gx_bs hf
  obtain ⟨_, -, hf⟩ := hf
  refine gx_aload_n C dJ7_getValue_0 0 rfl ?_
  replace hf := gx_bs hf
  obtain ⟨r1, g2, hf⟩ := hf
  refine gx_gr C g2 gz_69 q289 dJ7_getValue_1 ?_
  obtain rfl := Option.some.inj hf
  exact gx_aret C rfl rfl dJ7_getValue_4
theorem w_J7_getValue {l : Launch} (hlt : l.stackTraces = false) {D : gx_D} {h : HX} {a0 : Nat} {r : Option Nat} (hf : f_J7_getValue D h a0 = some r) : gx_Met l yJ7_getValue cJ7_getValue 1 (some (.array .byte)) 1 24 D [(va_rf (some a0))] h (some (va_rf r)) h :=
  gx_ofG gz_73 (by simp only [gx_lsr, gx_lsi, gx_lsj, gx_ls0]; decide) gx_le.rf (fun p e R s m args below meth c C hx => by
    simp only [gx_lar, gx_lai, gx_laj, gx_la0, Nat.reduceAdd]
    exact w_J7_getValue_b hlt C hx hf)
def f_J7_length (D : gx_D) (h : HX) (a0 : Nat) : Option Int32 :=
  (hx_is h a0 [1]).bind fun _ =>
  (hx_gi h a0 [1] 3).bind fun x1 =>
  some x1
theorem is_J7_length {D : gx_D} {h : HX} {a0 : Nat} {z} (hf : f_J7_length D h a0 = some z) : gx_isC h a0 [1] := by
  unfold f_J7_length at hf
  obtain ⟨_, g, -⟩ := gx_bs hf
  exact hx_is_of g
theorem w_J7_length_b {l : Launch} (hlt : l.stackTraces = false) {p : Program} {e : Env} {R : Room} {s : State} {m : MethodId} {args : Array Value} {below : List Frame} {meth : Method} {c : Code} {D : gx_D} {h0 : HX} {r : Int32} (C : gx_Ctx p R s m args meth c "java/lang/AbstractStringBuilder" cJ7_length 1 (some .int) 1 24 D h0 h0) (hx : meth.name = "length") {a0 : Nat} (hf : f_J7_length D h0 a0 = some r) : gx_G p l e R s m args below meth c D h0 h0 1 (gx_MQ below args s D h0 h0 (some (.int r))) 0 [(0, (va_rf (some a0)))] [] h0 := by
  unfold f_J7_length at hf
  replace hf := gx_bs hf
  obtain ⟨_, -, hf⟩ := hf
  refine gx_aload_n C dJ7_length_0 0 rfl ?_
  replace hf := gx_bs hf
  obtain ⟨x1, g2, hf⟩ := hf
  refine gx_gi C g2 gz_140 q293 dJ7_length_1 ?_
  obtain rfl := Option.some.inj hf
  exact gx_iret C dJ7_length_4
theorem w_J7_length {l : Launch} (hlt : l.stackTraces = false) {D : gx_D} {h : HX} {a0 : Nat} {r : Int32} (hf : f_J7_length D h a0 = some r) : gx_Met l yJ7_length cJ7_length 1 (some .int) 1 24 D [(va_rf (some a0))] h (some (.int r)) h :=
  gx_ofG gz_73 (by simp only [gx_lsr, gx_lsi, gx_lsj, gx_ls0]; decide) gx_le.rf (fun p e R s m args below meth c C hx => by
    simp only [gx_lar, gx_lai, gx_laj, gx_la0, Nat.reduceAdd]
    exact w_J7_length_b hlt C hx hf)
def f_J8_length (D : gx_D) (h : HX) (a0 : Nat) : Option Int32 :=
  (hx_is h a0 [1]).bind fun _ =>
  (f_J7_length D h a0).bind fun x2 =>
  some x2
theorem is_J8_length {D : gx_D} {h : HX} {a0 : Nat} {z} (hf : f_J8_length D h a0 = some z) : gx_isC h a0 [1] := by
  unfold f_J8_length at hf
  obtain ⟨_, g, -⟩ := gx_bs hf
  exact hx_is_of g
theorem w_J8_length_b {l : Launch} (hlt : l.stackTraces = false) {p : Program} {e : Env} {R : Room} {s : State} {m : MethodId} {args : Array Value} {below : List Frame} {meth : Method} {c : Code} {D : gx_D} {h0 : HX} {r : Int32} (C : gx_Ctx p R s m args meth c "java/lang/StringBuilder" cJ8_length 1 (some .int) 2 44 D h0 h0) (hx : meth.name = "length") {a0 : Nat} (hf : f_J8_length D h0 a0 = some r) : gx_G p l e R s m args below meth c D h0 h0 1 (gx_MQ below args s D h0 h0 (some (.int r))) 0 [(0, (va_rf (some a0)))] [] h0 := by
  unfold f_J8_length at hf
  replace hf := gx_bs hf
  obtain ⟨_, -, hf⟩ := hf
  refine gx_aload_n C dJ8_length_0 0 rfl ?_
  replace hf := gx_bs hf
  obtain ⟨x2, g1, hf⟩ := hf
  refine gx_callSU (st := []) C (w_J7_length hlt g1) (is_J7_length g1) q472 q468 q302 q467 q132 q473 (by decide) gz_145 (by decide) rfl rfl (gx_catn (Nat.le_of_ble_eq_true rfl)) dJ8_length_1 ?_
  obtain rfl := Option.some.inj hf
  exact gx_iret C dJ8_length_4
theorem w_J8_length {l : Launch} (hlt : l.stackTraces = false) {D : gx_D} {h : HX} {a0 : Nat} {r : Int32} (hf : f_J8_length D h a0 = some r) : gx_Met l yJ8_length cJ8_length 1 (some .int) 2 44 D [(va_rf (some a0))] h (some (.int r)) h :=
  gx_ofG gz_75 (by simp only [gx_lsr, gx_lsi, gx_lsj, gx_ls0]; decide) gx_le.rf (fun p e R s m args below meth c C hx => by
    simp only [gx_lar, gx_lai, gx_laj, gx_la0, Nat.reduceAdd]
    exact w_J8_length_b hlt C hx hf)
def f_J13_checkLength (D : gx_D) (h : HX) (p0 : Int32) (p1 : Int32) : Option Unit :=
  if p0 ≤ p1 then
  some ()
  else
  none
theorem w_J13_checkLength_b {l : Launch} (hlt : l.stackTraces = false) {p : Program} {e : Env} {R : Room} {s : State} {m : MethodId} {args : Array Value} {below : List Frame} {meth : Method} {c : Code} {D : gx_D} {h0 : HX} {r : Unit} (C : gx_Ctx p R s m args meth c "java/util/Arrays" cJ13_checkLength 2 none 1 24 D h0 h0) (hx : meth.name = "checkLength") {p0 : Int32} {p1 : Int32} (hf : f_J13_checkLength D h0 p0 p1 = some r) : gx_G p l e R s m args below meth c D h0 h0 2 (gx_MQ below args s D h0 h0 none) 0 [(0, (.int p0)), (1, (.int p1))] [] h0 := by
  unfold f_J13_checkLength at hf
  refine gx_iload_n C dJ13_checkLength_0 1 rfl ?_
  refine gx_iload_n C dJ13_checkLength_1 0 rfl ?_
  replace hf := gx_ite hf
  rcases hf with ⟨c1, hf⟩ | ⟨c1, hf⟩
  · refine gx_icmp_ge_t (tgt := 37) C dJ13_checkLength_2 rfl c1 ?_
    obtain rfl := Option.some.inj hf
    exact gx_vret C dJ13_checkLength_37
  · refine gx_icmp_ge_f (tgt := 37) C dJ13_checkLength_2 rfl c1 ?_
    cases hf
theorem w_J13_checkLength {l : Launch} (hlt : l.stackTraces = false) {D : gx_D} {h : HX} {p0 : Int32} {p1 : Int32} {r : Unit} (hf : f_J13_checkLength D h p0 p1 = some r) : gx_Met l yJ13_checkLength cJ13_checkLength 2 none 1 24 D [(.int p0), (.int p1)] h none h :=
  gx_ofG gz_136 (by simp only [gx_lsr, gx_lsi, gx_lsj, gx_ls0]; decide) gx_le.rf (fun p e R s m args below meth c C hx => by
    simp only [gx_lar, gx_lai, gx_laj, gx_la0, Nat.reduceAdd]
    exact w_J13_checkLength_b hlt C hx hf)
def f_J13_copyOfRangeByte (D : gx_D) (h : HX) (p0 : Option Nat) (p1 : Int32) (p2 : Int32) : Option ((Option Nat) × HX) :=
  (f_J13_checkLength D h p1 p2).bind fun u12 =>
  gx_b2 (hx_newa h 1 (p2 - p1) (fun _ => .inl fun _ => 0)) fun a2 h3 =>
  p0.bind fun a4 =>
  (hx_len h3 a4).bind fun x5 =>
  (f_J12_min D h3 (x5 - p1) (p2 - p1)).bind fun x7 =>
  (hx_cpy h3 a4 p1 a2 (0 : Int32) x7).bind fun h8 =>
  some ((some a2), h8)
theorem w_J13_copyOfRangeByte_b {l : Launch} (hlt : l.stackTraces = false) {p : Program} {e : Env} {R : Room} {s : State} {m : MethodId} {args : Array Value} {below : List Frame} {meth : Method} {c : Code} {D : gx_D} {h0 : HX} {r : Option Nat} {hz : HX} (C : gx_Ctx p R s m args meth c "java/util/Arrays" cJ13_copyOfRangeByte 5 (some (.array .byte)) 2 64 D h0 hz) (hx : meth.name = "copyOfRangeByte") {p0 : Option Nat} {p1 : Int32} {p2 : Int32} (hf : f_J13_copyOfRangeByte D h0 p0 p1 p2 = some (r, hz)) : gx_G p l e R s m args below meth c D h0 hz 5 (gx_MQ below args s D h0 hz (some (va_rf r))) 0 [(0, (va_rf p0)), (1, (.int p1)), (2, (.int p2))] [] h0 := by
  unfold f_J13_copyOfRangeByte at hf
  refine gx_iload_n C dJ13_copyOfRangeByte_0 1 rfl ?_
  refine gx_iload_n C dJ13_copyOfRangeByte_1 2 rfl ?_
  replace hf := gx_bs hf
  obtain ⟨u12, g1, hf⟩ := hf
  refine gx_callS (st := []) C (w_J13_checkLength hlt g1) (lw_S q481 q482 q138 q483) gz_146 (by decide) rfl rfl (gx_catn (Nat.le_of_ble_eq_true rfl)) dJ13_copyOfRangeByte_2 ?_
  refine gx_iload_n C dJ13_copyOfRangeByte_5 2 rfl ?_
  refine gx_iload_n C dJ13_copyOfRangeByte_6 1 rfl ?_
  refine gx_isub C dJ13_copyOfRangeByte_7 ?_
  refine gx_istn C dJ13_copyOfRangeByte_8 3 rfl (by decide) [0, 1]  rfl (gx_okn rfl rfl (gx_okn rfl rfl gx_ok0)) ?_
  refine gx_iload_n C dJ13_copyOfRangeByte_9 0 rfl ?_
  replace hf := gx_b2s hf
  obtain ⟨a2, h3, g11, hf⟩ := hf
  refine gx_newarr_byte C g11 q303 dJ13_copyOfRangeByte_10 ?_
  refine gx_ast C dJ13_copyOfRangeByte_12 (by decide) [0, 1, 2]  rfl (gx_okr rfl gx_catv_i (gx_okn rfl rfl (gx_okn rfl rfl gx_ok0))) ?_
  refine gx_aload_n C dJ13_copyOfRangeByte_14 2 rfl ?_
  refine gx_iload_n C dJ13_copyOfRangeByte_15 3 rfl ?_
  refine gx_aload C dJ13_copyOfRangeByte_16 0 rfl ?_
  refine gx_iconst (v := 0) C dJ13_copyOfRangeByte_18 rfl ?_
  refine gx_aload_n C dJ13_copyOfRangeByte_19 2 rfl ?_
  replace hf := gx_bs hf
  obtain ⟨a4, rfl, hf⟩ := hf
  replace hf := gx_bs hf
  obtain ⟨x5, g10, hf⟩ := hf
  refine gx_alen C g10 dJ13_copyOfRangeByte_20 ?_
  refine gx_iload_n C dJ13_copyOfRangeByte_21 3 rfl ?_
  refine gx_isub C dJ13_copyOfRangeByte_22 ?_
  refine gx_iload_n C dJ13_copyOfRangeByte_23 1 rfl ?_
  replace hf := gx_bs hf
  obtain ⟨x7, g6, hf⟩ := hf
  refine gx_callS (st := [(.int (0 : Int32)), (va_rf (some a2)), (.int p1), (va_rf (some a4))]) C (w_J12_min hlt g6) (lw_S q343 q344 q137 q345) gz_135 (by decide) rfl rfl (gx_catn (Nat.le_of_ble_eq_true rfl)) dJ13_copyOfRangeByte_24 ?_
  replace hf := gx_bs hf
  obtain ⟨h8, g9, hf⟩ := hf
  refine gx_copy (st := []) C g9 q346 q348 q347 q139 (by decide) (by decide) dJ13_copyOfRangeByte_27 ?_
  refine gx_aload C dJ13_copyOfRangeByte_30 0 rfl ?_
  obtain ⟨rfl, rfl⟩ := Prod.mk.inj (Option.some.inj hf)
  exact gx_aret C rfl rfl dJ13_copyOfRangeByte_32
theorem le_J13_copyOfRangeByte {D : gx_D} {r : Option Nat} {hz : HX} {h : HX} {p0 : Option Nat} {p1 : Int32} {p2 : Int32} (hf : f_J13_copyOfRangeByte D h p0 p1 p2 = some (r, hz)) : gx_le h hz := by
  unfold f_J13_copyOfRangeByte at hf
  replace hf := gx_bs hf
  obtain ⟨u12, g1, hf⟩ := hf
  replace hf := gx_b2s hf
  obtain ⟨a2, h3, g11, hf⟩ := hf
  refine (hx_le_newa g11).tr ?_
  replace hf := gx_bs hf
  obtain ⟨a4, rfl, hf⟩ := hf
  replace hf := gx_bs hf
  obtain ⟨x5, g10, hf⟩ := hf
  replace hf := gx_bs hf
  obtain ⟨x7, g6, hf⟩ := hf
  replace hf := gx_bs hf
  obtain ⟨h8, g9, hf⟩ := hf
  refine (hx_le_cpy g9).tr ?_
  obtain ⟨rfl, rfl⟩ := Prod.mk.inj (Option.some.inj hf)
  exact gx_le.rf
theorem w_J13_copyOfRangeByte {l : Launch} (hlt : l.stackTraces = false) {D : gx_D} {h : HX} {p0 : Option Nat} {p1 : Int32} {p2 : Int32} {r : Option Nat} {hz : HX} (hf : f_J13_copyOfRangeByte D h p0 p1 p2 = some (r, hz)) : gx_Met l yJ13_copyOfRangeByte cJ13_copyOfRangeByte 5 (some (.array .byte)) 2 64 D [(va_rf p0), (.int p1), (.int p2)] h (some (va_rf r)) hz :=
  gx_ofG gz_136 (by simp only [gx_lsr, gx_lsi, gx_lsj, gx_ls0]; decide) (le_J13_copyOfRangeByte hf) (fun p e R s m args below meth c C hx => by
    simp only [gx_lar, gx_lai, gx_laj, gx_la0, Nat.reduceAdd]
    exact w_J13_copyOfRangeByte_b hlt C hx hf)
def f_J13_copyOfRange_b10 (D : gx_D) (h : HX) (v0 : Option Nat) (v1 : Int32) (v2 : Int32) : Option ((Option Nat) × HX) :=
  gx_b2 (f_J13_copyOfRangeByte D h v0 v1 v2) fun r6 h7 =>
  some (r6, h7)
theorem w_J13_copyOfRange_b10 {l : Launch} (hlt : l.stackTraces = false) {p : Program} {e : Env} {R : Room} {s : State} {m : MethodId} {args : Array Value} {below : List Frame} {meth : Method} {c : Code} {D : gx_D} {h0 : HX} {r : Option Nat} {hz : HX} (C : gx_Ctx p R s m args meth c "java/util/Arrays" cJ13_copyOfRange 3 (some (.array .byte)) 3 88 D h0 hz) (hx : meth.name = "copyOfRange")  {h : HX} {v0 : Option Nat} {v1 : Int32} {v2 : Int32} (hf : f_J13_copyOfRange_b10 D h v0 v1 v2 = some (r, hz)) : gx_G p l e R s m args below meth c D h0 hz 3 (gx_MQ below args s D h0 hz (some (va_rf r))) 10 [(0, (va_rf v0)), (1, (.int v1)), (2, (.int v2))] [] h := by
  unfold f_J13_copyOfRange_b10 at hf
  refine gx_aload_n C dJ13_copyOfRange_10 0 rfl ?_
  refine gx_iload_n C dJ13_copyOfRange_11 1 rfl ?_
  refine gx_iload_n C dJ13_copyOfRange_12 2 rfl ?_
  replace hf := gx_b2s hf
  obtain ⟨r6, h7, g5, hf⟩ := hf
  refine gx_callS (st := []) C (w_J13_copyOfRangeByte hlt g5) (lw_S q478 q479 q138 q480) gz_147 (by decide) rfl rfl (gx_catn (Nat.le_of_ble_eq_true rfl)) dJ13_copyOfRange_13 ?_
  obtain ⟨rfl, rfl⟩ := Prod.mk.inj (Option.some.inj hf)
  exact gx_aret C rfl rfl dJ13_copyOfRange_16
theorem le_J13_copyOfRange_b10 {D : gx_D} {r : Option Nat} {hz : HX} {h : HX} {v0 : Option Nat} {v1 : Int32} {v2 : Int32} (hf : f_J13_copyOfRange_b10 D h v0 v1 v2 = some (r, hz)) : gx_le h hz := by
  unfold f_J13_copyOfRange_b10 at hf
  replace hf := gx_b2s hf
  obtain ⟨r6, h7, g5, hf⟩ := hf
  refine (le_J13_copyOfRangeByte g5).tr ?_
  obtain ⟨rfl, rfl⟩ := Prod.mk.inj (Option.some.inj hf)
  exact gx_le.rf
def f_J13_copyOfRange (D : gx_D) (h : HX) (p0 : Option Nat) (p1 : Int32) (p2 : Int32) : Option ((Option Nat) × HX) :=
  if p1 = 0 then
  p0.bind fun a2 =>
  (hx_len h a2).bind fun x3 =>
  if p2 = x3 then
  none
  else
  f_J13_copyOfRange_b10 D h (some a2) p1 p2
  else
  f_J13_copyOfRange_b10 D h p0 p1 p2
theorem w_J13_copyOfRange_b {l : Launch} (hlt : l.stackTraces = false) {p : Program} {e : Env} {R : Room} {s : State} {m : MethodId} {args : Array Value} {below : List Frame} {meth : Method} {c : Code} {D : gx_D} {h0 : HX} {r : Option Nat} {hz : HX} (C : gx_Ctx p R s m args meth c "java/util/Arrays" cJ13_copyOfRange 3 (some (.array .byte)) 3 88 D h0 hz) (hx : meth.name = "copyOfRange") {p0 : Option Nat} {p1 : Int32} {p2 : Int32} (hf : f_J13_copyOfRange D h0 p0 p1 p2 = some (r, hz)) : gx_G p l e R s m args below meth c D h0 hz 3 (gx_MQ below args s D h0 hz (some (va_rf r))) 0 [(0, (va_rf p0)), (1, (.int p1)), (2, (.int p2))] [] h0 := by
  unfold f_J13_copyOfRange at hf
  refine gx_iload_n C dJ13_copyOfRange_0 1 rfl ?_
  replace hf := gx_ite hf
  rcases hf with ⟨c1, hf⟩ | ⟨c1, hf⟩
  · refine gx_if_ne_f (tgt := 10) C dJ13_copyOfRange_1 rfl c1 ?_
    refine gx_iload_n C dJ13_copyOfRange_4 2 rfl ?_
    refine gx_aload_n C dJ13_copyOfRange_5 0 rfl ?_
    replace hf := gx_bs hf
    obtain ⟨a2, rfl, hf⟩ := hf
    replace hf := gx_bs hf
    obtain ⟨x3, g8, hf⟩ := hf
    refine gx_alen C g8 dJ13_copyOfRange_6 ?_
    replace hf := gx_ite hf
    rcases hf with ⟨c4, hf⟩ | ⟨c4, hf⟩
    · refine gx_icmp_eq_t (tgt := 17) C dJ13_copyOfRange_7 rfl c4 ?_
      refine gx_aload_n C dJ13_copyOfRange_17 0 rfl ?_
      cases hf
    · refine gx_icmp_eq_f (tgt := 17) C dJ13_copyOfRange_7 rfl c4 ?_
      refine gx_sub [0, 1, 2] rfl ?_
      exact w_J13_copyOfRange_b10 hlt C hx hf
  · refine gx_if_ne_t (tgt := 10) C dJ13_copyOfRange_1 rfl c1 ?_
    refine gx_sub [0, 1, 2] rfl ?_
    exact w_J13_copyOfRange_b10 hlt C hx hf
theorem le_J13_copyOfRange {D : gx_D} {r : Option Nat} {hz : HX} {h : HX} {p0 : Option Nat} {p1 : Int32} {p2 : Int32} (hf : f_J13_copyOfRange D h p0 p1 p2 = some (r, hz)) : gx_le h hz := by
  unfold f_J13_copyOfRange at hf
  replace hf := gx_ite hf
  rcases hf with ⟨c1, hf⟩ | ⟨c1, hf⟩
  · replace hf := gx_bs hf
    obtain ⟨a2, rfl, hf⟩ := hf
    replace hf := gx_bs hf
    obtain ⟨x3, g8, hf⟩ := hf
    replace hf := gx_ite hf
    rcases hf with ⟨c4, hf⟩ | ⟨c4, hf⟩
    · cases hf
    · exact le_J13_copyOfRange_b10 hf
  · exact le_J13_copyOfRange_b10 hf
theorem w_J13_copyOfRange {l : Launch} (hlt : l.stackTraces = false) {D : gx_D} {h : HX} {p0 : Option Nat} {p1 : Int32} {p2 : Int32} {r : Option Nat} {hz : HX} (hf : f_J13_copyOfRange D h p0 p1 p2 = some (r, hz)) : gx_Met l yJ13_copyOfRange cJ13_copyOfRange 3 (some (.array .byte)) 3 88 D [(va_rf p0), (.int p1), (.int p2)] h (some (va_rf r)) hz :=
  gx_ofG gz_136 (by simp only [gx_lsr, gx_lsi, gx_lsj, gx_ls0]; decide) (le_J13_copyOfRange hf) (fun p e R s m args below meth c C hx => by
    simp only [gx_lar, gx_lai, gx_laj, gx_la0, Nat.reduceAdd]
    exact w_J13_copyOfRange_b hlt C hx hf)
def f_J9_init_2_b79 (D : gx_D) (h : HX) (v0 : Nat) (v3 : Option Nat) (v4 : Int32) : Option HX :=
  (hx_pi h v0 [2] 1 (1 : Int32)).bind fun h18 =>
  gx_b2 (f_J13_copyOfRange D h18 v3 (0 : Int32) (v4 <<< ((1 : Int32) &&& 31))) fun r20 h21 =>
  (hx_pr h21 v0 [2] 0 r20).bind fun h22 =>
  some h22
theorem w_J9_init_2_b79 {l : Launch} (hlt : l.stackTraces = false) {p : Program} {e : Env} {R : Room} {s : State} {m : MethodId} {args : Array Value} {below : List Frame} {meth : Method} {c : Code} {D : gx_D} {h0 : HX} {hz : HX} (C : gx_Ctx p R s m args meth c "java/lang/String" cJ9_init_2 5 none 4 110 D h0 hz) (hx : meth.name = "<init>")  {h : HX} {v0 : Nat} {v3 : Option Nat} {v4 : Int32} (hf : f_J9_init_2_b79 D h v0 v3 v4 = some hz) : gx_G p l e R s m args below meth c D h0 hz 5 (gx_MQ below args s D h0 hz none) 79 [(0, (va_rf (some v0))), (3, (va_rf v3)), (4, (.int v4))] [] h := by
  unfold f_J9_init_2_b79 at hf
  refine gx_aload_n C dJ9_init_2_79 0 rfl ?_
  refine gx_iconst (v := 1) C dJ9_init_2_80 rfl ?_
  replace hf := gx_bs hf
  obtain ⟨h18, g24, hf⟩ := hf
  refine gx_putvF C hx g24 gz_149 gz_72 rfl rfl q530 dJ9_init_2_81 ?_
  refine gx_aload_n C dJ9_init_2_84 0 rfl ?_
  refine gx_aload_n C dJ9_init_2_85 1 rfl ?_
  refine gx_iconst (v := 0) C dJ9_init_2_86 rfl ?_
  refine gx_iload C dJ9_init_2_87 2 rfl ?_
  refine gx_iconst (v := 1) C dJ9_init_2_89 rfl ?_
  refine gx_ishl C dJ9_init_2_90 ?_
  replace hf := gx_b2s hf
  obtain ⟨r20, h21, g19, hf⟩ := hf
  refine gx_callS (st := [(va_rf (some v0))]) C (w_J13_copyOfRange hlt g19) (lw_S q475 q476 q138 q477) gz_151 (by decide) rfl rfl (gx_catn (Nat.le_of_ble_eq_true rfl)) dJ9_init_2_91 ?_
  replace hf := gx_bs hf
  obtain ⟨h22, g23, hf⟩ := hf
  refine gx_putvF C hx g23 gz_150 gz_70 (gx_narrow_r rfl _).1 (gx_narrow_r rfl _).2 q529 dJ9_init_2_94 ?_
  obtain rfl := Option.some.inj hf
  exact gx_vret C dJ9_init_2_97
theorem le_J9_init_2_b79 {D : gx_D} {hz : HX} {h : HX} {v0 : Nat} {v3 : Option Nat} {v4 : Int32} (hf : f_J9_init_2_b79 D h v0 v3 v4 = some hz) : gx_le h hz := by
  unfold f_J9_init_2_b79 at hf
  replace hf := gx_bs hf
  obtain ⟨h18, g24, hf⟩ := hf
  refine (hx_le_pv g24).tr ?_
  replace hf := gx_b2s hf
  obtain ⟨r20, h21, g19, hf⟩ := hf
  refine (le_J13_copyOfRange g19).tr ?_
  replace hf := gx_bs hf
  obtain ⟨h22, g23, hf⟩ := hf
  refine (hx_le_pv g23).tr ?_
  obtain rfl := Option.some.inj hf
  exact gx_le.rf
def f_J9_init_2 (D : gx_D) (h : HX) (a0 : Nat) (p1 : Option Nat) (p2 : Option Nat) : Option HX :=
  p1.bind fun a1 =>
  (f_J7_getValue D h a1).bind fun r3 =>
  (f_J8_length D h a1).bind fun x5 =>
  (f_J7_isLatin1 D h a1).bind fun b7 =>
  if b7 = true then
  (hx_pi h a0 [2] 1 (0 : Int32)).bind fun h9 =>
  gx_b2 (f_J13_copyOfRange D h9 r3 (0 : Int32) x5) fun r11 h12 =>
  (hx_pr h12 a0 [2] 0 r11).bind fun h13 =>
  some h13
  else
  (hx_gi h a1 [1] 2).bind fun x16 =>
  if x16 = 0 then
  f_J9_init_2_b79 D h a0 r3 x5
  else
  none
theorem w_J9_init_2_b {l : Launch} (hlt : l.stackTraces = false) {p : Program} {e : Env} {R : Room} {s : State} {m : MethodId} {args : Array Value} {below : List Frame} {meth : Method} {c : Code} {D : gx_D} {h0 : HX} {hz : HX} (C : gx_Ctx p R s m args meth c "java/lang/String" cJ9_init_2 5 none 4 110 D h0 hz) (hx : meth.name = "<init>") {a0 : Nat} {p1 : Option Nat} {p2 : Option Nat} (hf : f_J9_init_2 D h0 a0 p1 p2 = some hz) : gx_G p l e R s m args below meth c D h0 hz 5 (gx_MQ below args s D h0 hz none) 0 [(0, (va_rf (some a0))), (1, (va_rf p1)), (2, (va_rf p2))] [] h0 := by
  unfold f_J9_init_2 at hf
  refine gx_aload_n C dJ9_init_2_0 0 rfl ?_
  refine gx_objInit (st := []) C q460 q188 q189 (by decide) (by decide) dJ9_init_2_1 ?_
  refine gx_aload_n C dJ9_init_2_4 1 rfl ?_
  replace hf := gx_bs hf
  obtain ⟨a1, rfl, hf⟩ := hf
  replace hf := gx_bs hf
  obtain ⟨r3, g2, hf⟩ := hf
  refine gx_callU (st := []) C (w_J7_getValue hlt g2) (is_J7_getValue g2) q461 q463 (va_Decl.of (C.hts _ q462) (C.hts _ q465)) ⟨by decide, by decide⟩ (gx_cis1 gz_113 (C.hts _ q464) gx_cis0) q462 q132 q465 gz_148 (by decide) rfl rfl (gx_catn (Nat.le_of_ble_eq_true rfl)) dJ9_init_2_5 ?_
  refine gx_astn C dJ9_init_2_8 3 rfl (by decide) [0, 1]  rfl (gx_okn rfl rfl (gx_okn rfl rfl gx_ok0)) ?_
  refine gx_aload_n C dJ9_init_2_9 2 rfl ?_
  replace hf := gx_bs hf
  obtain ⟨x5, g4, hf⟩ := hf
  refine gx_callU (st := []) C (w_J8_length hlt g4) (is_J8_length g4) q466 q468 (va_Decl.of (C.hts _ q467) (C.hts _ q473)) ⟨by decide, by decide⟩ (gx_cis1 gz_113 (C.hts _ q469) gx_cis0) q470 q133 q471 gz_145 (by decide) rfl rfl (gx_catn (Nat.le_of_ble_eq_true rfl)) dJ9_init_2_10 ?_
  refine gx_ist C dJ9_init_2_13 (by decide) [0, 1, 2]  rfl (gx_okr rfl gx_catv_r (gx_okn rfl rfl (gx_okn rfl rfl gx_ok0))) ?_
  refine gx_aload_n C dJ9_init_2_15 3 rfl ?_
  replace hf := gx_bs hf
  obtain ⟨b7, g6, hf⟩ := hf
  refine gx_callU (st := []) C (w_J7_isLatin1 hlt g6) (is_J7_isLatin1 g6) q474 q351 (va_Decl.of (C.hts _ q350) (C.hts _ q353)) ⟨by decide, by decide⟩ (gx_cis1 gz_113 (C.hts _ q352) gx_cis0) q350 q132 q353 gz_142 (by decide) rfl rfl (gx_catn (Nat.le_of_ble_eq_true rfl)) dJ9_init_2_16 ?_
  replace hf := gx_ite hf
  rcases hf with ⟨c8, hf⟩ | ⟨c8, hf⟩
  · refine gx_ifz_eq_f (tgt := 41) C dJ9_init_2_19 rfl c8 ?_
    refine gx_aload_n C dJ9_init_2_22 2 rfl ?_
    refine gx_iconst (v := 0) C dJ9_init_2_23 rfl ?_
    replace hf := gx_bs hf
    obtain ⟨h9, g15, hf⟩ := hf
    refine gx_putvF C hx g15 gz_149 gz_72 rfl rfl q530 dJ9_init_2_24 ?_
    refine gx_aload_n C dJ9_init_2_27 2 rfl ?_
    refine gx_aload_n C dJ9_init_2_28 1 rfl ?_
    refine gx_iconst (v := 0) C dJ9_init_2_29 rfl ?_
    refine gx_iload C dJ9_init_2_30 0 rfl ?_
    replace hf := gx_b2s hf
    obtain ⟨r11, h12, g10, hf⟩ := hf
    refine gx_callS (st := [(va_rf (some a0))]) C (w_J13_copyOfRange hlt g10) (lw_S q475 q476 q138 q477) gz_151 (by decide) rfl rfl (gx_catn (Nat.le_of_ble_eq_true rfl)) dJ9_init_2_32 ?_
    replace hf := gx_bs hf
    obtain ⟨h13, g14, hf⟩ := hf
    refine gx_putvF C hx g14 gz_150 gz_70 (gx_narrow_r rfl _).1 (gx_narrow_r rfl _).2 q529 dJ9_init_2_35 ?_
    refine gx_goto (tgt := 97) C dJ9_init_2_38 rfl ?_
    obtain rfl := Option.some.inj hf
    exact gx_vret C dJ9_init_2_97
  · refine gx_ifz_eq_t (tgt := 41) C dJ9_init_2_19 rfl c8 ?_
    refine gx_stati C 20 rfl q388 dJ9_init_2_41 ?_
    refine gx_if_eq_f (tgt := 79) C dJ9_init_2_44 rfl (by decide) ?_
    refine gx_aload_n C dJ9_init_2_47 3 rfl ?_
    replace hf := gx_bs hf
    obtain ⟨x16, g25, hf⟩ := hf
    refine gx_gi C g25 gz_152 q292 dJ9_init_2_48 ?_
    replace hf := gx_ite hf
    rcases hf with ⟨c17, hf⟩ | ⟨c17, hf⟩
    · refine gx_if_eq_t (tgt := 79) C dJ9_init_2_51 rfl c17 ?_
      refine gx_sub [2, 1, 0] rfl ?_
      exact w_J9_init_2_b79 hlt C hx hf
    · refine gx_if_eq_f (tgt := 79) C dJ9_init_2_51 rfl c17 ?_
      refine gx_aload_n C dJ9_init_2_54 2 rfl ?_
      refine gx_aload_n C dJ9_init_2_55 1 rfl ?_
      refine gx_iconst (v := 0) C dJ9_init_2_56 rfl ?_
      refine gx_iload C dJ9_init_2_57 0 rfl ?_
      cases hf
theorem le_J9_init_2 {D : gx_D} {hz : HX} {h : HX} {a0 : Nat} {p1 : Option Nat} {p2 : Option Nat} (hf : f_J9_init_2 D h a0 p1 p2 = some hz) : gx_le h hz := by
  unfold f_J9_init_2 at hf
  replace hf := gx_bs hf
  obtain ⟨a1, rfl, hf⟩ := hf
  replace hf := gx_bs hf
  obtain ⟨r3, g2, hf⟩ := hf
  replace hf := gx_bs hf
  obtain ⟨x5, g4, hf⟩ := hf
  replace hf := gx_bs hf
  obtain ⟨b7, g6, hf⟩ := hf
  replace hf := gx_ite hf
  rcases hf with ⟨c8, hf⟩ | ⟨c8, hf⟩
  · replace hf := gx_bs hf
    obtain ⟨h9, g15, hf⟩ := hf
    refine (hx_le_pv g15).tr ?_
    replace hf := gx_b2s hf
    obtain ⟨r11, h12, g10, hf⟩ := hf
    refine (le_J13_copyOfRange g10).tr ?_
    replace hf := gx_bs hf
    obtain ⟨h13, g14, hf⟩ := hf
    refine (hx_le_pv g14).tr ?_
    obtain rfl := Option.some.inj hf
    exact gx_le.rf
  · replace hf := gx_bs hf
    obtain ⟨x16, g25, hf⟩ := hf
    replace hf := gx_ite hf
    rcases hf with ⟨c17, hf⟩ | ⟨c17, hf⟩
    · exact le_J9_init_2_b79 hf
    · cases hf
theorem w_J9_init_2 {l : Launch} (hlt : l.stackTraces = false) {D : gx_D} {h : HX} {a0 : Nat} {p1 : Option Nat} {p2 : Option Nat} {hz : HX} (hf : f_J9_init_2 D h a0 p1 p2 = some hz) : gx_Met l yJ9_init_2 cJ9_init_2 5 none 4 110 D [(va_rf (some a0)), (va_rf p1), (va_rf p2)] h none hz :=
  gx_ofG gz_153 (by simp only [gx_lsr, gx_lsi, gx_lsj, gx_ls0]; decide) (le_J9_init_2 hf) (fun p e R s m args below meth c C hx => by
    simp only [gx_lar, gx_lai, gx_laj, gx_la0, Nat.reduceAdd]
    exact w_J9_init_2_b hlt C hx hf)
def f_J9_init (D : gx_D) (h : HX) (a0 : Nat) (p1 : Option Nat) : Option HX :=
  (f_J9_init_2 D h a0 p1 none).bind fun h2 =>
  some h2
theorem w_J9_init_b {l : Launch} (hlt : l.stackTraces = false) {p : Program} {e : Env} {R : Room} {s : State} {m : MethodId} {args : Array Value} {below : List Frame} {meth : Method} {c : Code} {D : gx_D} {h0 : HX} {hz : HX} (C : gx_Ctx p R s m args meth c "java/lang/String" cJ9_init 2 none 5 134 D h0 hz) (hx : meth.name = "<init>") {a0 : Nat} {p1 : Option Nat} (hf : f_J9_init D h0 a0 p1 = some hz) : gx_G p l e R s m args below meth c D h0 hz 2 (gx_MQ below args s D h0 hz none) 0 [(0, (va_rf (some a0))), (1, (va_rf p1))] [] h0 := by
  unfold f_J9_init at hf
  refine gx_aload_n C dJ9_init_0 0 rfl ?_
  refine gx_aload_n C dJ9_init_1 1 rfl ?_
  refine gx_null C dJ9_init_2 ?_
  replace hf := gx_bs hf
  obtain ⟨h2, g1, hf⟩ := hf
  refine gx_callI (st := []) C (w_J9_init_2 hlt g1) q457 q458 q134 q459 rfl gz_154 (by decide) rfl rfl (gx_catn (Nat.le_of_ble_eq_true rfl)) dJ9_init_3 ?_
  obtain rfl := Option.some.inj hf
  exact gx_vret C dJ9_init_6
theorem le_J9_init {D : gx_D} {hz : HX} {h : HX} {a0 : Nat} {p1 : Option Nat} (hf : f_J9_init D h a0 p1 = some hz) : gx_le h hz := by
  unfold f_J9_init at hf
  replace hf := gx_bs hf
  obtain ⟨h2, g1, hf⟩ := hf
  refine (le_J9_init_2 g1).tr ?_
  obtain rfl := Option.some.inj hf
  exact gx_le.rf
theorem w_J9_init {l : Launch} (hlt : l.stackTraces = false) {D : gx_D} {h : HX} {a0 : Nat} {p1 : Option Nat} {hz : HX} (hf : f_J9_init D h a0 p1 = some hz) : gx_Met l yJ9_init cJ9_init 2 none 5 134 D [(va_rf (some a0)), (va_rf p1)] h none hz :=
  gx_ofG gz_153 (by simp only [gx_lsr, gx_lsi, gx_lsj, gx_ls0]; decide) (le_J9_init hf) (fun p e R s m args below meth c C hx => by
    simp only [gx_lar, gx_lai, gx_laj, gx_la0, Nat.reduceAdd]
    exact w_J9_init_b hlt C hx hf)
def f_J8_toString (D : gx_D) (h : HX) (a0 : Nat) : Option ((Option Nat) × HX) :=
  (hx_is h a0 [1]).bind fun _ =>
  gx_b2 (hx_new h 4 2 gx_df2) fun a1 h2 =>
  (f_J9_init D h2 a1 (some a0)).bind fun h4 =>
  some ((some a1), h4)
theorem is_J8_toString {D : gx_D} {h : HX} {a0 : Nat} {z} (hf : f_J8_toString D h a0 = some z) : gx_isC h a0 [1] := by
  unfold f_J8_toString at hf
  obtain ⟨_, g, -⟩ := gx_bs hf
  exact hx_is_of g
theorem w_J8_toString_b {l : Launch} (hlt : l.stackTraces = false) {p : Program} {e : Env} {R : Room} {s : State} {m : MethodId} {args : Array Value} {below : List Frame} {meth : Method} {c : Code} {D : gx_D} {h0 : HX} {r : Option Nat} {hz : HX} (C : gx_Ctx p R s m args meth c "java/lang/StringBuilder" cJ8_toString 1 (some (.object "java/lang/String")) 6 155 D h0 hz) (hx : meth.name = "toString") {a0 : Nat} (hf : f_J8_toString D h0 a0 = some (r, hz)) : gx_G p l e R s m args below meth c D h0 hz 1 (gx_MQ below args s D h0 hz (some (va_rf r))) 0 [(0, (va_rf (some a0)))] [] h0 := by
  unfold f_J8_toString at hf
  replace hf := gx_bs hf
  obtain ⟨_, -, hf⟩ := hf
  replace hf := gx_b2s hf
  obtain ⟨a1, h2, g5, hf⟩ := hf
  refine gx_newN C g5 gz_10 tyJ9_ok gx_df2_ok q452 q453 q134 dJ8_toString_0 rfl ?_
  refine gx_dup C dJ8_toString_3 rfl ?_
  refine gx_aload_n C dJ8_toString_4 0 rfl ?_
  replace hf := gx_bs hf
  obtain ⟨h4, g3, hf⟩ := hf
  refine gx_callI (st := [(va_rf (some a1))]) C (w_J9_init hlt g3) q454 q455 q134 q456 rfl gz_156 (by decide) rfl rfl (gx_catn (Nat.le_of_ble_eq_true rfl)) dJ8_toString_5 ?_
  obtain ⟨rfl, rfl⟩ := Prod.mk.inj (Option.some.inj hf)
  exact gx_aret C rfl rfl dJ8_toString_8
theorem le_J8_toString {D : gx_D} {r : Option Nat} {hz : HX} {h : HX} {a0 : Nat} (hf : f_J8_toString D h a0 = some (r, hz)) : gx_le h hz := by
  unfold f_J8_toString at hf
  replace hf := gx_bs hf
  obtain ⟨_, -, hf⟩ := hf
  replace hf := gx_b2s hf
  obtain ⟨a1, h2, g5, hf⟩ := hf
  refine (hx_le_new g5).tr ?_
  replace hf := gx_bs hf
  obtain ⟨h4, g3, hf⟩ := hf
  refine (le_J9_init g3).tr ?_
  obtain ⟨rfl, rfl⟩ := Prod.mk.inj (Option.some.inj hf)
  exact gx_le.rf
theorem w_J8_toString {l : Launch} (hlt : l.stackTraces = false) {D : gx_D} {h : HX} {a0 : Nat} {r : Option Nat} {hz : HX} (hf : f_J8_toString D h a0 = some (r, hz)) : gx_Met l yJ8_toString cJ8_toString 1 (some (.object "java/lang/String")) 6 155 D [(va_rf (some a0))] h (some (va_rf r)) hz :=
  gx_ofG gz_75 (by simp only [gx_lsr, gx_lsi, gx_lsj, gx_ls0]; decide) (le_J8_toString hf) (fun p e R s m args below meth c C hx => by
    simp only [gx_lar, gx_lai, gx_laj, gx_la0, Nat.reduceAdd]
    exact w_J8_toString_b hlt C hx hf)
def f_J20_of_b126 (D : gx_D) (h : HX) : Option (Option Nat) :=
  none
theorem w_J20_of_b126 {l : Launch} (hlt : l.stackTraces = false) {p : Program} {e : Env} {R : Room} {s : State} {m : MethodId} {args : Array Value} {below : List Frame} {meth : Method} {c : Code} {D : gx_D} {h0 : HX} {r : Option Nat} (C : gx_Ctx p R s m args meth c "java/lang/CharacterData" cJ20_of 1 (some (.object "java/lang/CharacterData")) 1 24 D h0 h0) (hx : meth.name = "of")  (hf : f_J20_of_b126 D h0 = some r) : gx_G p l e R s m args below meth c D h0 h0 1 (gx_MQ below args s D h0 h0 (some (va_rf r))) 126 [] [] h0 := by
  unfold f_J20_of_b126 at hf
  cases hf
def f_J20_of_b132 (D : gx_D) (h : HX) : Option (Option Nat) :=
  none
theorem w_J20_of_b132 {l : Launch} (hlt : l.stackTraces = false) {p : Program} {e : Env} {R : Room} {s : State} {m : MethodId} {args : Array Value} {below : List Frame} {meth : Method} {c : Code} {D : gx_D} {h0 : HX} {r : Option Nat} (C : gx_Ctx p R s m args meth c "java/lang/CharacterData" cJ20_of 1 (some (.object "java/lang/CharacterData")) 1 24 D h0 h0) (hx : meth.name = "of")  (hf : f_J20_of_b132 D h0 = some r) : gx_G p l e R s m args below meth c D h0 h0 1 (gx_MQ below args s D h0 h0 (some (va_rf r))) 132 [] [] h0 := by
  unfold f_J20_of_b132 at hf
  cases hf
def f_J20_of (D : gx_D) (h : HX) (p0 : Int32) : Option (Option Nat) :=
  if ((Int32.toUInt32 p0 >>> (Int32.toUInt32 (8 : Int32) &&& Int32.toUInt32 31)).toInt32) = 0 then
  some ((some (D.2.2.1 134)))
  else
  if ((Int32.toUInt32 p0 >>> (Int32.toUInt32 (16 : Int32) &&& Int32.toUInt32 31)).toInt32) = (0 : Int32) then
  none
  else
  if ((Int32.toUInt32 p0 >>> (Int32.toUInt32 (16 : Int32) &&& Int32.toUInt32 31)).toInt32) = (1 : Int32) then
  none
  else
  if ((Int32.toUInt32 p0 >>> (Int32.toUInt32 (16 : Int32) &&& Int32.toUInt32 31)).toInt32) = (2 : Int32) then
  none
  else
  if ((Int32.toUInt32 p0 >>> (Int32.toUInt32 (16 : Int32) &&& Int32.toUInt32 31)).toInt32) = (3 : Int32) then
  none
  else
  if ((Int32.toUInt32 p0 >>> (Int32.toUInt32 (16 : Int32) &&& Int32.toUInt32 31)).toInt32) = (14 : Int32) then
  none
  else
  if ((Int32.toUInt32 p0 >>> (Int32.toUInt32 (16 : Int32) &&& Int32.toUInt32 31)).toInt32) = (15 : Int32) then
  f_J20_of_b126 D h
  else
  if ((Int32.toUInt32 p0 >>> (Int32.toUInt32 (16 : Int32) &&& Int32.toUInt32 31)).toInt32) = (16 : Int32) then
  f_J20_of_b126 D h
  else
  if ((Int32.toUInt32 p0 >>> (Int32.toUInt32 (16 : Int32) &&& Int32.toUInt32 31)).toInt32) < (0 : Int32) ∨ (16 : Int32) < ((Int32.toUInt32 p0 >>> (Int32.toUInt32 (16 : Int32) &&& Int32.toUInt32 31)).toInt32) then
  f_J20_of_b132 D h
  else none
theorem w_J20_of_b {l : Launch} (hlt : l.stackTraces = false) {p : Program} {e : Env} {R : Room} {s : State} {m : MethodId} {args : Array Value} {below : List Frame} {meth : Method} {c : Code} {D : gx_D} {h0 : HX} {r : Option Nat} (C : gx_Ctx p R s m args meth c "java/lang/CharacterData" cJ20_of 1 (some (.object "java/lang/CharacterData")) 1 24 D h0 h0) (hx : meth.name = "of") {p0 : Int32} (hf : f_J20_of D h0 p0 = some r) : gx_G p l e R s m args below meth c D h0 h0 1 (gx_MQ below args s D h0 h0 (some (va_rf r))) 0 [(0, (.int p0))] [] h0 := by
  unfold f_J20_of at hf
  refine gx_iload_n C dJ20_of_0 0 rfl ?_
  refine gx_bipush (v := 8) C dJ20_of_1 rfl ?_
  refine gx_iushr C dJ20_of_3 ?_
  replace hf := gx_ite hf
  rcases hf with ⟨c1, hf⟩ | ⟨c1, hf⟩
  · refine gx_if_ne_f (tgt := 11) C dJ20_of_4 rfl c1 ?_
    refine gx_statk C 18 rfl q1105 dJ20_of_7 ?_
    obtain rfl := Option.some.inj hf
    exact gx_aret C rfl rfl dJ20_of_10
  · refine gx_if_ne_t (tgt := 11) C dJ20_of_4 rfl c1 ?_
    refine gx_iload_n C dJ20_of_11 0 rfl ?_
    refine gx_bipush (v := 16) C dJ20_of_12 rfl ?_
    refine gx_iushr C dJ20_of_14 ?_
    replace hf := gx_ite hf
    rcases hf with ⟨c2, hf⟩ | ⟨c2, hf⟩
    · refine gx_tswIn (tgt := 96) C dJ20_of_15 (by rw [c2]; decide) (by rw [c2]; decide) (off := 81) (by rw [c2]; rfl) rfl ?_
      cases hf
    replace hf := gx_ite hf
    rcases hf with ⟨c3, hf⟩ | ⟨c3, hf⟩
    · refine gx_tswIn (tgt := 102) C dJ20_of_15 (by rw [c3]; decide) (by rw [c3]; decide) (off := 87) (by rw [c3]; rfl) rfl ?_
      cases hf
    replace hf := gx_ite hf
    rcases hf with ⟨c4, hf⟩ | ⟨c4, hf⟩
    · refine gx_tswIn (tgt := 108) C dJ20_of_15 (by rw [c4]; decide) (by rw [c4]; decide) (off := 93) (by rw [c4]; rfl) rfl ?_
      cases hf
    replace hf := gx_ite hf
    rcases hf with ⟨c5, hf⟩ | ⟨c5, hf⟩
    · refine gx_tswIn (tgt := 114) C dJ20_of_15 (by rw [c5]; decide) (by rw [c5]; decide) (off := 99) (by rw [c5]; rfl) rfl ?_
      cases hf
    replace hf := gx_ite hf
    rcases hf with ⟨c6, hf⟩ | ⟨c6, hf⟩
    · refine gx_tswIn (tgt := 120) C dJ20_of_15 (by rw [c6]; decide) (by rw [c6]; decide) (off := 105) (by rw [c6]; rfl) rfl ?_
      cases hf
    replace hf := gx_ite hf
    rcases hf with ⟨c7, hf⟩ | ⟨c7, hf⟩
    · refine gx_tswIn (tgt := 126) C dJ20_of_15 (by rw [c7]; decide) (by rw [c7]; decide) (off := 111) (by rw [c7]; rfl) rfl ?_
      refine gx_sub [] rfl ?_
      exact w_J20_of_b126 hlt C hx hf
    replace hf := gx_ite hf
    rcases hf with ⟨c8, hf⟩ | ⟨c8, hf⟩
    · refine gx_tswIn (tgt := 126) C dJ20_of_15 (by rw [c8]; decide) (by rw [c8]; decide) (off := 111) (by rw [c8]; rfl) rfl ?_
      refine gx_sub [] rfl ?_
      exact w_J20_of_b126 hlt C hx hf
    replace hf := gx_ite hf
    rcases hf with ⟨c9, hf⟩ | ⟨c9, hf⟩
    rotate_left
    · cases hf
    refine gx_tswOut (tgt := 132) C dJ20_of_15 (gx_tout c9) rfl ?_
    refine gx_sub [] rfl ?_
    exact w_J20_of_b132 hlt C hx hf
theorem w_J20_of {l : Launch} (hlt : l.stackTraces = false) {D : gx_D} {h : HX} {p0 : Int32} {r : Option Nat} (hf : f_J20_of D h p0 = some r) : gx_Met l yJ20_of cJ20_of 1 (some (.object "java/lang/CharacterData")) 1 24 D [(.int p0)] h (some (va_rf r)) h :=
  gx_ofG gz_159 (by simp only [gx_lsr, gx_lsi, gx_lsj, gx_ls0]; decide) gx_le.rf (fun p e R s m args below meth c C hx => by
    simp only [gx_lar, gx_lai, gx_laj, gx_la0, Nat.reduceAdd]
    exact w_J20_of_b hlt C hx hf)
def f_J21_digit (D : gx_D) (h : HX) (a0 : Nat) (p1 : Int32) (p2 : Int32) : Option Int32 :=
  (hx_ai h ((D.2.2.1 135)) 1 p1).bind fun x1 =>
  if x1 < 0 then
  some ((-1 : Int32))
  else
  if p2 ≤ x1 then
  some ((-1 : Int32))
  else
  if p2 < (2 : Int32) then
  some ((-1 : Int32))
  else
  if (36 : Int32) < p2 then
  some ((-1 : Int32))
  else
  some x1
theorem w_J21_digit_b {l : Launch} (hlt : l.stackTraces = false) {p : Program} {e : Env} {R : Room} {s : State} {m : MethodId} {args : Array Value} {below : List Frame} {meth : Method} {c : Code} {D : gx_D} {h0 : HX} {r : Int32} (C : gx_Ctx p R s m args meth c "java/lang/CharacterDataLatin1" cJ21_digit 4 (some .int) 1 24 D h0 h0) (hx : meth.name = "digit") {a0 : Nat} {p1 : Int32} {p2 : Int32} (hf : f_J21_digit D h0 a0 p1 p2 = some r) : gx_G p l e R s m args below meth c D h0 h0 4 (gx_MQ below args s D h0 h0 (some (.int r))) 0 [(0, (va_rf (some a0))), (1, (.int p1)), (2, (.int p2))] [] h0 := by
  unfold f_J21_digit at hf
  refine gx_statk C 19 rfl q1113 dJ21_digit_0 ?_
  refine gx_iload_n C dJ21_digit_3 1 rfl ?_
  replace hf := gx_bs hf
  obtain ⟨x1, g6, hf⟩ := hf
  refine gx_bald C g6 dJ21_digit_4 ?_
  refine gx_istn C dJ21_digit_5 3 rfl (by decide) [2]  rfl (gx_okr rfl gx_catv_i gx_ok0) ?_
  refine gx_iload_n C dJ21_digit_6 0 rfl ?_
  replace hf := gx_ite hf
  rcases hf with ⟨c2, hf⟩ | ⟨c2, hf⟩
  · refine gx_if_lt_t (tgt := 30) C dJ21_digit_7 rfl c2 ?_
    refine gx_iconst (v := -1) C dJ21_digit_30 rfl ?_
    obtain rfl := Option.some.inj hf
    exact gx_iret C dJ21_digit_31
  · refine gx_if_lt_f (tgt := 30) C dJ21_digit_7 rfl c2 ?_
    refine gx_iload_n C dJ21_digit_10 0 rfl ?_
    refine gx_iload_n C dJ21_digit_11 1 rfl ?_
    replace hf := gx_ite hf
    rcases hf with ⟨c3, hf⟩ | ⟨c3, hf⟩
    · refine gx_icmp_ge_t (tgt := 30) C dJ21_digit_12 rfl c3 ?_
      refine gx_iconst (v := -1) C dJ21_digit_30 rfl ?_
      obtain rfl := Option.some.inj hf
      exact gx_iret C dJ21_digit_31
    · refine gx_icmp_ge_f (tgt := 30) C dJ21_digit_12 rfl c3 ?_
      refine gx_iload_n C dJ21_digit_15 1 rfl ?_
      refine gx_iconst (v := 2) C dJ21_digit_16 rfl ?_
      replace hf := gx_ite hf
      rcases hf with ⟨c4, hf⟩ | ⟨c4, hf⟩
      · refine gx_icmp_lt_t (tgt := 30) C dJ21_digit_17 rfl c4 ?_
        refine gx_iconst (v := -1) C dJ21_digit_30 rfl ?_
        obtain rfl := Option.some.inj hf
        exact gx_iret C dJ21_digit_31
      · refine gx_icmp_lt_f (tgt := 30) C dJ21_digit_17 rfl c4 ?_
        refine gx_iload_n C dJ21_digit_20 1 rfl ?_
        refine gx_bipush (v := 36) C dJ21_digit_21 rfl ?_
        replace hf := gx_ite hf
        rcases hf with ⟨c5, hf⟩ | ⟨c5, hf⟩
        · refine gx_icmp_gt_t (tgt := 30) C dJ21_digit_23 rfl c5 ?_
          refine gx_iconst (v := -1) C dJ21_digit_30 rfl ?_
          obtain rfl := Option.some.inj hf
          exact gx_iret C dJ21_digit_31
        · refine gx_icmp_gt_f (tgt := 30) C dJ21_digit_23 rfl c5 ?_
          refine gx_iload_n C dJ21_digit_26 0 rfl ?_
          refine gx_goto (tgt := 31) C dJ21_digit_27 rfl ?_
          obtain rfl := Option.some.inj hf
          exact gx_iret C dJ21_digit_31
theorem w_J21_digit {l : Launch} (hlt : l.stackTraces = false) {D : gx_D} {h : HX} {a0 : Nat} {p1 : Int32} {p2 : Int32} {r : Int32} (hf : f_J21_digit D h a0 p1 p2 = some r) : gx_Met l yJ21_digit cJ21_digit 4 (some .int) 1 24 D [(va_rf (some a0)), (.int p1), (.int p2)] h (some (.int r)) h :=
  gx_ofG gz_160 (by simp only [gx_lsr, gx_lsi, gx_lsj, gx_ls0]; decide) gx_le.rf (fun p e R s m args below meth c C hx => by
    simp only [gx_lar, gx_lai, gx_laj, gx_la0, Nat.reduceAdd]
    exact w_J21_digit_b hlt C hx hf)
def f_J19_digit_2 (D : gx_D) (h : HX) (p0 : Int32) (p1 : Int32) : Option Int32 :=
  (f_J20_of D h p0).bind fun r2 =>
  r2.bind fun a3 =>
  if a3 = D.2.2.1 134 then
  (f_J21_digit D h (D.2.2.1 134) p0 p1).bind fun x6 =>
  some x6
  else
  none
theorem w_J19_digit_2_b {l : Launch} (hlt : l.stackTraces = false) {p : Program} {e : Env} {R : Room} {s : State} {m : MethodId} {args : Array Value} {below : List Frame} {meth : Method} {c : Code} {D : gx_D} {h0 : HX} {r : Int32} (C : gx_Ctx p R s m args meth c "java/lang/Character" cJ19_digit_2 2 (some .int) 2 47 D h0 h0) (hx : meth.name = "digit") {p0 : Int32} {p1 : Int32} (hf : f_J19_digit_2 D h0 p0 p1 = some r) : gx_G p l e R s m args below meth c D h0 h0 2 (gx_MQ below args s D h0 h0 (some (.int r))) 0 [(0, (.int p0)), (1, (.int p1))] [] h0 := by
  unfold f_J19_digit_2 at hf
  refine gx_iload_n C dJ19_digit_2_0 0 rfl ?_
  replace hf := gx_bs hf
  obtain ⟨r2, g1, hf⟩ := hf
  refine gx_callS (st := []) C (w_J20_of hlt g1) (lw_S q1102 q1103 q157 q1104) gz_162 (by decide) rfl rfl (gx_catn (Nat.le_of_ble_eq_true rfl)) dJ19_digit_2_1 ?_
  refine gx_iload_n C dJ19_digit_2_4 0 rfl ?_
  refine gx_iload_n C dJ19_digit_2_5 1 rfl ?_
  replace hf := gx_bs hf
  obtain ⟨a3, rfl, hf⟩ := hf
  replace hf := gx_ite hf
  rcases hf with ⟨c4, hf⟩ | ⟨c4, hf⟩
  · subst c4
    replace hf := gx_bs hf
    obtain ⟨x6, g5, hf⟩ := hf
    refine gx_callE (st := []) C 9 rfl (w_J21_digit hlt g5) q1107 q1109 q1108 ⟨by decide, by decide⟩ q1110 q1111 q158 q1112 gz_161 (by decide) rfl rfl (gx_catn (Nat.le_of_ble_eq_true rfl)) dJ19_digit_2_6 ?_
    obtain rfl := Option.some.inj hf
    exact gx_iret C dJ19_digit_2_9
  cases hf
theorem w_J19_digit_2 {l : Launch} (hlt : l.stackTraces = false) {D : gx_D} {h : HX} {p0 : Int32} {p1 : Int32} {r : Int32} (hf : f_J19_digit_2 D h p0 p1 = some r) : gx_Met l yJ19_digit_2 cJ19_digit_2 2 (some .int) 2 47 D [(.int p0), (.int p1)] h (some (.int r)) h :=
  gx_ofG gz_163 (by simp only [gx_lsr, gx_lsi, gx_lsj, gx_ls0]; decide) gx_le.rf (fun p e R s m args below meth c C hx => by
    simp only [gx_lar, gx_lai, gx_laj, gx_la0, Nat.reduceAdd]
    exact w_J19_digit_2_b hlt C hx hf)
def f_J19_digit (D : gx_D) (h : HX) (p0 : Int32) (p1 : Int32) : Option Int32 :=
  (f_J19_digit_2 D h p0 p1).bind fun x2 =>
  some x2
theorem w_J19_digit_b {l : Launch} (hlt : l.stackTraces = false) {p : Program} {e : Env} {R : Room} {s : State} {m : MethodId} {args : Array Value} {below : List Frame} {meth : Method} {c : Code} {D : gx_D} {h0 : HX} {r : Int32} (C : gx_Ctx p R s m args meth c "java/lang/Character" cJ19_digit 2 (some .int) 3 68 D h0 h0) (hx : meth.name = "digit") {p0 : Int32} {p1 : Int32} (hf : f_J19_digit D h0 p0 p1 = some r) : gx_G p l e R s m args below meth c D h0 h0 2 (gx_MQ below args s D h0 h0 (some (.int r))) 0 [(0, (.int p0)), (1, (.int p1))] [] h0 := by
  unfold f_J19_digit at hf
  refine gx_iload_n C dJ19_digit_0 0 rfl ?_
  refine gx_iload_n C dJ19_digit_1 1 rfl ?_
  replace hf := gx_bs hf
  obtain ⟨x2, g1, hf⟩ := hf
  refine gx_callS (st := []) C (w_J19_digit_2 hlt g1) (lw_S q1099 q1100 q156 q1101) gz_164 (by decide) rfl rfl (gx_catn (Nat.le_of_ble_eq_true rfl)) dJ19_digit_2 ?_
  obtain rfl := Option.some.inj hf
  exact gx_iret C dJ19_digit_5
theorem w_J19_digit {l : Launch} (hlt : l.stackTraces = false) {D : gx_D} {h : HX} {p0 : Int32} {p1 : Int32} {r : Int32} (hf : f_J19_digit D h p0 p1 = some r) : gx_Met l yJ19_digit cJ19_digit 2 (some .int) 3 68 D [(.int p0), (.int p1)] h (some (.int r)) h :=
  gx_ofG gz_163 (by simp only [gx_lsr, gx_lsi, gx_lsj, gx_ls0]; decide) gx_le.rf (fun p e R s m args below meth c C hx => by
    simp only [gx_lar, gx_lai, gx_laj, gx_la0, Nat.reduceAdd]
    exact w_J19_digit_b hlt C hx hf)
def f_J9_isLatin1 (D : gx_D) (h : HX) (a0 : Nat) : Option Bool :=
  (hx_is h a0 [2]).bind fun _ =>
  (hx_gi h a0 [2] 1).bind fun x1 =>
  if x1 = 0 then
  some true
  else
  some false
theorem is_J9_isLatin1 {D : gx_D} {h : HX} {a0 : Nat} {z} (hf : f_J9_isLatin1 D h a0 = some z) : gx_isC h a0 [2] := by
  unfold f_J9_isLatin1 at hf
  obtain ⟨_, g, -⟩ := gx_bs hf
  exact hx_is_of g
theorem w_J9_isLatin1_b {l : Launch} (hlt : l.stackTraces = false) {p : Program} {e : Env} {R : Room} {s : State} {m : MethodId} {args : Array Value} {below : List Frame} {meth : Method} {c : Code} {D : gx_D} {h0 : HX} {r : Bool} (C : gx_Ctx p R s m args meth c "java/lang/String" cJ9_isLatin1 1 (some .boolean) 1 24 D h0 h0) (hx : meth.name = "isLatin1") {a0 : Nat} (hf : f_J9_isLatin1 D h0 a0 = some r) : gx_G p l e R s m args below meth c D h0 h0 1 (gx_MQ below args s D h0 h0 (some (.int (b2i r)))) 0 [(0, (va_rf (some a0)))] [] h0 := by
  unfold f_J9_isLatin1 at hf
  replace hf := gx_bs hf
  obtain ⟨_, -, hf⟩ := hf
  refine gx_stati C 20 rfl q388 dJ9_isLatin1_0 ?_
  refine gx_if_eq_f (tgt := 17) C dJ9_isLatin1_3 rfl (by decide) ?_
  refine gx_aload_n C dJ9_isLatin1_6 0 rfl ?_
  replace hf := gx_bs hf
  obtain ⟨x1, g3, hf⟩ := hf
  refine gx_gi C g3 gz_149 q530 dJ9_isLatin1_7 ?_
  replace hf := gx_ite hf
  rcases hf with ⟨c2, hf⟩ | ⟨c2, hf⟩
  · refine gx_if_ne_f (tgt := 17) C dJ9_isLatin1_10 rfl c2 ?_
    refine gx_iconst (v := 1) C dJ9_isLatin1_13 rfl ?_
    refine gx_goto (tgt := 18) C dJ9_isLatin1_14 rfl ?_
    obtain rfl := Option.some.inj hf
    exact gx_zret (b := true) C dJ9_isLatin1_18
  · refine gx_if_ne_t (tgt := 17) C dJ9_isLatin1_10 rfl c2 ?_
    refine gx_iconst (v := 0) C dJ9_isLatin1_17 rfl ?_
    obtain rfl := Option.some.inj hf
    exact gx_zret (b := false) C dJ9_isLatin1_18
theorem w_J9_isLatin1 {l : Launch} (hlt : l.stackTraces = false) {D : gx_D} {h : HX} {a0 : Nat} {r : Bool} (hf : f_J9_isLatin1 D h a0 = some r) : gx_Met l yJ9_isLatin1 cJ9_isLatin1 1 (some .boolean) 1 24 D [(va_rf (some a0))] h (some (.int (b2i r))) h :=
  gx_ofG gz_153 (by simp only [gx_lsr, gx_lsi, gx_lsj, gx_ls0]; decide) gx_le.rf (fun p e R s m args below meth c C hx => by
    simp only [gx_lar, gx_lai, gx_laj, gx_la0, Nat.reduceAdd]
    exact w_J9_isLatin1_b hlt C hx hf)
def f_J14_checkIndex_b9 (D : gx_D) (h : HX) (v0 : Int32) (v1 : Int32) (v2 : Option Nat) : Option Int32 :=
  none
theorem w_J14_checkIndex_b9 {l : Launch} (hlt : l.stackTraces = false) {p : Program} {e : Env} {R : Room} {s : State} {m : MethodId} {args : Array Value} {below : List Frame} {meth : Method} {c : Code} {D : gx_D} {h0 : HX} {r : Int32} (C : gx_Ctx p R s m args meth c "jdk/internal/util/Preconditions" cJ14_checkIndex 3 (some .int) 1 24 D h0 h0) (hx : meth.name = "checkIndex")  {v0 : Int32} {v1 : Int32} {v2 : Option Nat} (hf : f_J14_checkIndex_b9 D h0 v0 v1 v2 = some r) : gx_G p l e R s m args below meth c D h0 h0 3 (gx_MQ below args s D h0 h0 (some (.int r))) 9 [(0, (.int v0)), (1, (.int v1)), (2, (va_rf v2))] [] h0 := by
  unfold f_J14_checkIndex_b9 at hf
  refine gx_aload_n C dJ14_checkIndex_9 2 rfl ?_
  refine gx_iload_n C dJ14_checkIndex_10 0 rfl ?_
  refine gx_iload_n C dJ14_checkIndex_11 1 rfl ?_
  cases hf
def f_J14_checkIndex (D : gx_D) (h : HX) (p0 : Int32) (p1 : Int32) (p2 : Option Nat) : Option Int32 :=
  if p0 < 0 then
  f_J14_checkIndex_b9 D h p0 p1 p2
  else
  if p0 < p1 then
  some p0
  else
  f_J14_checkIndex_b9 D h p0 p1 p2
theorem w_J14_checkIndex_b {l : Launch} (hlt : l.stackTraces = false) {p : Program} {e : Env} {R : Room} {s : State} {m : MethodId} {args : Array Value} {below : List Frame} {meth : Method} {c : Code} {D : gx_D} {h0 : HX} {r : Int32} (C : gx_Ctx p R s m args meth c "jdk/internal/util/Preconditions" cJ14_checkIndex 3 (some .int) 1 24 D h0 h0) (hx : meth.name = "checkIndex") {p0 : Int32} {p1 : Int32} {p2 : Option Nat} (hf : f_J14_checkIndex D h0 p0 p1 p2 = some r) : gx_G p l e R s m args below meth c D h0 h0 3 (gx_MQ below args s D h0 h0 (some (.int r))) 0 [(0, (.int p0)), (1, (.int p1)), (2, (va_rf p2))] [] h0 := by
  unfold f_J14_checkIndex at hf
  refine gx_iload_n C dJ14_checkIndex_0 0 rfl ?_
  replace hf := gx_ite hf
  rcases hf with ⟨c1, hf⟩ | ⟨c1, hf⟩
  · refine gx_if_lt_t (tgt := 9) C dJ14_checkIndex_1 rfl c1 ?_
    refine gx_sub [0, 1, 2] rfl ?_
    exact w_J14_checkIndex_b9 hlt C hx hf
  · refine gx_if_lt_f (tgt := 9) C dJ14_checkIndex_1 rfl c1 ?_
    refine gx_iload_n C dJ14_checkIndex_4 0 rfl ?_
    refine gx_iload_n C dJ14_checkIndex_5 1 rfl ?_
    replace hf := gx_ite hf
    rcases hf with ⟨c2, hf⟩ | ⟨c2, hf⟩
    · refine gx_icmp_lt_t (tgt := 16) C dJ14_checkIndex_6 rfl c2 ?_
      refine gx_iload_n C dJ14_checkIndex_16 0 rfl ?_
      obtain rfl := Option.some.inj hf
      exact gx_iret C dJ14_checkIndex_17
    · refine gx_icmp_lt_f (tgt := 16) C dJ14_checkIndex_6 rfl c2 ?_
      refine gx_sub [0, 1, 2] rfl ?_
      exact w_J14_checkIndex_b9 hlt C hx hf
theorem w_J14_checkIndex {l : Launch} (hlt : l.stackTraces = false) {D : gx_D} {h : HX} {p0 : Int32} {p1 : Int32} {p2 : Option Nat} {r : Int32} (hf : f_J14_checkIndex D h p0 p1 p2 = some r) : gx_Met l yJ14_checkIndex cJ14_checkIndex 3 (some .int) 1 24 D [(.int p0), (.int p1), (va_rf p2)] h (some (.int r)) h :=
  gx_ofG gz_165 (by simp only [gx_lsr, gx_lsi, gx_lsj, gx_ls0]; decide) gx_le.rf (fun p e R s m args below meth c C hx => by
    simp only [gx_lar, gx_lai, gx_laj, gx_la0, Nat.reduceAdd]
    exact w_J14_checkIndex_b hlt C hx hf)
def f_J9_checkIndex (D : gx_D) (h : HX) (p0 : Int32) (p1 : Int32) : Option Unit :=
  (f_J14_checkIndex D h p0 p1 (D.2.2.2 2)).bind fun x2 =>
  some ()
theorem w_J9_checkIndex_b {l : Launch} (hlt : l.stackTraces = false) {p : Program} {e : Env} {R : Room} {s : State} {m : MethodId} {args : Array Value} {below : List Frame} {meth : Method} {c : Code} {D : gx_D} {h0 : HX} {r : Unit} (C : gx_Ctx p R s m args meth c "java/lang/String" cJ9_checkIndex 2 none 2 46 D h0 h0) (hx : meth.name = "checkIndex") {p0 : Int32} {p1 : Int32} (hf : f_J9_checkIndex D h0 p0 p1 = some r) : gx_G p l e R s m args below meth c D h0 h0 2 (gx_MQ below args s D h0 h0 none) 0 [(0, (.int p0)), (1, (.int p1))] [] h0 := by
  unfold f_J9_checkIndex at hf
  refine gx_iload_n C dJ9_checkIndex_0 0 rfl ?_
  refine gx_iload_n C dJ9_checkIndex_1 1 rfl ?_
  refine gx_statq C 23 rfl q366 dJ9_checkIndex_2 ?_
  replace hf := gx_bs hf
  obtain ⟨x2, g1, hf⟩ := hf
  refine gx_callS (st := []) C (w_J14_checkIndex hlt g1) (lw_S q1024 q1025 q140 q1026) gz_166 (by decide) rfl rfl (gx_catn (Nat.le_of_ble_eq_true rfl)) dJ9_checkIndex_5 ?_
  refine gx_pop C dJ9_checkIndex_8 rfl ?_
  obtain rfl := Option.some.inj hf
  exact gx_vret C dJ9_checkIndex_9
theorem w_J9_checkIndex {l : Launch} (hlt : l.stackTraces = false) {D : gx_D} {h : HX} {p0 : Int32} {p1 : Int32} {r : Unit} (hf : f_J9_checkIndex D h p0 p1 = some r) : gx_Met l yJ9_checkIndex cJ9_checkIndex 2 none 2 46 D [(.int p0), (.int p1)] h none h :=
  gx_ofG gz_153 (by simp only [gx_lsr, gx_lsi, gx_lsj, gx_ls0]; decide) gx_le.rf (fun p e R s m args below meth c C hx => by
    simp only [gx_lar, gx_lai, gx_laj, gx_la0, Nat.reduceAdd]
    exact w_J9_checkIndex_b hlt C hx hf)
def f_J15_charAt (D : gx_D) (h : HX) (p0 : Option Nat) (p1 : Int32) : Option Int32 :=
  p0.bind fun a1 =>
  (hx_len h a1).bind fun x2 =>
  (f_J9_checkIndex D h p1 x2).bind fun u7 =>
  (hx_ai h a1 1 p1).bind fun x4 =>
  if 0 ≤ ((Int32.toUInt32 (x4 &&& (255 : Int32)) % 65536).toInt32) ∧ ((Int32.toUInt32 (x4 &&& (255 : Int32)) % 65536).toInt32) ≤ 65535 then
  some (((Int32.toUInt32 (x4 &&& (255 : Int32)) % 65536).toInt32))
  else none
theorem w_J15_charAt_b {l : Launch} (hlt : l.stackTraces = false) {p : Program} {e : Env} {R : Room} {s : State} {m : MethodId} {args : Array Value} {below : List Frame} {meth : Method} {c : Code} {D : gx_D} {h0 : HX} {r : Int32} (C : gx_Ctx p R s m args meth c "java/lang/StringLatin1" cJ15_charAt 2 (some .char) 3 67 D h0 h0) (hx : meth.name = "charAt") {p0 : Option Nat} {p1 : Int32} (hf : f_J15_charAt D h0 p0 p1 = some r) : gx_G p l e R s m args below meth c D h0 h0 2 (gx_MQ below args s D h0 h0 (some (.int r))) 0 [(0, (va_rf p0)), (1, (.int p1))] [] h0 := by
  unfold f_J15_charAt at hf
  refine gx_iload_n C dJ15_charAt_0 1 rfl ?_
  refine gx_aload_n C dJ15_charAt_1 0 rfl ?_
  replace hf := gx_bs hf
  obtain ⟨a1, rfl, hf⟩ := hf
  replace hf := gx_bs hf
  obtain ⟨x2, g8, hf⟩ := hf
  refine gx_alen C g8 dJ15_charAt_2 ?_
  replace hf := gx_bs hf
  obtain ⟨u7, g3, hf⟩ := hf
  refine gx_callS (st := []) C (w_J9_checkIndex hlt g3) (lw_S q1077 q1022 q134 q1023) gz_167 (by decide) rfl rfl (gx_catn (Nat.le_of_ble_eq_true rfl)) dJ15_charAt_3 ?_
  refine gx_aload_n C dJ15_charAt_6 0 rfl ?_
  refine gx_iload_n C dJ15_charAt_7 1 rfl ?_
  replace hf := gx_bs hf
  obtain ⟨x4, g6, hf⟩ := hf
  refine gx_bald C g6 dJ15_charAt_8 ?_
  refine gx_sipush (v := 255) C dJ15_charAt_9 rfl ?_
  refine gx_iand C dJ15_charAt_12 ?_
  refine gx_i2c C dJ15_charAt_13 ?_
  replace hf := gx_ite hf
  rcases hf with ⟨c5, hf⟩ | ⟨c5, hf⟩
  rotate_left
  · cases hf
  obtain rfl := Option.some.inj hf
  exact gx_nret C rfl (gx_ncr c5) dJ15_charAt_14
theorem w_J15_charAt {l : Launch} (hlt : l.stackTraces = false) {D : gx_D} {h : HX} {p0 : Option Nat} {p1 : Int32} {r : Int32} (hf : f_J15_charAt D h p0 p1 = some r) : gx_Met l yJ15_charAt cJ15_charAt 2 (some .char) 3 67 D [(va_rf p0), (.int p1)] h (some (.int r)) h :=
  gx_ofG gz_139 (by simp only [gx_lsr, gx_lsi, gx_lsj, gx_ls0]; decide) gx_le.rf (fun p e R s m args below meth c C hx => by
    simp only [gx_lar, gx_lai, gx_laj, gx_la0, Nat.reduceAdd]
    exact w_J15_charAt_b hlt C hx hf)
def f_J9_charAt (D : gx_D) (h : HX) (a0 : Nat) (p1 : Int32) : Option Int32 :=
  (hx_is h a0 [2]).bind fun _ =>
  (f_J9_isLatin1 D h a0).bind fun b2 =>
  if b2 = true then
  (hx_gr h a0 [2] 0).bind fun r4 =>
  (f_J15_charAt D h r4 p1).bind fun x6 =>
  if 0 ≤ x6 ∧ x6 ≤ 65535 then
  some x6
  else none
  else
  (hx_gr h a0 [2] 0).bind fun r9 =>
  none
theorem is_J9_charAt {D : gx_D} {h : HX} {a0 : Nat} {p1 : Int32} {z} (hf : f_J9_charAt D h a0 p1 = some z) : gx_isC h a0 [2] := by
  unfold f_J9_charAt at hf
  obtain ⟨_, g, -⟩ := gx_bs hf
  exact hx_is_of g
theorem w_J9_charAt_b {l : Launch} (hlt : l.stackTraces = false) {p : Program} {e : Env} {R : Room} {s : State} {m : MethodId} {args : Array Value} {below : List Frame} {meth : Method} {c : Code} {D : gx_D} {h0 : HX} {r : Int32} (C : gx_Ctx p R s m args meth c "java/lang/String" cJ9_charAt 2 (some .char) 4 88 D h0 h0) (hx : meth.name = "charAt") {a0 : Nat} {p1 : Int32} (hf : f_J9_charAt D h0 a0 p1 = some r) : gx_G p l e R s m args below meth c D h0 h0 2 (gx_MQ below args s D h0 h0 (some (.int r))) 0 [(0, (va_rf (some a0))), (1, (.int p1))] [] h0 := by
  unfold f_J9_charAt at hf
  replace hf := gx_bs hf
  obtain ⟨_, -, hf⟩ := hf
  refine gx_aload_n C dJ9_charAt_0 0 rfl ?_
  replace hf := gx_bs hf
  obtain ⟨b2, g1, hf⟩ := hf
  refine gx_callV (st := []) C (w_J9_isLatin1 hlt g1) (is_J9_isLatin1 g1) gz_10 rfl (lw_V q1070 q1071 q1072 q134 q1073) gz_168 (by decide) rfl rfl (gx_catn (Nat.le_of_ble_eq_true rfl)) dJ9_charAt_1 ?_
  replace hf := gx_ite hf
  rcases hf with ⟨c3, hf⟩ | ⟨c3, hf⟩
  · refine gx_ifz_eq_f (tgt := 16) C dJ9_charAt_4 rfl c3 ?_
    refine gx_aload_n C dJ9_charAt_7 0 rfl ?_
    replace hf := gx_bs hf
    obtain ⟨r4, g8, hf⟩ := hf
    refine gx_gr C g8 gz_150 q529 dJ9_charAt_8 ?_
    refine gx_iload_n C dJ9_charAt_11 1 rfl ?_
    replace hf := gx_bs hf
    obtain ⟨x6, g5, hf⟩ := hf
    refine gx_callS (st := []) C (w_J15_charAt hlt g5) (lw_S q1074 q1075 q141 q1076) gz_169 (by decide) rfl rfl (gx_catn (Nat.le_of_ble_eq_true rfl)) dJ9_charAt_12 ?_
    replace hf := gx_ite hf
    rcases hf with ⟨c7, hf⟩ | ⟨c7, hf⟩
    rotate_left
    · cases hf
    obtain rfl := Option.some.inj hf
    exact gx_nret C rfl (gx_ncr c7) dJ9_charAt_15
  · refine gx_ifz_eq_t (tgt := 16) C dJ9_charAt_4 rfl c3 ?_
    refine gx_aload_n C dJ9_charAt_16 0 rfl ?_
    replace hf := gx_bs hf
    obtain ⟨r9, g10, hf⟩ := hf
    refine gx_gr C g10 gz_150 q529 dJ9_charAt_17 ?_
    refine gx_iload_n C dJ9_charAt_20 1 rfl ?_
    cases hf
theorem w_J9_charAt {l : Launch} (hlt : l.stackTraces = false) {D : gx_D} {h : HX} {a0 : Nat} {p1 : Int32} {r : Int32} (hf : f_J9_charAt D h a0 p1 = some r) : gx_Met l yJ9_charAt cJ9_charAt 2 (some .char) 4 88 D [(va_rf (some a0)), (.int p1)] h (some (.int r)) h :=
  gx_ofG gz_153 (by simp only [gx_lsr, gx_lsi, gx_lsj, gx_ls0]; decide) gx_le.rf (fun p e R s m args below meth c C hx => by
    simp only [gx_lar, gx_lai, gx_laj, gx_la0, Nat.reduceAdd]
    exact w_J9_charAt_b hlt C hx hf)
def f_J9_coder (D : gx_D) (h : HX) (a0 : Nat) : Option Int32 :=
  (hx_is h a0 [2]).bind fun _ =>
  (hx_gi h a0 [2] 1).bind fun x1 =>
  if (Int32.toInt8 x1).toInt32 = x1 then
  some x1
  else none
theorem is_J9_coder {D : gx_D} {h : HX} {a0 : Nat} {z} (hf : f_J9_coder D h a0 = some z) : gx_isC h a0 [2] := by
  unfold f_J9_coder at hf
  obtain ⟨_, g, -⟩ := gx_bs hf
  exact hx_is_of g
theorem w_J9_coder_b {l : Launch} (hlt : l.stackTraces = false) {p : Program} {e : Env} {R : Room} {s : State} {m : MethodId} {args : Array Value} {below : List Frame} {meth : Method} {c : Code} {D : gx_D} {h0 : HX} {r : Int32} (C : gx_Ctx p R s m args meth c "java/lang/String" cJ9_coder 1 (some .byte) 1 24 D h0 h0) (hx : meth.name = "coder") {a0 : Nat} (hf : f_J9_coder D h0 a0 = some r) : gx_G p l e R s m args below meth c D h0 h0 1 (gx_MQ below args s D h0 h0 (some (.int r))) 0 [(0, (va_rf (some a0)))] [] h0 := by
  unfold f_J9_coder at hf
  replace hf := gx_bs hf
  obtain ⟨_, -, hf⟩ := hf
  refine gx_stati C 20 rfl q388 dJ9_coder_0 ?_
  refine gx_if_eq_f (tgt := 13) C dJ9_coder_3 rfl (by decide) ?_
  refine gx_aload_n C dJ9_coder_6 0 rfl ?_
  replace hf := gx_bs hf
  obtain ⟨x1, g3, hf⟩ := hf
  refine gx_gi C g3 gz_149 q530 dJ9_coder_7 ?_
  refine gx_goto (tgt := 14) C dJ9_coder_10 rfl ?_
  replace hf := gx_ite hf
  rcases hf with ⟨c2, hf⟩ | ⟨c2, hf⟩
  rotate_left
  · cases hf
  obtain rfl := Option.some.inj hf
  exact gx_nret C rfl (gx_nb c2).1 dJ9_coder_14
theorem w_J9_coder {l : Launch} (hlt : l.stackTraces = false) {D : gx_D} {h : HX} {a0 : Nat} {r : Int32} (hf : f_J9_coder D h a0 = some r) : gx_Met l yJ9_coder cJ9_coder 1 (some .byte) 1 24 D [(va_rf (some a0))] h (some (.int r)) h :=
  gx_ofG gz_153 (by simp only [gx_lsr, gx_lsi, gx_lsj, gx_ls0]; decide) gx_le.rf (fun p e R s m args below meth c C hx => by
    simp only [gx_lar, gx_lai, gx_laj, gx_la0, Nat.reduceAdd]
    exact w_J9_coder_b hlt C hx hf)
def f_J9_length (D : gx_D) (h : HX) (a0 : Nat) : Option Int32 :=
  (hx_is h a0 [2]).bind fun _ =>
  (hx_gr h a0 [2] 0).bind fun r1 =>
  r1.bind fun a2 =>
  (hx_len h a2).bind fun x3 =>
  (f_J9_coder D h a0).bind fun x5 =>
  some ((x3 >>> (x5 &&& 31)))
theorem is_J9_length {D : gx_D} {h : HX} {a0 : Nat} {z} (hf : f_J9_length D h a0 = some z) : gx_isC h a0 [2] := by
  unfold f_J9_length at hf
  obtain ⟨_, g, -⟩ := gx_bs hf
  exact hx_is_of g
theorem w_J9_length_b {l : Launch} (hlt : l.stackTraces = false) {p : Program} {e : Env} {R : Room} {s : State} {m : MethodId} {args : Array Value} {below : List Frame} {meth : Method} {c : Code} {D : gx_D} {h0 : HX} {r : Int32} (C : gx_Ctx p R s m args meth c "java/lang/String" cJ9_length 1 (some .int) 2 44 D h0 h0) (hx : meth.name = "length") {a0 : Nat} (hf : f_J9_length D h0 a0 = some r) : gx_G p l e R s m args below meth c D h0 h0 1 (gx_MQ below args s D h0 h0 (some (.int r))) 0 [(0, (va_rf (some a0)))] [] h0 := by
  unfold f_J9_length at hf
  replace hf := gx_bs hf
  obtain ⟨_, -, hf⟩ := hf
  refine gx_aload_n C dJ9_length_0 0 rfl ?_
  replace hf := gx_bs hf
  obtain ⟨r1, g7, hf⟩ := hf
  refine gx_gr C g7 gz_150 q529 dJ9_length_1 ?_
  replace hf := gx_bs hf
  obtain ⟨a2, rfl, hf⟩ := hf
  replace hf := gx_bs hf
  obtain ⟨x3, g6, hf⟩ := hf
  refine gx_alen C g6 dJ9_length_4 ?_
  refine gx_aload_n C dJ9_length_5 0 rfl ?_
  replace hf := gx_bs hf
  obtain ⟨x5, g4, hf⟩ := hf
  refine gx_callV (st := [(.int x3)]) C (w_J9_coder hlt g4) (is_J9_coder g4) gz_10 rfl (lw_V q384 q385 q386 q134 q387) gz_170 (by decide) rfl rfl (gx_catn (Nat.le_of_ble_eq_true rfl)) dJ9_length_6 ?_
  refine gx_ishr C dJ9_length_9 ?_
  obtain rfl := Option.some.inj hf
  exact gx_iret C dJ9_length_10
theorem w_J9_length {l : Launch} (hlt : l.stackTraces = false) {D : gx_D} {h : HX} {a0 : Nat} {r : Int32} (hf : f_J9_length D h a0 = some r) : gx_Met l yJ9_length cJ9_length 1 (some .int) 2 44 D [(va_rf (some a0))] h (some (.int r)) h :=
  gx_ofG gz_153 (by simp only [gx_lsr, gx_lsi, gx_lsj, gx_ls0]; decide) gx_le.rf (fun p e R s m args below meth c C hx => by
    simp only [gx_lar, gx_lai, gx_laj, gx_la0, Nat.reduceAdd]
    exact w_J9_length_b hlt C hx hf)
def f_J16_parseInt_2_b245 (D : gx_D) (h : HX) (v2 : Bool) (v8 : Int32) : Option Int32 :=
  if v2 = true then
  some v8
  else
  some ((-v8))
theorem w_J16_parseInt_2_b245 {l : Launch} (hlt : l.stackTraces = false) {p : Program} {e : Env} {R : Room} {s : State} {m : MethodId} {args : Array Value} {below : List Frame} {meth : Method} {c : Code} {D : gx_D} {h0 : HX} {r : Int32} (C : gx_Ctx p R s m args meth c "java/lang/Integer" cJ16_parseInt_2 10 (some .int) 5 109 D h0 h0) (hx : meth.name = "parseInt")  {v2 : Bool} {v8 : Int32} (hf : f_J16_parseInt_2_b245 D h0 v2 v8 = some r) : gx_G p l e R s m args below meth c D h0 h0 10 (gx_MQ below args s D h0 h0 (some (.int r))) 245 [(2, (.int (b2i v2))), (8, (.int v8))] [] h0 := by
  unfold f_J16_parseInt_2_b245 at hf
  refine gx_iload_n C dJ16_parseInt_2_245 0 rfl ?_
  replace hf := gx_ite hf
  rcases hf with ⟨c11, hf⟩ | ⟨c11, hf⟩
  · refine gx_ifz_eq_f (tgt := 254) C dJ16_parseInt_2_246 rfl c11 ?_
    refine gx_iload C dJ16_parseInt_2_249 1 rfl ?_
    refine gx_goto (tgt := 257) C dJ16_parseInt_2_251 rfl ?_
    obtain rfl := Option.some.inj hf
    exact gx_iret C dJ16_parseInt_2_257
  · refine gx_ifz_eq_t (tgt := 254) C dJ16_parseInt_2_246 rfl c11 ?_
    refine gx_iload C dJ16_parseInt_2_254 1 rfl ?_
    refine gx_ineg C dJ16_parseInt_2_256 ?_
    obtain rfl := Option.some.inj hf
    exact gx_iret C dJ16_parseInt_2_257
def f_J16_parseInt_2_b207 (D : gx_D) (h : HX) (v0 : Option Nat) (v1 : Int32) : Option Int32 :=
  none
theorem w_J16_parseInt_2_b207 {l : Launch} (hlt : l.stackTraces = false) {p : Program} {e : Env} {R : Room} {s : State} {m : MethodId} {args : Array Value} {below : List Frame} {meth : Method} {c : Code} {D : gx_D} {h0 : HX} {r : Int32} (C : gx_Ctx p R s m args meth c "java/lang/Integer" cJ16_parseInt_2 10 (some .int) 5 109 D h0 h0) (hx : meth.name = "parseInt")  {v0 : Option Nat} {v1 : Int32} (hf : f_J16_parseInt_2_b207 D h0 v0 v1 = some r) : gx_G p l e R s m args below meth c D h0 h0 10 (gx_MQ below args s D h0 h0 (some (.int r))) 207 [(0, (va_rf v0)), (1, (.int v1))] [] h0 := by
  unfold f_J16_parseInt_2_b207 at hf
  refine gx_aload_n C dJ16_parseInt_2_207 0 rfl ?_
  refine gx_iload_n C dJ16_parseInt_2_208 1 rfl ?_
  cases hf
def f_J16_parseInt_2_b229 (D : gx_D) (h : HX) (v0 : Option Nat) (v1 : Int32) : Option Int32 :=
  none
theorem w_J16_parseInt_2_b229 {l : Launch} (hlt : l.stackTraces = false) {p : Program} {e : Env} {R : Room} {s : State} {m : MethodId} {args : Array Value} {below : List Frame} {meth : Method} {c : Code} {D : gx_D} {h0 : HX} {r : Int32} (C : gx_Ctx p R s m args meth c "java/lang/Integer" cJ16_parseInt_2 10 (some .int) 5 109 D h0 h0) (hx : meth.name = "parseInt")  {v0 : Option Nat} {v1 : Int32} (hf : f_J16_parseInt_2_b229 D h0 v0 v1 = some r) : gx_G p l e R s m args below meth c D h0 h0 10 (gx_MQ below args s D h0 h0 (some (.int r))) 229 [(0, (va_rf v0)), (1, (.int v1))] [] h0 := by
  unfold f_J16_parseInt_2_b229 at hf
  refine gx_aload_n C dJ16_parseInt_2_229 0 rfl ?_
  refine gx_iload_n C dJ16_parseInt_2_230 1 rfl ?_
  cases hf
def f_J16_parseInt_2_b175 (D : gx_D) : Nat → HX → Option Nat → Int32 → Bool → Int32 → Int32 → Int32 → Int32 → Int32 → Option Int32
  | 0, _, _, _, _, _, _, _, _, _ => none
  | n + 1, h, v0, v1, v2, v3, v4, v5, v7, v8 =>
  if v4 ≤ v3 then
  f_J16_parseInt_2_b245 D h v2 v8
  else
  v0.bind fun a12 =>
  (f_J9_charAt D h a12 v3).bind fun x14 =>
  (f_J19_digit D h x14 v1).bind fun x16 =>
  if x16 < 0 then
  f_J16_parseInt_2_b207 D h (some a12) v1
  else
  if v7 ≤ v8 then
  if (v5 + x16) ≤ (v8 * v1) then
  (f_J16_parseInt_2_b175 D n) h (some a12) v1 v2 ((v3 + (1 : Int32))) v4 v5 v7 (((v8 * v1) - x16))
  else
  f_J16_parseInt_2_b229 D h (some a12) v1
  else
  f_J16_parseInt_2_b207 D h (some a12) v1
theorem w_J16_parseInt_2_b175 {l : Launch} (hlt : l.stackTraces = false) {p : Program} {e : Env} {R : Room} {s : State} {m : MethodId} {args : Array Value} {below : List Frame} {meth : Method} {c : Code} {D : gx_D} {h0 : HX} {r : Int32} (C : gx_Ctx p R s m args meth c "java/lang/Integer" cJ16_parseInt_2 10 (some .int) 5 109 D h0 h0) (hx : meth.name = "parseInt")  : ∀ (n : Nat) ⦃v0 : Option Nat⦄ ⦃v1 : Int32⦄ ⦃v2 : Bool⦄ ⦃v3 : Int32⦄ ⦃v4 : Int32⦄ ⦃v5 : Int32⦄ ⦃v7 : Int32⦄ ⦃v8 : Int32⦄, f_J16_parseInt_2_b175 D n h0 v0 v1 v2 v3 v4 v5 v7 v8 = some r → gx_G p l e R s m args below meth c D h0 h0 10 (gx_MQ below args s D h0 h0 (some (.int r))) 175 [(0, (va_rf v0)), (1, (.int v1)), (2, (.int (b2i v2))), (3, (.int v3)), (4, (.int v4)), (5, (.int v5)), (7, (.int v7)), (8, (.int v8))] [] h0 := by
  intro n
  induction n with
  | zero => intro v0 v1 v2 v3 v4 v5 v7 v8 hf; unfold f_J16_parseInt_2_b175 at hf; cases hf
  | succ n wk175 =>
    intro v0 v1 v2 v3 v4 v5 v7 v8 hf
    unfold f_J16_parseInt_2_b175 at hf
    refine gx_iload_n C dJ16_parseInt_2_175 3 rfl ?_
    refine gx_iload C dJ16_parseInt_2_176 4 rfl ?_
    replace hf := gx_ite hf
    rcases hf with ⟨c10, hf⟩ | ⟨c10, hf⟩
    · refine gx_icmp_ge_t (tgt := 245) C dJ16_parseInt_2_178 rfl c10 ?_
      refine gx_sub [2, 7] rfl ?_
      exact w_J16_parseInt_2_b245 hlt C hx hf
    · refine gx_icmp_ge_f (tgt := 245) C dJ16_parseInt_2_178 rfl c10 ?_
      refine gx_aload_n C dJ16_parseInt_2_181 0 rfl ?_
      refine gx_iload_n C dJ16_parseInt_2_182 3 rfl ?_
      refine gx_inc (v := 1) C dJ16_parseInt_2_183 3 rfl rfl (by decide) [0, 1, 2, 4, 5, 6, 7] rfl (gx_okn rfl rfl (gx_okn rfl rfl (gx_okr rfl gx_catv_i (gx_okn rfl rfl (gx_okn rfl rfl (gx_okn rfl rfl (gx_okn rfl rfl gx_ok0))))))) ?_
      replace hf := gx_bs hf
      obtain ⟨a12, rfl, hf⟩ := hf
      replace hf := gx_bs hf
      obtain ⟨x14, g13, hf⟩ := hf
      refine gx_callV (st := []) C (w_J9_charAt hlt g13) (is_J9_charAt g13) gz_10 rfl (lw_V q1066 q1067 q1068 q134 q1069) gz_172 (by decide) rfl rfl (gx_catn (Nat.le_of_ble_eq_true rfl)) dJ16_parseInt_2_186 ?_
      refine gx_iload_n C dJ16_parseInt_2_189 2 rfl ?_
      replace hf := gx_bs hf
      obtain ⟨x16, g15, hf⟩ := hf
      refine gx_callS (st := []) C (w_J19_digit hlt g15) (lw_S q1096 q1097 q156 q1098) gz_173 (by decide) rfl rfl (gx_catn (Nat.le_of_ble_eq_true rfl)) dJ16_parseInt_2_190 ?_
      refine gx_ist C dJ16_parseInt_2_193 (by decide) [0, 1, 2, 3, 4, 5, 6, 7]  rfl (gx_okn rfl rfl (gx_okn rfl rfl (gx_okn rfl rfl (gx_okn rfl rfl (gx_okn rfl rfl (gx_okn rfl rfl (gx_okn rfl rfl (gx_okr rfl gx_catv_i gx_ok0)))))))) ?_
      refine gx_iload C dJ16_parseInt_2_195 0 rfl ?_
      replace hf := gx_ite hf
      rcases hf with ⟨c17, hf⟩ | ⟨c17, hf⟩
      · refine gx_if_lt_t (tgt := 207) C dJ16_parseInt_2_197 rfl c17 ?_
        refine gx_sub [2, 3] rfl ?_
        exact w_J16_parseInt_2_b207 hlt C hx hf
      · refine gx_if_lt_f (tgt := 207) C dJ16_parseInt_2_197 rfl c17 ?_
        refine gx_iload C dJ16_parseInt_2_200 8 rfl ?_
        refine gx_iload C dJ16_parseInt_2_202 7 rfl ?_
        replace hf := gx_ite hf
        rcases hf with ⟨c18, hf⟩ | ⟨c18, hf⟩
        · refine gx_icmp_ge_t (tgt := 213) C dJ16_parseInt_2_204 rfl c18 ?_
          refine gx_iload C dJ16_parseInt_2_213 8 rfl ?_
          refine gx_iload_n C dJ16_parseInt_2_215 3 rfl ?_
          refine gx_imul C dJ16_parseInt_2_216 ?_
          refine gx_ist C dJ16_parseInt_2_217 (by decide) [0, 1, 2, 3, 4, 5, 6, 7]  rfl (gx_okn rfl rfl (gx_okn rfl rfl (gx_okn rfl rfl (gx_okn rfl rfl (gx_okn rfl rfl (gx_okn rfl rfl (gx_okn rfl rfl (gx_okr rfl gx_catv_i gx_ok0)))))))) ?_
          refine gx_iload C dJ16_parseInt_2_219 0 rfl ?_
          refine gx_iload C dJ16_parseInt_2_221 7 rfl ?_
          refine gx_iload C dJ16_parseInt_2_223 1 rfl ?_
          refine gx_iadd C dJ16_parseInt_2_225 ?_
          replace hf := gx_ite hf
          rcases hf with ⟨c19, hf⟩ | ⟨c19, hf⟩
          · refine gx_icmp_ge_t (tgt := 235) C dJ16_parseInt_2_226 rfl c19 ?_
            refine gx_iload C dJ16_parseInt_2_235 0 rfl ?_
            refine gx_iload C dJ16_parseInt_2_237 1 rfl ?_
            refine gx_isub C dJ16_parseInt_2_239 ?_
            refine gx_ist C dJ16_parseInt_2_240 (by decide) [2, 3, 4, 5, 6, 7, 8]  rfl (gx_okn rfl rfl (gx_okn rfl rfl (gx_okn rfl rfl (gx_okn rfl rfl (gx_okn rfl rfl (gx_okn rfl rfl (gx_okr rfl gx_catv_i gx_ok0))))))) ?_
            refine gx_goto (tgt := 175) C dJ16_parseInt_2_242 rfl ?_
            refine gx_sub [2, 3, 4, 1, 5, 6, 7, 0] rfl ?_
            exact wk175 hf
          · refine gx_icmp_ge_f (tgt := 235) C dJ16_parseInt_2_226 rfl c19 ?_
            refine gx_sub [3, 4] rfl ?_
            exact w_J16_parseInt_2_b229 hlt C hx hf
        · refine gx_icmp_ge_f (tgt := 213) C dJ16_parseInt_2_204 rfl c18 ?_
          refine gx_sub [2, 3] rfl ?_
          exact w_J16_parseInt_2_b207 hlt C hx hf
def f_J16_parseInt_2_b166 (D : gx_D) (h : HX) (v0 : Option Nat) (v1 : Int32) (v2 : Bool) (v3 : Int32) (v4 : Int32) (v5 : Int32) : Option Int32 :=
  if v1 = 0 then none else
  f_J16_parseInt_2_b175 D gx_fuel h v0 v1 v2 v3 v4 v5 ((v5 / v1)) ((0 : Int32))
theorem w_J16_parseInt_2_b166 {l : Launch} (hlt : l.stackTraces = false) {p : Program} {e : Env} {R : Room} {s : State} {m : MethodId} {args : Array Value} {below : List Frame} {meth : Method} {c : Code} {D : gx_D} {h0 : HX} {r : Int32} (C : gx_Ctx p R s m args meth c "java/lang/Integer" cJ16_parseInt_2 10 (some .int) 5 109 D h0 h0) (hx : meth.name = "parseInt")  {v0 : Option Nat} {v1 : Int32} {v2 : Bool} {v3 : Int32} {v4 : Int32} {v5 : Int32} (hf : f_J16_parseInt_2_b166 D h0 v0 v1 v2 v3 v4 v5 = some r) : gx_G p l e R s m args below meth c D h0 h0 10 (gx_MQ below args s D h0 h0 (some (.int r))) 166 [(0, (va_rf v0)), (1, (.int v1)), (2, (.int (b2i v2))), (3, (.int v3)), (4, (.int v4)), (5, (.int v5))] [] h0 := by
  unfold f_J16_parseInt_2_b166 at hf
  refine gx_iload C dJ16_parseInt_2_166 5 rfl ?_
  refine gx_iload_n C dJ16_parseInt_2_168 1 rfl ?_
  replace hf := gx_ite hf
  rcases hf with ⟨c20, hf⟩ | ⟨c20, hf⟩
  · cases hf
  refine gx_idiv C dJ16_parseInt_2_169 c20 ?_
  refine gx_ist C dJ16_parseInt_2_170 (by decide) [0, 1, 2, 3, 4, 5]  rfl (gx_okn rfl rfl (gx_okn rfl rfl (gx_okn rfl rfl (gx_okn rfl rfl (gx_okn rfl rfl (gx_okn rfl rfl gx_ok0)))))) ?_
  refine gx_iconst (v := 0) C dJ16_parseInt_2_172 rfl ?_
  refine gx_ist C dJ16_parseInt_2_173 (by decide) [0, 1, 2, 3, 4, 5, 6]  rfl (gx_okr rfl gx_catv_i (gx_okn rfl rfl (gx_okn rfl rfl (gx_okn rfl rfl (gx_okn rfl rfl (gx_okn rfl rfl (gx_okn rfl rfl gx_ok0))))))) ?_
  refine gx_sub [2, 3, 4, 5, 6, 7, 1, 0] rfl ?_
  exact w_J16_parseInt_2_b175 hlt C hx gx_fuel hf
def f_J16_parseInt_2_b151 (D : gx_D) (h : HX) (v0 : Option Nat) (v1 : Int32) (v2 : Bool) (v3 : Int32) (v4 : Int32) (v5 : Int32) : Option Int32 :=
  if v4 = (1 : Int32) then
  none
  else
  f_J16_parseInt_2_b166 D h v0 v1 v2 ((v3 + (1 : Int32))) v4 v5
theorem w_J16_parseInt_2_b151 {l : Launch} (hlt : l.stackTraces = false) {p : Program} {e : Env} {R : Room} {s : State} {m : MethodId} {args : Array Value} {below : List Frame} {meth : Method} {c : Code} {D : gx_D} {h0 : HX} {r : Int32} (C : gx_Ctx p R s m args meth c "java/lang/Integer" cJ16_parseInt_2 10 (some .int) 5 109 D h0 h0) (hx : meth.name = "parseInt")  {v0 : Option Nat} {v1 : Int32} {v2 : Bool} {v3 : Int32} {v4 : Int32} {v5 : Int32} (hf : f_J16_parseInt_2_b151 D h0 v0 v1 v2 v3 v4 v5 = some r) : gx_G p l e R s m args below meth c D h0 h0 10 (gx_MQ below args s D h0 h0 (some (.int r))) 151 [(0, (va_rf v0)), (1, (.int v1)), (2, (.int (b2i v2))), (3, (.int v3)), (4, (.int v4)), (5, (.int v5))] [] h0 := by
  unfold f_J16_parseInt_2_b151 at hf
  refine gx_iload C dJ16_parseInt_2_151 4 rfl ?_
  refine gx_iconst (v := 1) C dJ16_parseInt_2_153 rfl ?_
  replace hf := gx_ite hf
  rcases hf with ⟨c22, hf⟩ | ⟨c22, hf⟩
  · refine gx_icmp_ne_f (tgt := 163) C dJ16_parseInt_2_154 rfl c22 ?_
    refine gx_aload_n C dJ16_parseInt_2_157 0 rfl ?_
    refine gx_iload_n C dJ16_parseInt_2_158 1 rfl ?_
    cases hf
  · refine gx_icmp_ne_t (tgt := 163) C dJ16_parseInt_2_154 rfl c22 ?_
    refine gx_inc (v := 1) C dJ16_parseInt_2_163 3 rfl rfl (by decide) [0, 1, 2, 4, 5] rfl (gx_okn rfl rfl (gx_okn rfl rfl (gx_okr rfl gx_catv_i (gx_okn rfl rfl (gx_okn rfl rfl gx_ok0))))) ?_
    refine gx_sub [1, 2, 3, 0, 4, 5] rfl ?_
    exact w_J16_parseInt_2_b166 hlt C hx hf
def f_J16_parseInt_2 (D : gx_D) (h : HX) (p0 : Option Nat) (p1 : Int32) : Option Int32 :=
  gx_on p0 (
  none) fun a1 =>
  if (2 : Int32) ≤ p1 then
  if p1 ≤ (36 : Int32) then
  (f_J9_length D h a1).bind fun x5 =>
  if x5 ≤ 0 then
  none
  else
  (f_J9_charAt D h a1 (0 : Int32)).bind fun x8 =>
  if (48 : Int32) ≤ x8 then
  f_J16_parseInt_2_b166 D h (some a1) p1 false ((0 : Int32)) x5 ((-2147483647 : Int32))
  else
  if x8 = (45 : Int32) then
  f_J16_parseInt_2_b151 D h (some a1) p1 true ((0 : Int32)) x5 ((-2147483648 : Int32))
  else
  if x8 = (43 : Int32) then
  f_J16_parseInt_2_b151 D h (some a1) p1 false ((0 : Int32)) x5 ((-2147483647 : Int32))
  else
  none
  else
  none
  else
  none
theorem w_J16_parseInt_2_b {l : Launch} (hlt : l.stackTraces = false) {p : Program} {e : Env} {R : Room} {s : State} {m : MethodId} {args : Array Value} {below : List Frame} {meth : Method} {c : Code} {D : gx_D} {h0 : HX} {r : Int32} (C : gx_Ctx p R s m args meth c "java/lang/Integer" cJ16_parseInt_2 10 (some .int) 5 109 D h0 h0) (hx : meth.name = "parseInt") {p0 : Option Nat} {p1 : Int32} (hf : f_J16_parseInt_2 D h0 p0 p1 = some r) : gx_G p l e R s m args below meth c D h0 h0 10 (gx_MQ below args s D h0 h0 (some (.int r))) 0 [(0, (va_rf p0)), (1, (.int p1))] [] h0 := by
  unfold f_J16_parseInt_2 at hf
  refine gx_aload_n C dJ16_parseInt_2_0 0 rfl ?_
  rcases p0 with _ | a1
  · replace hf := gx_on_n hf
    refine gx_ifnonnull_f C dJ16_parseInt_2_1 ?_
    cases hf
  · replace hf := gx_on_s hf
    refine gx_ifnonnull_t (tgt := 14) C dJ16_parseInt_2_1 rfl ?_
    refine gx_iload_n C dJ16_parseInt_2_14 1 rfl ?_
    refine gx_iconst (v := 2) C dJ16_parseInt_2_15 rfl ?_
    replace hf := gx_ite hf
    rcases hf with ⟨c2, hf⟩ | ⟨c2, hf⟩
    · refine gx_icmp_ge_t (tgt := 51) C dJ16_parseInt_2_16 rfl c2 ?_
      refine gx_iload_n C dJ16_parseInt_2_51 1 rfl ?_
      refine gx_bipush (v := 36) C dJ16_parseInt_2_52 rfl ?_
      replace hf := gx_ite hf
      rcases hf with ⟨c3, hf⟩ | ⟨c3, hf⟩
      · refine gx_icmp_le_t (tgt := 89) C dJ16_parseInt_2_54 rfl c3 ?_
        refine gx_iconst (v := 0) C dJ16_parseInt_2_89 rfl ?_
        refine gx_istn C dJ16_parseInt_2_90 2 rfl (by decide) [0, 1]  rfl (gx_okn rfl rfl (gx_okr rfl gx_catv_i gx_ok0)) ?_
        refine gx_iconst (v := 0) C dJ16_parseInt_2_91 rfl ?_
        refine gx_istn C dJ16_parseInt_2_92 3 rfl (by decide) [0, 1, 2]  rfl (gx_okr rfl gx_catv_i (gx_okn rfl rfl (gx_okn rfl rfl gx_ok0))) ?_
        refine gx_aload_n C dJ16_parseInt_2_93 2 rfl ?_
        replace hf := gx_bs hf
        obtain ⟨x5, g4, hf⟩ := hf
        refine gx_callV (st := []) C (w_J9_length hlt g4) (is_J9_length g4) gz_10 rfl (lw_V q1064 q381 q382 q134 q383) gz_171 (by decide) rfl rfl (gx_catn (Nat.le_of_ble_eq_true rfl)) dJ16_parseInt_2_94 ?_
        refine gx_ist C dJ16_parseInt_2_97 (by decide) [0, 1, 2, 3]  rfl (gx_okr rfl gx_catv_i (gx_okn rfl rfl (gx_okn rfl rfl (gx_okn rfl rfl gx_ok0)))) ?_
        refine gx_ldc C q1065 dJ16_parseInt_2_99 ?_
        refine gx_ist C dJ16_parseInt_2_101 (by decide) [0, 1, 2, 3, 4]  rfl (gx_okr rfl gx_catv_i (gx_okn rfl rfl (gx_okn rfl rfl (gx_okn rfl rfl (gx_okn rfl rfl gx_ok0))))) ?_
        refine gx_iload C dJ16_parseInt_2_103 1 rfl ?_
        replace hf := gx_ite hf
        rcases hf with ⟨c6, hf⟩ | ⟨c6, hf⟩
        · refine gx_if_le_t (tgt := 258) C dJ16_parseInt_2_105 rfl c6 ?_
          refine gx_aload_n C dJ16_parseInt_2_258 4 rfl ?_
          refine gx_iload_n C dJ16_parseInt_2_259 5 rfl ?_
          cases hf
        · refine gx_if_le_f (tgt := 258) C dJ16_parseInt_2_105 rfl c6 ?_
          refine gx_aload_n C dJ16_parseInt_2_108 4 rfl ?_
          refine gx_iconst (v := 0) C dJ16_parseInt_2_109 rfl ?_
          replace hf := gx_bs hf
          obtain ⟨x8, g7, hf⟩ := hf
          refine gx_callV (st := []) C (w_J9_charAt hlt g7) (is_J9_charAt g7) gz_10 rfl (lw_V q1066 q1067 q1068 q134 q1069) gz_172 (by decide) rfl rfl (gx_catn (Nat.le_of_ble_eq_true rfl)) dJ16_parseInt_2_110 ?_
          refine gx_ist C dJ16_parseInt_2_113 (by decide) [0, 1, 2, 3, 4, 5]  rfl (gx_okr rfl gx_catv_i (gx_okn rfl rfl (gx_okn rfl rfl (gx_okn rfl rfl (gx_okn rfl rfl (gx_okn rfl rfl gx_ok0)))))) ?_
          refine gx_iload C dJ16_parseInt_2_115 0 rfl ?_
          refine gx_bipush (v := 48) C dJ16_parseInt_2_117 rfl ?_
          replace hf := gx_ite hf
          rcases hf with ⟨c9, hf⟩ | ⟨c9, hf⟩
          · refine gx_icmp_ge_t (tgt := 166) C dJ16_parseInt_2_119 rfl c9 ?_
            refine gx_sub [5, 6, 4, 3, 2, 1] rfl ?_
            exact w_J16_parseInt_2_b166 hlt C hx hf
          · refine gx_icmp_ge_f (tgt := 166) C dJ16_parseInt_2_119 rfl c9 ?_
            refine gx_iload C dJ16_parseInt_2_122 0 rfl ?_
            refine gx_bipush (v := 45) C dJ16_parseInt_2_124 rfl ?_
            replace hf := gx_ite hf
            rcases hf with ⟨c21, hf⟩ | ⟨c21, hf⟩
            · refine gx_icmp_ne_f (tgt := 138) C dJ16_parseInt_2_126 rfl c21 ?_
              refine gx_iconst (v := 1) C dJ16_parseInt_2_129 rfl ?_
              refine gx_istn C dJ16_parseInt_2_130 2 rfl (by decide) [2, 3, 5, 6]  rfl (gx_okn rfl rfl (gx_okn rfl rfl (gx_okn rfl rfl (gx_okr rfl gx_catv_i gx_ok0)))) ?_
              refine gx_ldc C q1081 dJ16_parseInt_2_131 ?_
              refine gx_ist C dJ16_parseInt_2_133 (by decide) [0, 1, 2, 3, 4]  rfl (gx_okn rfl rfl (gx_okr rfl gx_catv_i (gx_okn rfl rfl (gx_okn rfl rfl (gx_okn rfl rfl gx_ok0))))) ?_
              refine gx_goto (tgt := 151) C dJ16_parseInt_2_135 rfl ?_
              refine gx_sub [4, 5, 1, 3, 2, 0] rfl ?_
              exact w_J16_parseInt_2_b151 hlt C hx hf
            · refine gx_icmp_ne_t (tgt := 138) C dJ16_parseInt_2_126 rfl c21 ?_
              refine gx_iload C dJ16_parseInt_2_138 0 rfl ?_
              refine gx_bipush (v := 43) C dJ16_parseInt_2_140 rfl ?_
              replace hf := gx_ite hf
              rcases hf with ⟨c23, hf⟩ | ⟨c23, hf⟩
              · refine gx_icmp_eq_t (tgt := 151) C dJ16_parseInt_2_142 rfl c23 ?_
                refine gx_sub [5, 6, 4, 3, 2, 1] rfl ?_
                exact w_J16_parseInt_2_b151 hlt C hx hf
              · refine gx_icmp_eq_f (tgt := 151) C dJ16_parseInt_2_142 rfl c23 ?_
                refine gx_aload_n C dJ16_parseInt_2_145 5 rfl ?_
                refine gx_iload_n C dJ16_parseInt_2_146 6 rfl ?_
                cases hf
      · refine gx_icmp_le_f (tgt := 89) C dJ16_parseInt_2_54 rfl c3 ?_
        cases hf
    · refine gx_icmp_ge_f (tgt := 51) C dJ16_parseInt_2_16 rfl c2 ?_
      cases hf
theorem w_J16_parseInt_2 {l : Launch} (hlt : l.stackTraces = false) {D : gx_D} {h : HX} {p0 : Option Nat} {p1 : Int32} {r : Int32} (hf : f_J16_parseInt_2 D h p0 p1 = some r) : gx_Met l yJ16_parseInt_2 cJ16_parseInt_2 10 (some .int) 5 109 D [(va_rf p0), (.int p1)] h (some (.int r)) h :=
  gx_ofG gz_174 (by simp only [gx_lsr, gx_lsi, gx_lsj, gx_ls0]; decide) gx_le.rf (fun p e R s m args below meth c C hx => by
    simp only [gx_lar, gx_lai, gx_laj, gx_la0, Nat.reduceAdd]
    exact w_J16_parseInt_2_b hlt C hx hf)
def f_J16_parseInt (D : gx_D) (h : HX) (p0 : Option Nat) : Option Int32 :=
  (f_J16_parseInt_2 D h p0 (10 : Int32)).bind fun x2 =>
  some x2
theorem w_J16_parseInt_b {l : Launch} (hlt : l.stackTraces = false) {p : Program} {e : Env} {R : Room} {s : State} {m : MethodId} {args : Array Value} {below : List Frame} {meth : Method} {c : Code} {D : gx_D} {h0 : HX} {r : Int32} (C : gx_Ctx p R s m args meth c "java/lang/Integer" cJ16_parseInt 1 (some .int) 6 138 D h0 h0) (hx : meth.name = "parseInt") {p0 : Option Nat} (hf : f_J16_parseInt D h0 p0 = some r) : gx_G p l e R s m args below meth c D h0 h0 1 (gx_MQ below args s D h0 h0 (some (.int r))) 0 [(0, (va_rf p0))] [] h0 := by
  unfold f_J16_parseInt at hf
  refine gx_aload_n C dJ16_parseInt_0 0 rfl ?_
  refine gx_bipush (v := 10) C dJ16_parseInt_1 rfl ?_
  replace hf := gx_bs hf
  obtain ⟨x2, g1, hf⟩ := hf
  refine gx_callS (st := []) C (w_J16_parseInt_2 hlt g1) (lw_S q1035 q1036 q143 q1037) gz_175 (by decide) rfl rfl (gx_catn (Nat.le_of_ble_eq_true rfl)) dJ16_parseInt_3 ?_
  obtain rfl := Option.some.inj hf
  exact gx_iret C dJ16_parseInt_6
theorem w_J16_parseInt {l : Launch} (hlt : l.stackTraces = false) {D : gx_D} {h : HX} {p0 : Option Nat} {r : Int32} (hf : f_J16_parseInt D h p0 = some r) : gx_Met l yJ16_parseInt cJ16_parseInt 1 (some .int) 6 138 D [(va_rf p0)] h (some (.int r)) h :=
  gx_ofG gz_174 (by simp only [gx_lsr, gx_lsi, gx_lsj, gx_ls0]; decide) gx_le.rf (fun p e R s m args below meth c C hx => by
    simp only [gx_lar, gx_lai, gx_laj, gx_la0, Nat.reduceAdd]
    exact w_J16_parseInt_b hlt C hx hf)
def f_J2_isEmpty (D : gx_D) (h : HX) (a0 : Nat) : Option Bool :=
  (hx_is h a0 [0]).bind fun _ =>
  (hx_gi h a0 [0] 2).bind fun x1 =>
  if x1 = 0 then
  some true
  else
  some false
theorem is_J2_isEmpty {D : gx_D} {h : HX} {a0 : Nat} {z} (hf : f_J2_isEmpty D h a0 = some z) : gx_isC h a0 [0] := by
  unfold f_J2_isEmpty at hf
  obtain ⟨_, g, -⟩ := gx_bs hf
  exact hx_is_of g
theorem w_J2_isEmpty_b {l : Launch} (hlt : l.stackTraces = false) {p : Program} {e : Env} {R : Room} {s : State} {m : MethodId} {args : Array Value} {below : List Frame} {meth : Method} {c : Code} {D : gx_D} {h0 : HX} {r : Bool} (C : gx_Ctx p R s m args meth c "java/util/ArrayList" cJ2_isEmpty 1 (some .boolean) 1 24 D h0 h0) (hx : meth.name = "isEmpty") {a0 : Nat} (hf : f_J2_isEmpty D h0 a0 = some r) : gx_G p l e R s m args below meth c D h0 h0 1 (gx_MQ below args s D h0 h0 (some (.int (b2i r)))) 0 [(0, (va_rf (some a0)))] [] h0 := by
  unfold f_J2_isEmpty at hf
  replace hf := gx_bs hf
  obtain ⟨_, -, hf⟩ := hf
  refine gx_aload_n C dJ2_isEmpty_0 0 rfl ?_
  replace hf := gx_bs hf
  obtain ⟨x1, g3, hf⟩ := hf
  refine gx_gi C g3 gz_14 q546 dJ2_isEmpty_1 ?_
  replace hf := gx_ite hf
  rcases hf with ⟨c2, hf⟩ | ⟨c2, hf⟩
  · refine gx_if_ne_f (tgt := 11) C dJ2_isEmpty_4 rfl c2 ?_
    refine gx_iconst (v := 1) C dJ2_isEmpty_7 rfl ?_
    refine gx_goto (tgt := 12) C dJ2_isEmpty_8 rfl ?_
    obtain rfl := Option.some.inj hf
    exact gx_zret (b := true) C dJ2_isEmpty_12
  · refine gx_if_ne_t (tgt := 11) C dJ2_isEmpty_4 rfl c2 ?_
    refine gx_iconst (v := 0) C dJ2_isEmpty_11 rfl ?_
    obtain rfl := Option.some.inj hf
    exact gx_zret (b := false) C dJ2_isEmpty_12
theorem w_J2_isEmpty {l : Launch} (hlt : l.stackTraces = false) {D : gx_D} {h : HX} {a0 : Nat} {r : Bool} (hf : f_J2_isEmpty D h a0 = some r) : gx_Met l yJ2_isEmpty cJ2_isEmpty 1 (some .boolean) 1 24 D [(va_rf (some a0))] h (some (.int (b2i r))) h :=
  gx_ofG gz_15 (by simp only [gx_lsr, gx_lsi, gx_lsj, gx_ls0]; decide) gx_le.rf (fun p e R s m args below meth c C hx => by
    simp only [gx_lar, gx_lai, gx_laj, gx_la0, Nat.reduceAdd]
    exact w_J2_isEmpty_b hlt C hx hf)
def f_J3_init_3 (D : gx_D) (h : HX) (a0 : Nat) (p1 : Option Nat) (p2 : Option Nat) (p3 : Bool) (p4 : Bool) : Option HX :=
  (hx_pr h a0 [5, 6, 7, 8, 17] 0 (some a0)).bind fun h1 =>
  (hx_pr h1 a0 [5, 6, 7, 8, 17] 1 (D.2.2.2 0)).bind fun h2 =>
  (hx_pr h2 a0 [5, 6, 7, 8, 17] 2 (D.2.2.2 1)).bind fun h3 =>
  if p4 = true then
  none
  else
  (hx_pr h3 a0 [5, 6, 7, 8, 17] 1 none).bind fun h5 =>
  (hx_pr h5 a0 [5, 6, 7, 8, 17] 3 p1).bind fun h6 =>
  (hx_pr h6 a0 [5, 6, 7, 8, 17] 0 p2).bind fun h7 =>
  if p3 = true then
  some h7
  else
  (hx_pr h7 a0 [5, 6, 7, 8, 17] 2 none).bind fun h9 =>
  some h9
theorem w_J3_init_3_b {l : Launch} (hlt : l.stackTraces = false) {p : Program} {e : Env} {R : Room} {s : State} {m : MethodId} {args : Array Value} {below : List Frame} {meth : Method} {c : Code} {D : gx_D} {h0 : HX} {hz : HX} (C : gx_Ctx p R s m args meth c "java/lang/Throwable" cJ3_init_3 5 none 1 24 D h0 hz) (hx : meth.name = "<init>") {a0 : Nat} {p1 : Option Nat} {p2 : Option Nat} {p3 : Bool} {p4 : Bool} (hf : f_J3_init_3 D h0 a0 p1 p2 p3 p4 = some hz) : gx_G p l e R s m args below meth c D h0 hz 5 (gx_MQ below args s D h0 hz none) 0 [(0, (va_rf (some a0))), (1, (va_rf p1)), (2, (va_rf p2)), (3, (.int (b2i p3))), (4, (.int (b2i p4)))] [] h0 := by
  unfold f_J3_init_3 at hf
  refine gx_aload_n C dJ3_init_3_0 0 rfl ?_
  refine gx_objInit (st := []) C q250 q188 q189 (by decide) (by decide) dJ3_init_3_1 ?_
  refine gx_aload_n C dJ3_init_3_4 0 rfl ?_
  refine gx_aload_n C dJ3_init_3_5 0 rfl ?_
  replace hf := gx_bs hf
  obtain ⟨h1, g16, hf⟩ := hf
  refine gx_putv C g16 gz_195 gz_196 (gx_narrow_r rfl _).1 (gx_narrow_r rfl _).2 q505 dJ3_init_3_6 ?_
  refine gx_aload_n C dJ3_init_3_9 0 rfl ?_
  refine gx_statq C 21 rfl q251 dJ3_init_3_10 ?_
  replace hf := gx_bs hf
  obtain ⟨h2, g15, hf⟩ := hf
  refine gx_putv C g15 gz_197 gz_198 (gx_narrow_r rfl _).1 (gx_narrow_r rfl _).2 q506 dJ3_init_3_13 ?_
  refine gx_aload_n C dJ3_init_3_16 0 rfl ?_
  refine gx_statq C 22 rfl q253 dJ3_init_3_17 ?_
  replace hf := gx_bs hf
  obtain ⟨h3, g14, hf⟩ := hf
  refine gx_putv C g14 gz_199 gz_45 (gx_narrow_r rfl _).1 (gx_narrow_r rfl _).2 q507 dJ3_init_3_20 ?_
  refine gx_iload C dJ3_init_3_23 4 rfl ?_
  replace hf := gx_ite hf
  rcases hf with ⟨c4, hf⟩ | ⟨c4, hf⟩
  · refine gx_ifz_eq_f (tgt := 36) C dJ3_init_3_25 rfl c4 ?_
    refine gx_aload_n C dJ3_init_3_28 0 rfl ?_
    cases hf
  · refine gx_ifz_eq_t (tgt := 36) C dJ3_init_3_25 rfl c4 ?_
    refine gx_aload_n C dJ3_init_3_36 0 rfl ?_
    refine gx_null C dJ3_init_3_37 ?_
    replace hf := gx_bs hf
    obtain ⟨h5, g13, hf⟩ := hf
    refine gx_putv C g13 gz_197 gz_198 (gx_narrow_r rfl _).1 (gx_narrow_r rfl _).2 q506 dJ3_init_3_38 ?_
    refine gx_aload_n C dJ3_init_3_41 0 rfl ?_
    refine gx_aload_n C dJ3_init_3_42 1 rfl ?_
    replace hf := gx_bs hf
    obtain ⟨h6, g12, hf⟩ := hf
    refine gx_putv C g12 gz_200 gz_179 (gx_narrow_r rfl _).1 (gx_narrow_r rfl _).2 q504 dJ3_init_3_43 ?_
    refine gx_aload_n C dJ3_init_3_46 0 rfl ?_
    refine gx_aload_n C dJ3_init_3_47 2 rfl ?_
    replace hf := gx_bs hf
    obtain ⟨h7, g11, hf⟩ := hf
    refine gx_putv C g11 gz_195 gz_196 (gx_narrow_r rfl _).1 (gx_narrow_r rfl _).2 q505 dJ3_init_3_48 ?_
    refine gx_iload_n C dJ3_init_3_51 3 rfl ?_
    replace hf := gx_ite hf
    rcases hf with ⟨c8, hf⟩ | ⟨c8, hf⟩
    · refine gx_ifz_ne_t (tgt := 60) C dJ3_init_3_52 rfl c8 ?_
      obtain rfl := Option.some.inj hf
      exact gx_vret C dJ3_init_3_60
    · refine gx_ifz_ne_f (tgt := 60) C dJ3_init_3_52 rfl c8 ?_
      refine gx_aload_n C dJ3_init_3_55 0 rfl ?_
      refine gx_null C dJ3_init_3_56 ?_
      replace hf := gx_bs hf
      obtain ⟨h9, g10, hf⟩ := hf
      refine gx_putv C g10 gz_199 gz_45 (gx_narrow_r rfl _).1 (gx_narrow_r rfl _).2 q507 dJ3_init_3_57 ?_
      obtain rfl := Option.some.inj hf
      exact gx_vret C dJ3_init_3_60
theorem le_J3_init_3 {D : gx_D} {hz : HX} {h : HX} {a0 : Nat} {p1 : Option Nat} {p2 : Option Nat} {p3 : Bool} {p4 : Bool} (hf : f_J3_init_3 D h a0 p1 p2 p3 p4 = some hz) : gx_le h hz := by
  unfold f_J3_init_3 at hf
  replace hf := gx_bs hf
  obtain ⟨h1, g16, hf⟩ := hf
  refine (hx_le_pv g16).tr ?_
  replace hf := gx_bs hf
  obtain ⟨h2, g15, hf⟩ := hf
  refine (hx_le_pv g15).tr ?_
  replace hf := gx_bs hf
  obtain ⟨h3, g14, hf⟩ := hf
  refine (hx_le_pv g14).tr ?_
  replace hf := gx_ite hf
  rcases hf with ⟨c4, hf⟩ | ⟨c4, hf⟩
  · cases hf
  · replace hf := gx_bs hf
    obtain ⟨h5, g13, hf⟩ := hf
    refine (hx_le_pv g13).tr ?_
    replace hf := gx_bs hf
    obtain ⟨h6, g12, hf⟩ := hf
    refine (hx_le_pv g12).tr ?_
    replace hf := gx_bs hf
    obtain ⟨h7, g11, hf⟩ := hf
    refine (hx_le_pv g11).tr ?_
    replace hf := gx_ite hf
    rcases hf with ⟨c8, hf⟩ | ⟨c8, hf⟩
    · obtain rfl := Option.some.inj hf
      exact gx_le.rf
    · replace hf := gx_bs hf
      obtain ⟨h9, g10, hf⟩ := hf
      refine (hx_le_pv g10).tr ?_
      obtain rfl := Option.some.inj hf
      exact gx_le.rf
theorem w_J3_init_3 {l : Launch} (hlt : l.stackTraces = false) {D : gx_D} {h : HX} {a0 : Nat} {p1 : Option Nat} {p2 : Option Nat} {p3 : Bool} {p4 : Bool} {hz : HX} (hf : f_J3_init_3 D h a0 p1 p2 p3 p4 = some hz) : gx_Met l yJ3_init_3 cJ3_init_3 5 none 1 24 D [(va_rf (some a0)), (va_rf p1), (va_rf p2), (.int (b2i p3)), (.int (b2i p4))] h none hz :=
  gx_ofG gz_201 (by simp only [gx_lsr, gx_lsi, gx_lsj, gx_ls0]; decide) (le_J3_init_3 hf) (fun p e R s m args below meth c C hx => by
    simp only [gx_lar, gx_lai, gx_laj, gx_la0, Nat.reduceAdd]
    exact w_J3_init_3_b hlt C hx hf)
def f_J4_init_2 (D : gx_D) (h : HX) (a0 : Nat) (p1 : Option Nat) (p2 : Option Nat) (p3 : Bool) (p4 : Bool) : Option HX :=
  (f_J3_init_3 D h a0 p1 p2 p3 p4).bind fun h2 =>
  some h2
theorem w_J4_init_2_b {l : Launch} (hlt : l.stackTraces = false) {p : Program} {e : Env} {R : Room} {s : State} {m : MethodId} {args : Array Value} {below : List Frame} {meth : Method} {c : Code} {D : gx_D} {h0 : HX} {hz : HX} (C : gx_Ctx p R s m args meth c "java/lang/Exception" cJ4_init_2 5 none 2 48 D h0 hz) (hx : meth.name = "<init>") {a0 : Nat} {p1 : Option Nat} {p2 : Option Nat} {p3 : Bool} {p4 : Bool} (hf : f_J4_init_2 D h0 a0 p1 p2 p3 p4 = some hz) : gx_G p l e R s m args below meth c D h0 hz 5 (gx_MQ below args s D h0 hz none) 0 [(0, (va_rf (some a0))), (1, (va_rf p1)), (2, (va_rf p2)), (3, (.int (b2i p3))), (4, (.int (b2i p4)))] [] h0 := by
  unfold f_J4_init_2 at hf
  refine gx_aload_n C dJ4_init_2_0 0 rfl ?_
  refine gx_aload_n C dJ4_init_2_1 1 rfl ?_
  refine gx_aload_n C dJ4_init_2_2 2 rfl ?_
  refine gx_iload_n C dJ4_init_2_3 3 rfl ?_
  refine gx_iload C dJ4_init_2_4 4 rfl ?_
  replace hf := gx_bs hf
  obtain ⟨h2, g1, hf⟩ := hf
  refine gx_callI (st := []) C (w_J3_init_3 hlt g1) q1268 q1269 q128 q1270 rfl gz_202 (by decide) rfl rfl (gx_catn (Nat.le_of_ble_eq_true rfl)) dJ4_init_2_6 ?_
  obtain rfl := Option.some.inj hf
  exact gx_vret C dJ4_init_2_9
theorem le_J4_init_2 {D : gx_D} {hz : HX} {h : HX} {a0 : Nat} {p1 : Option Nat} {p2 : Option Nat} {p3 : Bool} {p4 : Bool} (hf : f_J4_init_2 D h a0 p1 p2 p3 p4 = some hz) : gx_le h hz := by
  unfold f_J4_init_2 at hf
  replace hf := gx_bs hf
  obtain ⟨h2, g1, hf⟩ := hf
  refine (le_J3_init_3 g1).tr ?_
  obtain rfl := Option.some.inj hf
  exact gx_le.rf
theorem w_J4_init_2 {l : Launch} (hlt : l.stackTraces = false) {D : gx_D} {h : HX} {a0 : Nat} {p1 : Option Nat} {p2 : Option Nat} {p3 : Bool} {p4 : Bool} {hz : HX} (hf : f_J4_init_2 D h a0 p1 p2 p3 p4 = some hz) : gx_Met l yJ4_init_2 cJ4_init_2 5 none 2 48 D [(va_rf (some a0)), (va_rf p1), (va_rf p2), (.int (b2i p3)), (.int (b2i p4))] h none hz :=
  gx_ofG gz_203 (by simp only [gx_lsr, gx_lsi, gx_lsj, gx_ls0]; decide) (le_J4_init_2 hf) (fun p e R s m args below meth c C hx => by
    simp only [gx_lar, gx_lai, gx_laj, gx_la0, Nat.reduceAdd]
    exact w_J4_init_2_b hlt C hx hf)
def f_J2_elementData (D : gx_D) (h : HX) (a0 : Nat) (p1 : Int32) : Option (Option Nat) :=
  (hx_is h a0 [0]).bind fun _ =>
  (hx_gr h a0 [0] 1).bind fun r1 =>
  r1.bind fun a2 =>
  (hx_ar h a2 p1).bind fun r3 =>
  some r3
theorem is_J2_elementData {D : gx_D} {h : HX} {a0 : Nat} {p1 : Int32} {z} (hf : f_J2_elementData D h a0 p1 = some z) : gx_isC h a0 [0] := by
  unfold f_J2_elementData at hf
  obtain ⟨_, g, -⟩ := gx_bs hf
  exact hx_is_of g
theorem w_J2_elementData_b {l : Launch} (hlt : l.stackTraces = false) {p : Program} {e : Env} {R : Room} {s : State} {m : MethodId} {args : Array Value} {below : List Frame} {meth : Method} {c : Code} {D : gx_D} {h0 : HX} {r : Option Nat} (C : gx_Ctx p R s m args meth c "java/util/ArrayList" cJ2_elementData 2 (some (.object "java/lang/Object")) 1 24 D h0 h0) (hx : meth.name = "elementData") {a0 : Nat} {p1 : Int32} (hf : f_J2_elementData D h0 a0 p1 = some r) : gx_G p l e R s m args below meth c D h0 h0 2 (gx_MQ below args s D h0 h0 (some (va_rf r))) 0 [(0, (va_rf (some a0))), (1, (.int p1))] [] h0 := by
  unfold f_J2_elementData at hf
  replace hf := gx_bs hf
  obtain ⟨_, -, hf⟩ := hf
  refine gx_aload_n C dJ2_elementData_0 0 rfl ?_
  replace hf := gx_bs hf
  obtain ⟨r1, g5, hf⟩ := hf
  refine gx_gr C g5 gz_17 q543 dJ2_elementData_1 ?_
  refine gx_iload_n C dJ2_elementData_4 1 rfl ?_
  replace hf := gx_bs hf
  obtain ⟨a2, rfl, hf⟩ := hf
  replace hf := gx_bs hf
  obtain ⟨r3, g4, hf⟩ := hf
  refine gx_aald C g4 dJ2_elementData_5 ?_
  obtain rfl := Option.some.inj hf
  exact gx_aret C rfl rfl dJ2_elementData_6
theorem w_J2_elementData {l : Launch} (hlt : l.stackTraces = false) {D : gx_D} {h : HX} {a0 : Nat} {p1 : Int32} {r : Option Nat} (hf : f_J2_elementData D h a0 p1 = some r) : gx_Met l yJ2_elementData cJ2_elementData 2 (some (.object "java/lang/Object")) 1 24 D [(va_rf (some a0)), (.int p1)] h (some (va_rf r)) h :=
  gx_ofG gz_15 (by simp only [gx_lsr, gx_lsi, gx_lsj, gx_ls0]; decide) gx_le.rf (fun p e R s m args below meth c C hx => by
    simp only [gx_lar, gx_lai, gx_laj, gx_la0, Nat.reduceAdd]
    exact w_J2_elementData_b hlt C hx hf)
def f_J22_checkIndex (D : gx_D) (h : HX) (p0 : Int32) (p1 : Int32) : Option Int32 :=
  (f_J14_checkIndex D h p0 p1 none).bind fun x2 =>
  some x2
theorem w_J22_checkIndex_b {l : Launch} (hlt : l.stackTraces = false) {p : Program} {e : Env} {R : Room} {s : State} {m : MethodId} {args : Array Value} {below : List Frame} {meth : Method} {c : Code} {D : gx_D} {h0 : HX} {r : Int32} (C : gx_Ctx p R s m args meth c "java/util/Objects" cJ22_checkIndex 2 (some .int) 2 46 D h0 h0) (hx : meth.name = "checkIndex") {p0 : Int32} {p1 : Int32} (hf : f_J22_checkIndex D h0 p0 p1 = some r) : gx_G p l e R s m args below meth c D h0 h0 2 (gx_MQ below args s D h0 h0 (some (.int r))) 0 [(0, (.int p0)), (1, (.int p1))] [] h0 := by
  unfold f_J22_checkIndex at hf
  refine gx_iload_n C dJ22_checkIndex_0 0 rfl ?_
  refine gx_iload_n C dJ22_checkIndex_1 1 rfl ?_
  refine gx_null C dJ22_checkIndex_2 ?_
  replace hf := gx_bs hf
  obtain ⟨x2, g1, hf⟩ := hf
  refine gx_callS (st := []) C (w_J14_checkIndex hlt g1) (lw_S q1315 q1025 q140 q1026) gz_166 (by decide) rfl rfl (gx_catn (Nat.le_of_ble_eq_true rfl)) dJ22_checkIndex_3 ?_
  obtain rfl := Option.some.inj hf
  exact gx_iret C dJ22_checkIndex_6
theorem w_J22_checkIndex {l : Launch} (hlt : l.stackTraces = false) {D : gx_D} {h : HX} {p0 : Int32} {p1 : Int32} {r : Int32} (hf : f_J22_checkIndex D h p0 p1 = some r) : gx_Met l yJ22_checkIndex cJ22_checkIndex 2 (some .int) 2 46 D [(.int p0), (.int p1)] h (some (.int r)) h :=
  gx_ofG gz_218 (by simp only [gx_lsr, gx_lsi, gx_lsj, gx_ls0]; decide) gx_le.rf (fun p e R s m args below meth c C hx => by
    simp only [gx_lar, gx_lai, gx_laj, gx_la0, Nat.reduceAdd]
    exact w_J22_checkIndex_b hlt C hx hf)
def f_J2_get (D : gx_D) (h : HX) (a0 : Nat) (p1 : Int32) : Option (Option Nat) :=
  (hx_is h a0 [0]).bind fun _ =>
  (hx_gi h a0 [0] 2).bind fun x1 =>
  (f_J22_checkIndex D h p1 x1).bind fun x3 =>
  (f_J2_elementData D h a0 p1).bind fun r5 =>
  some r5
theorem is_J2_get {D : gx_D} {h : HX} {a0 : Nat} {p1 : Int32} {z} (hf : f_J2_get D h a0 p1 = some z) : gx_isC h a0 [0] := by
  unfold f_J2_get at hf
  obtain ⟨_, g, -⟩ := gx_bs hf
  exact hx_is_of g
theorem w_J2_get_b {l : Launch} (hlt : l.stackTraces = false) {p : Program} {e : Env} {R : Room} {s : State} {m : MethodId} {args : Array Value} {below : List Frame} {meth : Method} {c : Code} {D : gx_D} {h0 : HX} {r : Option Nat} (C : gx_Ctx p R s m args meth c "java/util/ArrayList" cJ2_get 2 (some (.object "java/lang/Object")) 3 67 D h0 h0) (hx : meth.name = "get") {a0 : Nat} {p1 : Int32} (hf : f_J2_get D h0 a0 p1 = some r) : gx_G p l e R s m args below meth c D h0 h0 2 (gx_MQ below args s D h0 h0 (some (va_rf r))) 0 [(0, (va_rf (some a0))), (1, (.int p1))] [] h0 := by
  unfold f_J2_get at hf
  replace hf := gx_bs hf
  obtain ⟨_, -, hf⟩ := hf
  refine gx_iload_n C dJ2_get_0 1 rfl ?_
  refine gx_aload_n C dJ2_get_1 0 rfl ?_
  replace hf := gx_bs hf
  obtain ⟨x1, g6, hf⟩ := hf
  refine gx_gi C g6 gz_14 q546 dJ2_get_2 ?_
  replace hf := gx_bs hf
  obtain ⟨x3, g2, hf⟩ := hf
  refine gx_callS (st := []) C (w_J22_checkIndex hlt g2) (lw_S q1312 q1313 q160 q1314) gz_220 (by decide) rfl rfl (gx_catn (Nat.le_of_ble_eq_true rfl)) dJ2_get_5 ?_
  refine gx_pop C dJ2_get_8 rfl ?_
  refine gx_aload_n C dJ2_get_9 0 rfl ?_
  refine gx_iload_n C dJ2_get_10 1 rfl ?_
  replace hf := gx_bs hf
  obtain ⟨r5, g4, hf⟩ := hf
  refine gx_callV (st := []) C (w_J2_elementData hlt g4) (is_J2_elementData g4) gz_19 rfl (lw_V q1316 q1317 q1318 q127 q1319) gz_219 (by decide) rfl rfl (gx_catn (Nat.le_of_ble_eq_true rfl)) dJ2_get_11 ?_
  obtain rfl := Option.some.inj hf
  exact gx_aret C rfl rfl dJ2_get_14
theorem w_J2_get {l : Launch} (hlt : l.stackTraces = false) {D : gx_D} {h : HX} {a0 : Nat} {p1 : Int32} {r : Option Nat} (hf : f_J2_get D h a0 p1 = some r) : gx_Met l yJ2_get cJ2_get 2 (some (.object "java/lang/Object")) 3 67 D [(va_rf (some a0)), (.int p1)] h (some (va_rf r)) h :=
  gx_ofG gz_15 (by simp only [gx_lsr, gx_lsi, gx_lsj, gx_ls0]; decide) gx_le.rf (fun p e R s m args below meth c C hx => by
    simp only [gx_lar, gx_lai, gx_laj, gx_la0, Nat.reduceAdd]
    exact w_J2_get_b hlt C hx hf)
def f_J15_equals_b9 (D : gx_D) : Nat → HX → Option Nat → Option Nat → Int32 → Option Bool
  | 0, _, _, _, _ => none
  | n + 1, h, v0, v1, v2 =>
  v0.bind fun a6 =>
  (hx_len h a6).bind fun x7 =>
  if x7 ≤ v2 then
  some true
  else
  (hx_ai h a6 1 v2).bind fun x9 =>
  v1.bind fun a10 =>
  (hx_ai h a10 1 v2).bind fun x11 =>
  if x9 = x11 then
  (f_J15_equals_b9 D n) h (some a6) (some a10) ((v2 + (1 : Int32)))
  else
  some false
theorem w_J15_equals_b9 {l : Launch} (hlt : l.stackTraces = false) {p : Program} {e : Env} {R : Room} {s : State} {m : MethodId} {args : Array Value} {below : List Frame} {meth : Method} {c : Code} {D : gx_D} {h0 : HX} {r : Bool} (C : gx_Ctx p R s m args meth c "java/lang/StringLatin1" cJ15_equals 3 (some .boolean) 1 24 D h0 h0) (hx : meth.name = "equals")  : ∀ (n : Nat) ⦃v0 : Option Nat⦄ ⦃v1 : Option Nat⦄ ⦃v2 : Int32⦄, f_J15_equals_b9 D n h0 v0 v1 v2 = some r → gx_G p l e R s m args below meth c D h0 h0 3 (gx_MQ below args s D h0 h0 (some (.int (b2i r)))) 9 [(0, (va_rf v0)), (1, (va_rf v1)), (2, (.int v2))] [] h0 := by
  intro n
  induction n with
  | zero => intro v0 v1 v2 hf; unfold f_J15_equals_b9 at hf; cases hf
  | succ n wk9 =>
    intro v0 v1 v2 hf
    unfold f_J15_equals_b9 at hf
    refine gx_iload_n C dJ15_equals_9 2 rfl ?_
    refine gx_aload_n C dJ15_equals_10 0 rfl ?_
    replace hf := gx_bs hf
    obtain ⟨a6, rfl, hf⟩ := hf
    replace hf := gx_bs hf
    obtain ⟨x7, g15, hf⟩ := hf
    refine gx_alen C g15 dJ15_equals_11 ?_
    replace hf := gx_ite hf
    rcases hf with ⟨c8, hf⟩ | ⟨c8, hf⟩
    · refine gx_icmp_ge_t (tgt := 32) C dJ15_equals_12 rfl c8 ?_
      refine gx_iconst (v := 1) C dJ15_equals_32 rfl ?_
      obtain rfl := Option.some.inj hf
      exact gx_zret (b := true) C dJ15_equals_33
    · refine gx_icmp_ge_f (tgt := 32) C dJ15_equals_12 rfl c8 ?_
      refine gx_aload_n C dJ15_equals_15 0 rfl ?_
      refine gx_iload_n C dJ15_equals_16 2 rfl ?_
      replace hf := gx_bs hf
      obtain ⟨x9, g14, hf⟩ := hf
      refine gx_bald C g14 dJ15_equals_17 ?_
      refine gx_aload_n C dJ15_equals_18 1 rfl ?_
      refine gx_iload_n C dJ15_equals_19 2 rfl ?_
      replace hf := gx_bs hf
      obtain ⟨a10, rfl, hf⟩ := hf
      replace hf := gx_bs hf
      obtain ⟨x11, g13, hf⟩ := hf
      refine gx_bald C g13 dJ15_equals_20 ?_
      replace hf := gx_ite hf
      rcases hf with ⟨c12, hf⟩ | ⟨c12, hf⟩
      · refine gx_icmp_eq_t (tgt := 26) C dJ15_equals_21 rfl c12 ?_
        refine gx_inc (v := 1) C dJ15_equals_26 2 rfl rfl (by decide) [0, 1] rfl (gx_okn rfl rfl (gx_okr rfl gx_catv_r gx_ok0)) ?_
        refine gx_goto (tgt := 9) C dJ15_equals_29 rfl ?_
        refine gx_sub [1, 2, 0] rfl ?_
        exact wk9 hf
      · refine gx_icmp_eq_f (tgt := 26) C dJ15_equals_21 rfl c12 ?_
        refine gx_iconst (v := 0) C dJ15_equals_24 rfl ?_
        obtain rfl := Option.some.inj hf
        exact gx_zret (b := false) C dJ15_equals_25
def f_J15_equals (D : gx_D) (h : HX) (p0 : Option Nat) (p1 : Option Nat) : Option Bool :=
  p0.bind fun a1 =>
  (hx_len h a1).bind fun x2 =>
  p1.bind fun a3 =>
  (hx_len h a3).bind fun x4 =>
  if x2 = x4 then
  f_J15_equals_b9 D gx_fuel h (some a1) (some a3) ((0 : Int32))
  else
  some false
theorem w_J15_equals_b {l : Launch} (hlt : l.stackTraces = false) {p : Program} {e : Env} {R : Room} {s : State} {m : MethodId} {args : Array Value} {below : List Frame} {meth : Method} {c : Code} {D : gx_D} {h0 : HX} {r : Bool} (C : gx_Ctx p R s m args meth c "java/lang/StringLatin1" cJ15_equals 3 (some .boolean) 1 24 D h0 h0) (hx : meth.name = "equals") {p0 : Option Nat} {p1 : Option Nat} (hf : f_J15_equals D h0 p0 p1 = some r) : gx_G p l e R s m args below meth c D h0 h0 3 (gx_MQ below args s D h0 h0 (some (.int (b2i r)))) 0 [(0, (va_rf p0)), (1, (va_rf p1))] [] h0 := by
  unfold f_J15_equals at hf
  refine gx_aload_n C dJ15_equals_0 0 rfl ?_
  replace hf := gx_bs hf
  obtain ⟨a1, rfl, hf⟩ := hf
  replace hf := gx_bs hf
  obtain ⟨x2, g17, hf⟩ := hf
  refine gx_alen C g17 dJ15_equals_1 ?_
  refine gx_aload_n C dJ15_equals_2 1 rfl ?_
  replace hf := gx_bs hf
  obtain ⟨a3, rfl, hf⟩ := hf
  replace hf := gx_bs hf
  obtain ⟨x4, g16, hf⟩ := hf
  refine gx_alen C g16 dJ15_equals_3 ?_
  replace hf := gx_ite hf
  rcases hf with ⟨c5, hf⟩ | ⟨c5, hf⟩
  · refine gx_icmp_ne_f (tgt := 34) C dJ15_equals_4 rfl c5 ?_
    refine gx_iconst (v := 0) C dJ15_equals_7 rfl ?_
    refine gx_istn C dJ15_equals_8 2 rfl (by decide) [0, 1]  rfl (gx_okn rfl rfl (gx_okr rfl gx_catv_r gx_ok0)) ?_
    refine gx_sub [1, 2, 0] rfl ?_
    exact w_J15_equals_b9 hlt C hx gx_fuel hf
  · refine gx_icmp_ne_t (tgt := 34) C dJ15_equals_4 rfl c5 ?_
    refine gx_iconst (v := 0) C dJ15_equals_34 rfl ?_
    obtain rfl := Option.some.inj hf
    exact gx_zret (b := false) C dJ15_equals_35
theorem w_J15_equals {l : Launch} (hlt : l.stackTraces = false) {D : gx_D} {h : HX} {p0 : Option Nat} {p1 : Option Nat} {r : Bool} (hf : f_J15_equals D h p0 p1 = some r) : gx_Met l yJ15_equals cJ15_equals 3 (some .boolean) 1 24 D [(va_rf p0), (va_rf p1)] h (some (.int (b2i r))) h :=
  gx_ofG gz_139 (by simp only [gx_lsr, gx_lsi, gx_lsj, gx_ls0]; decide) gx_le.rf (fun p e R s m args below meth c C hx => by
    simp only [gx_lar, gx_lai, gx_laj, gx_la0, Nat.reduceAdd]
    exact w_J15_equals_b hlt C hx hf)
def f_J9_equals_b36 (D : gx_D) (h : HX) (v0 : Nat) (v2 : Option Nat) : Option Bool :=
  (hx_gr h v0 [2] 0).bind fun r8 =>
  v2.bind fun a9 =>
  (hx_gr h a9 [2] 0).bind fun r10 =>
  (f_J15_equals D h r8 r10).bind fun b12 =>
  if b12 = true then
  some true
  else
  some false
theorem w_J9_equals_b36 {l : Launch} (hlt : l.stackTraces = false) {p : Program} {e : Env} {R : Room} {s : State} {m : MethodId} {args : Array Value} {below : List Frame} {meth : Method} {c : Code} {D : gx_D} {h0 : HX} {r : Bool} (C : gx_Ctx p R s m args meth c "java/lang/String" cJ9_equals 3 (some .boolean) 2 46 D h0 h0) (hx : meth.name = "equals")  {v0 : Nat} {v2 : Option Nat} (hf : f_J9_equals_b36 D h0 v0 v2 = some r) : gx_G p l e R s m args below meth c D h0 h0 3 (gx_MQ below args s D h0 h0 (some (.int (b2i r)))) 36 [(0, (va_rf (some v0))), (2, (va_rf v2))] [] h0 := by
  unfold f_J9_equals_b36 at hf
  refine gx_aload_n C dJ9_equals_36 0 rfl ?_
  replace hf := gx_bs hf
  obtain ⟨r8, g15, hf⟩ := hf
  refine gx_gr C g15 gz_150 q529 dJ9_equals_37 ?_
  refine gx_aload_n C dJ9_equals_40 1 rfl ?_
  replace hf := gx_bs hf
  obtain ⟨a9, rfl, hf⟩ := hf
  replace hf := gx_bs hf
  obtain ⟨r10, g14, hf⟩ := hf
  refine gx_gr C g14 gz_150 q529 dJ9_equals_41 ?_
  replace hf := gx_bs hf
  obtain ⟨b12, g11, hf⟩ := hf
  refine gx_callS (st := []) C (w_J15_equals hlt g11) (lw_S q1233 q1234 q141 q1235) gz_226 (by decide) rfl rfl (gx_catn (Nat.le_of_ble_eq_true rfl)) dJ9_equals_44 ?_
  replace hf := gx_ite hf
  rcases hf with ⟨c13, hf⟩ | ⟨c13, hf⟩
  · refine gx_ifz_eq_f (tgt := 54) C dJ9_equals_47 rfl c13 ?_
    refine gx_iconst (v := 1) C dJ9_equals_50 rfl ?_
    refine gx_goto (tgt := 55) C dJ9_equals_51 rfl ?_
    obtain rfl := Option.some.inj hf
    exact gx_zret (b := true) C dJ9_equals_55
  · refine gx_ifz_eq_t (tgt := 54) C dJ9_equals_47 rfl c13 ?_
    refine gx_iconst (v := 0) C dJ9_equals_54 rfl ?_
    obtain rfl := Option.some.inj hf
    exact gx_zret (b := false) C dJ9_equals_55
def f_J9_equals (D : gx_D) (h : HX) (a0 : Nat) (p1 : Option Nat) : Option Bool :=
  (hx_is h a0 [2]).bind fun _ =>
  if (some a0) = p1 then
  some true
  else
  p1.bind fun a2 =>
  (hx_is h a2 [2]).bind fun u3 =>
  (hx_cast h (some a2) [2]).bind fun u4 =>
  (hx_gi h a0 [2] 1).bind fun x5 =>
  (hx_gi h a2 [2] 1).bind fun x6 =>
  if x5 = x6 then
  f_J9_equals_b36 D h a0 (some a2)
  else
  some false
theorem is_J9_equals {D : gx_D} {h : HX} {a0 : Nat} {p1 : Option Nat} {z} (hf : f_J9_equals D h a0 p1 = some z) : gx_isC h a0 [2] := by
  unfold f_J9_equals at hf
  obtain ⟨_, g, -⟩ := gx_bs hf
  exact hx_is_of g
theorem w_J9_equals_b {l : Launch} (hlt : l.stackTraces = false) {p : Program} {e : Env} {R : Room} {s : State} {m : MethodId} {args : Array Value} {below : List Frame} {meth : Method} {c : Code} {D : gx_D} {h0 : HX} {r : Bool} (C : gx_Ctx p R s m args meth c "java/lang/String" cJ9_equals 3 (some .boolean) 2 46 D h0 h0) (hx : meth.name = "equals") {a0 : Nat} {p1 : Option Nat} (hf : f_J9_equals D h0 a0 p1 = some r) : gx_G p l e R s m args below meth c D h0 h0 3 (gx_MQ below args s D h0 h0 (some (.int (b2i r)))) 0 [(0, (va_rf (some a0))), (1, (va_rf p1))] [] h0 := by
  unfold f_J9_equals at hf
  replace hf := gx_bs hf
  obtain ⟨_, -, hf⟩ := hf
  refine gx_aload_n C dJ9_equals_0 0 rfl ?_
  refine gx_aload_n C dJ9_equals_1 1 rfl ?_
  replace hf := gx_ite hf
  rcases hf with ⟨c1, hf⟩ | ⟨c1, hf⟩
  · refine gx_acmp_ne_f (tgt := 7) C dJ9_equals_2 rfl c1 ?_
    refine gx_iconst (v := 1) C dJ9_equals_5 rfl ?_
    obtain rfl := Option.some.inj hf
    exact gx_zret (b := true) C dJ9_equals_6
  · refine gx_acmp_ne_t (tgt := 7) C dJ9_equals_2 rfl c1 ?_
    refine gx_aload_n C dJ9_equals_7 1 rfl ?_
    replace hf := gx_bs hf
    obtain ⟨a2, rfl, hf⟩ := hf
    replace hf := gx_bs hf
    obtain ⟨u3, g19, hf⟩ := hf
    refine gx_inst C g19 gz_10 q1232 dJ9_equals_8 ?_
    refine gx_if_eq_f (tgt := 54) C dJ9_equals_11 rfl (by decide) ?_
    refine gx_aload_n C dJ9_equals_14 1 rfl ?_
    replace hf := gx_bs hf
    obtain ⟨u4, g18, hf⟩ := hf
    refine gx_cast C g18 gz_96 q1232 dJ9_equals_15 ?_
    refine gx_astn C dJ9_equals_18 2 rfl (by decide) [0]  rfl (gx_okn rfl rfl gx_ok0) ?_
    refine gx_stati C 20 rfl q388 dJ9_equals_19 ?_
    refine gx_if_eq_f (tgt := 36) C dJ9_equals_22 rfl (by decide) ?_
    refine gx_aload_n C dJ9_equals_25 1 rfl ?_
    replace hf := gx_bs hf
    obtain ⟨x5, g17, hf⟩ := hf
    refine gx_gi C g17 gz_149 q530 dJ9_equals_26 ?_
    refine gx_aload_n C dJ9_equals_29 0 rfl ?_
    replace hf := gx_bs hf
    obtain ⟨x6, g16, hf⟩ := hf
    refine gx_gi C g16 gz_149 q530 dJ9_equals_30 ?_
    replace hf := gx_ite hf
    rcases hf with ⟨c7, hf⟩ | ⟨c7, hf⟩
    · refine gx_icmp_ne_f (tgt := 54) C dJ9_equals_33 rfl c7 ?_
      refine gx_sub [1, 0] rfl ?_
      exact w_J9_equals_b36 hlt C hx hf
    · refine gx_icmp_ne_t (tgt := 54) C dJ9_equals_33 rfl c7 ?_
      refine gx_iconst (v := 0) C dJ9_equals_54 rfl ?_
      obtain rfl := Option.some.inj hf
      exact gx_zret (b := false) C dJ9_equals_55
theorem w_J9_equals {l : Launch} (hlt : l.stackTraces = false) {D : gx_D} {h : HX} {a0 : Nat} {p1 : Option Nat} {r : Bool} (hf : f_J9_equals D h a0 p1 = some r) : gx_Met l yJ9_equals cJ9_equals 3 (some .boolean) 2 46 D [(va_rf (some a0)), (va_rf p1)] h (some (.int (b2i r))) h :=
  gx_ofG gz_153 (by simp only [gx_lsr, gx_lsi, gx_lsj, gx_ls0]; decide) gx_le.rf (fun p e R s m args below meth c C hx => by
    simp only [gx_lar, gx_lai, gx_laj, gx_la0, Nat.reduceAdd]
    exact w_J9_equals_b hlt C hx hf)
def f_J11_signedHashCode_b8 (D : gx_D) : Nat → HX → Int32 → Option Nat → Int32 → Int32 → Option Int32
  | 0, _, _, _, _, _ => none
  | n + 1, h, v0, v1, v4, v5 =>
  if v4 ≤ v5 then
  some v0
  else
  v1.bind fun a2 =>
  (hx_ai h a2 1 v5).bind fun x3 =>
  (f_J11_signedHashCode_b8 D n) h ((((31 : Int32) * v0) + (x3 &&& (255 : Int32)))) (some a2) v4 ((v5 + (1 : Int32)))
theorem w_J11_signedHashCode_b8 {l : Launch} (hlt : l.stackTraces = false) {p : Program} {e : Env} {R : Room} {s : State} {m : MethodId} {args : Array Value} {below : List Frame} {meth : Method} {c : Code} {D : gx_D} {h0 : HX} {r : Int32} (C : gx_Ctx p R s m args meth c "jdk/internal/util/ArraysSupport" cJ11_signedHashCode 6 (some .int) 1 24 D h0 h0) (hx : meth.name = "signedHashCode")  : ∀ (n : Nat) ⦃v0 : Int32⦄ ⦃v1 : Option Nat⦄ ⦃v4 : Int32⦄ ⦃v5 : Int32⦄, f_J11_signedHashCode_b8 D n h0 v0 v1 v4 v5 = some r → gx_G p l e R s m args below meth c D h0 h0 6 (gx_MQ below args s D h0 h0 (some (.int r))) 8 [(0, (.int v0)), (1, (va_rf v1)), (4, (.int v4)), (5, (.int v5))] [] h0 := by
  intro n
  induction n with
  | zero => intro v0 v1 v4 v5 hf; unfold f_J11_signedHashCode_b8 at hf; cases hf
  | succ n wk8 =>
    intro v0 v1 v4 v5 hf
    unfold f_J11_signedHashCode_b8 at hf
    refine gx_iload C dJ11_signedHashCode_8 3 rfl ?_
    refine gx_iload C dJ11_signedHashCode_10 2 rfl ?_
    replace hf := gx_ite hf
    rcases hf with ⟨c1, hf⟩ | ⟨c1, hf⟩
    · refine gx_icmp_ge_t (tgt := 35) C dJ11_signedHashCode_12 rfl c1 ?_
      refine gx_iload_n C dJ11_signedHashCode_35 0 rfl ?_
      obtain rfl := Option.some.inj hf
      exact gx_iret C dJ11_signedHashCode_36
    · refine gx_icmp_ge_f (tgt := 35) C dJ11_signedHashCode_12 rfl c1 ?_
      refine gx_bipush (v := 31) C dJ11_signedHashCode_15 rfl ?_
      refine gx_iload_n C dJ11_signedHashCode_17 0 rfl ?_
      refine gx_imul C dJ11_signedHashCode_18 ?_
      refine gx_aload_n C dJ11_signedHashCode_19 1 rfl ?_
      refine gx_iload C dJ11_signedHashCode_20 3 rfl ?_
      replace hf := gx_bs hf
      obtain ⟨a2, rfl, hf⟩ := hf
      replace hf := gx_bs hf
      obtain ⟨x3, g4, hf⟩ := hf
      refine gx_bald C g4 dJ11_signedHashCode_22 ?_
      refine gx_sipush (v := 255) C dJ11_signedHashCode_23 rfl ?_
      refine gx_iand C dJ11_signedHashCode_26 ?_
      refine gx_iadd C dJ11_signedHashCode_27 ?_
      refine gx_istn C dJ11_signedHashCode_28 0 rfl (by decide) [1, 2, 3]  rfl (gx_okn rfl rfl (gx_okn rfl rfl (gx_okn rfl rfl gx_ok0))) ?_
      refine gx_inc (v := 1) C dJ11_signedHashCode_29 3 rfl rfl (by decide) [0, 1, 2] rfl (gx_okn rfl rfl (gx_okn rfl rfl (gx_okr rfl gx_catv_i gx_ok0))) ?_
      refine gx_goto (tgt := 8) C dJ11_signedHashCode_32 rfl ?_
      refine gx_sub [1, 2, 3, 0] rfl ?_
      exact wk8 hf
def f_J11_signedHashCode (D : gx_D) (h : HX) (p0 : Int32) (p1 : Option Nat) (p2 : Int32) (p3 : Int32) : Option Int32 :=
  f_J11_signedHashCode_b8 D gx_fuel h p0 p1 ((p2 + p3)) p2
theorem w_J11_signedHashCode_b {l : Launch} (hlt : l.stackTraces = false) {p : Program} {e : Env} {R : Room} {s : State} {m : MethodId} {args : Array Value} {below : List Frame} {meth : Method} {c : Code} {D : gx_D} {h0 : HX} {r : Int32} (C : gx_Ctx p R s m args meth c "jdk/internal/util/ArraysSupport" cJ11_signedHashCode 6 (some .int) 1 24 D h0 h0) (hx : meth.name = "signedHashCode") {p0 : Int32} {p1 : Option Nat} {p2 : Int32} {p3 : Int32} (hf : f_J11_signedHashCode D h0 p0 p1 p2 p3 = some r) : gx_G p l e R s m args below meth c D h0 h0 6 (gx_MQ below args s D h0 h0 (some (.int r))) 0 [(0, (.int p0)), (1, (va_rf p1)), (2, (.int p2)), (3, (.int p3))] [] h0 := by
  unfold f_J11_signedHashCode at hf
  refine gx_iload_n C dJ11_signedHashCode_0 2 rfl ?_
  refine gx_iload_n C dJ11_signedHashCode_1 3 rfl ?_
  refine gx_iadd C dJ11_signedHashCode_2 ?_
  refine gx_ist C dJ11_signedHashCode_3 (by decide) [0, 1, 2]  rfl (gx_okn rfl rfl (gx_okn rfl rfl (gx_okn rfl rfl gx_ok0))) ?_
  refine gx_iload_n C dJ11_signedHashCode_5 3 rfl ?_
  refine gx_ist C dJ11_signedHashCode_6 (by decide) [0, 1, 2]  rfl (gx_okr rfl gx_catv_i (gx_okn rfl rfl (gx_okn rfl rfl gx_ok0))) ?_
  refine gx_sub [2, 3, 1, 0] rfl ?_
  exact w_J11_signedHashCode_b8 hlt C hx gx_fuel hf
theorem w_J11_signedHashCode {l : Launch} (hlt : l.stackTraces = false) {D : gx_D} {h : HX} {p0 : Int32} {p1 : Option Nat} {p2 : Int32} {p3 : Int32} {r : Int32} (hf : f_J11_signedHashCode D h p0 p1 p2 p3 = some r) : gx_Met l yJ11_signedHashCode cJ11_signedHashCode 6 (some .int) 1 24 D [(.int p0), (va_rf p1), (.int p2), (.int p3)] h (some (.int r)) h :=
  gx_ofG gz_132 (by simp only [gx_lsr, gx_lsi, gx_lsj, gx_ls0]; decide) gx_le.rf (fun p e R s m args below meth c C hx => by
    simp only [gx_lar, gx_lai, gx_laj, gx_la0, Nat.reduceAdd]
    exact w_J11_signedHashCode_b hlt C hx hf)
def f_J11_vectorizedHashCode_b129 (D : gx_D) (h : HX) : Option Int32 :=
  none
theorem w_J11_vectorizedHashCode_b129 {l : Launch} (hlt : l.stackTraces = false) {p : Program} {e : Env} {R : Room} {s : State} {m : MethodId} {args : Array Value} {below : List Frame} {meth : Method} {c : Code} {D : gx_D} {h0 : HX} {r : Int32} (C : gx_Ctx p R s m args meth c "jdk/internal/util/ArraysSupport" cJ11_vectorizedHashCode 5 (some .int) 2 49 D h0 h0) (hx : meth.name = "vectorizedHashCode")  (hf : f_J11_vectorizedHashCode_b129 D h0 = some r) : gx_G p l e R s m args below meth c D h0 h0 5 (gx_MQ below args s D h0 h0 (some (.int r))) 129 [] [] h0 := by
  unfold f_J11_vectorizedHashCode_b129 at hf
  cases hf
def f_J11_vectorizedHashCode (D : gx_D) (h : HX) (p0 : Option Nat) (p1 : Int32) (p2 : Int32) (p3 : Int32) (p4 : Int32) : Option Int32 :=
  if p4 = (4 : Int32) then
  p0.bind fun a2 =>
  (hx_isA h a2 1).bind fun u3 =>
  (f_J11_signedHashCode D h p3 (some a2) p1 p2).bind fun x5 =>
  some x5
  else
  if p4 = (5 : Int32) then
  none
  else
  if p4 = (8 : Int32) then
  p0.bind fun a9 =>
  (hx_isA h a9 1).bind fun u10 =>
  none
  else
  if p4 = (9 : Int32) then
  p0.bind fun a13 =>
  none
  else
  if p4 = (10 : Int32) then
  p0.bind fun a15 =>
  none
  else
  if p4 < (4 : Int32) ∨ (10 : Int32) < p4 then
  f_J11_vectorizedHashCode_b129 D h
  else none
theorem w_J11_vectorizedHashCode_b {l : Launch} (hlt : l.stackTraces = false) {p : Program} {e : Env} {R : Room} {s : State} {m : MethodId} {args : Array Value} {below : List Frame} {meth : Method} {c : Code} {D : gx_D} {h0 : HX} {r : Int32} (C : gx_Ctx p R s m args meth c "jdk/internal/util/ArraysSupport" cJ11_vectorizedHashCode 5 (some .int) 2 49 D h0 h0) (hx : meth.name = "vectorizedHashCode") {p0 : Option Nat} {p1 : Int32} {p2 : Int32} {p3 : Int32} {p4 : Int32} (hf : f_J11_vectorizedHashCode D h0 p0 p1 p2 p3 p4 = some r) : gx_G p l e R s m args below meth c D h0 h0 5 (gx_MQ below args s D h0 h0 (some (.int r))) 0 [(0, (va_rf p0)), (1, (.int p1)), (2, (.int p2)), (3, (.int p3)), (4, (.int p4))] [] h0 := by
  unfold f_J11_vectorizedHashCode at hf
  refine gx_iload C dJ11_vectorizedHashCode_0 4 rfl ?_
  replace hf := gx_ite hf
  rcases hf with ⟨c1, hf⟩ | ⟨c1, hf⟩
  · refine gx_tswIn (tgt := 44) C dJ11_vectorizedHashCode_2 (by rw [c1]; decide) (by rw [c1]; decide) (off := 42) (by rw [c1]; rfl) rfl ?_
    refine gx_iload_n C dJ11_vectorizedHashCode_44 3 rfl ?_
    refine gx_aload_n C dJ11_vectorizedHashCode_45 0 rfl ?_
    replace hf := gx_bs hf
    obtain ⟨a2, rfl, hf⟩ := hf
    replace hf := gx_bs hf
    obtain ⟨u3, g6, hf⟩ := hf
    refine gx_castAB C g6 q1180 dJ11_vectorizedHashCode_46 ?_
    refine gx_iload_n C dJ11_vectorizedHashCode_49 1 rfl ?_
    refine gx_iload_n C dJ11_vectorizedHashCode_50 2 rfl ?_
    replace hf := gx_bs hf
    obtain ⟨x5, g4, hf⟩ := hf
    refine gx_callS (st := []) C (w_J11_signedHashCode hlt g4) (lw_S q1181 q1182 q136 q1183) gz_244 (by decide) rfl rfl (gx_catn (Nat.le_of_ble_eq_true rfl)) dJ11_vectorizedHashCode_51 ?_
    refine gx_goto (tgt := 157) C dJ11_vectorizedHashCode_54 rfl ?_
    obtain rfl := Option.some.inj hf
    exact gx_iret C dJ11_vectorizedHashCode_157
  replace hf := gx_ite hf
  rcases hf with ⟨c7, hf⟩ | ⟨c7, hf⟩
  · refine gx_tswIn (tgt := 57) C dJ11_vectorizedHashCode_2 (by rw [c7]; decide) (by rw [c7]; decide) (off := 55) (by rw [c7]; rfl) rfl ?_
    refine gx_aload_n C dJ11_vectorizedHashCode_57 0 rfl ?_
    cases hf
  replace hf := gx_ite hf
  rcases hf with ⟨c8, hf⟩ | ⟨c8, hf⟩
  · refine gx_tswIn (tgt := 90) C dJ11_vectorizedHashCode_2 (by rw [c8]; decide) (by rw [c8]; decide) (off := 88) (by rw [c8]; rfl) rfl ?_
    refine gx_iload_n C dJ11_vectorizedHashCode_90 3 rfl ?_
    refine gx_aload_n C dJ11_vectorizedHashCode_91 0 rfl ?_
    replace hf := gx_bs hf
    obtain ⟨a9, rfl, hf⟩ := hf
    replace hf := gx_bs hf
    obtain ⟨u10, g11, hf⟩ := hf
    refine gx_castAB C g11 q1180 dJ11_vectorizedHashCode_92 ?_
    refine gx_iload_n C dJ11_vectorizedHashCode_95 1 rfl ?_
    refine gx_iload_n C dJ11_vectorizedHashCode_96 2 rfl ?_
    cases hf
  replace hf := gx_ite hf
  rcases hf with ⟨c12, hf⟩ | ⟨c12, hf⟩
  · refine gx_tswIn (tgt := 103) C dJ11_vectorizedHashCode_2 (by rw [c12]; decide) (by rw [c12]; decide) (off := 101) (by rw [c12]; rfl) rfl ?_
    refine gx_iload_n C dJ11_vectorizedHashCode_103 3 rfl ?_
    refine gx_aload_n C dJ11_vectorizedHashCode_104 0 rfl ?_
    replace hf := gx_bs hf
    obtain ⟨a13, rfl, hf⟩ := hf
    cases hf
  replace hf := gx_ite hf
  rcases hf with ⟨c14, hf⟩ | ⟨c14, hf⟩
  · refine gx_tswIn (tgt := 116) C dJ11_vectorizedHashCode_2 (by rw [c14]; decide) (by rw [c14]; decide) (off := 114) (by rw [c14]; rfl) rfl ?_
    refine gx_iload_n C dJ11_vectorizedHashCode_116 3 rfl ?_
    refine gx_aload_n C dJ11_vectorizedHashCode_117 0 rfl ?_
    replace hf := gx_bs hf
    obtain ⟨a15, rfl, hf⟩ := hf
    cases hf
  replace hf := gx_ite hf
  rcases hf with ⟨c16, hf⟩ | ⟨c16, hf⟩
  rotate_left
  · cases hf
  refine gx_tswOut (tgt := 129) C dJ11_vectorizedHashCode_2 (gx_tout c16) rfl ?_
  refine gx_sub [] rfl ?_
  exact w_J11_vectorizedHashCode_b129 hlt C hx hf
theorem w_J11_vectorizedHashCode {l : Launch} (hlt : l.stackTraces = false) {D : gx_D} {h : HX} {p0 : Option Nat} {p1 : Int32} {p2 : Int32} {p3 : Int32} {p4 : Int32} {r : Int32} (hf : f_J11_vectorizedHashCode D h p0 p1 p2 p3 p4 = some r) : gx_Met l yJ11_vectorizedHashCode cJ11_vectorizedHashCode 5 (some .int) 2 49 D [(va_rf p0), (.int p1), (.int p2), (.int p3), (.int p4)] h (some (.int r)) h :=
  gx_ofG gz_132 (by simp only [gx_lsr, gx_lsi, gx_lsj, gx_ls0]; decide) gx_le.rf (fun p e R s m args below meth c C hx => by
    simp only [gx_lar, gx_lai, gx_laj, gx_la0, Nat.reduceAdd]
    exact w_J11_vectorizedHashCode_b hlt C hx hf)
def f_J15_hashCode (D : gx_D) (h : HX) (p0 : Option Nat) : Option Int32 :=
  p0.bind fun a1 =>
  (hx_len h a1).bind fun x2 =>
  if x2 = (0 : Int32) then
  some ((0 : Int32))
  else
  if x2 = (1 : Int32) then
  (hx_ai h a1 1 (0 : Int32)).bind fun x5 =>
  some ((x5 &&& (255 : Int32)))
  else
  (hx_len h a1).bind fun x7 =>
  (f_J11_vectorizedHashCode D h (some a1) (0 : Int32) x7 (0 : Int32) (4 : Int32)).bind fun x9 =>
  some x9
theorem w_J15_hashCode_b {l : Launch} (hlt : l.stackTraces = false) {p : Program} {e : Env} {R : Room} {s : State} {m : MethodId} {args : Array Value} {below : List Frame} {meth : Method} {c : Code} {D : gx_D} {h0 : HX} {r : Int32} (C : gx_Ctx p R s m args meth c "java/lang/StringLatin1" cJ15_hashCode 1 (some .int) 3 73 D h0 h0) (hx : meth.name = "hashCode") {p0 : Option Nat} (hf : f_J15_hashCode D h0 p0 = some r) : gx_G p l e R s m args below meth c D h0 h0 1 (gx_MQ below args s D h0 h0 (some (.int r))) 0 [(0, (va_rf p0))] [] h0 := by
  unfold f_J15_hashCode at hf
  refine gx_aload_n C dJ15_hashCode_0 0 rfl ?_
  replace hf := gx_bs hf
  obtain ⟨a1, rfl, hf⟩ := hf
  replace hf := gx_bs hf
  obtain ⟨x2, g11, hf⟩ := hf
  refine gx_alen C g11 dJ15_hashCode_1 ?_
  replace hf := gx_ite hf
  rcases hf with ⟨c3, hf⟩ | ⟨c3, hf⟩
  · refine gx_lsw (tgt := 28) (off := 26) C dJ15_hashCode_2 (by decide) (by rw [c3]; decide) rfl ?_
    refine gx_iconst (v := 0) C dJ15_hashCode_28 rfl ?_
    refine gx_goto (tgt := 51) C dJ15_hashCode_29 rfl ?_
    obtain rfl := Option.some.inj hf
    exact gx_iret C dJ15_hashCode_51
  replace hf := gx_ite hf
  rcases hf with ⟨c4, hf⟩ | ⟨c4, hf⟩
  · refine gx_lsw (tgt := 32) (off := 30) C dJ15_hashCode_2 (by decide) (by rw [c4]; decide) rfl ?_
    refine gx_aload_n C dJ15_hashCode_32 0 rfl ?_
    refine gx_iconst (v := 0) C dJ15_hashCode_33 rfl ?_
    replace hf := gx_bs hf
    obtain ⟨x5, g6, hf⟩ := hf
    refine gx_bald C g6 dJ15_hashCode_34 ?_
    refine gx_sipush (v := 255) C dJ15_hashCode_35 rfl ?_
    refine gx_iand C dJ15_hashCode_38 ?_
    refine gx_goto (tgt := 51) C dJ15_hashCode_39 rfl ?_
    obtain rfl := Option.some.inj hf
    exact gx_iret C dJ15_hashCode_51
  refine gx_lsw (tgt := 42) (off := 40) C dJ15_hashCode_2 (by decide) (gx_lswd (gx_lq1 (gx_lsn2 (by decide) c3) (gx_lq1 (gx_lsn2 (by decide) c4) gx_lq0))) rfl ?_
  refine gx_aload_n C dJ15_hashCode_42 0 rfl ?_
  refine gx_iconst (v := 0) C dJ15_hashCode_43 rfl ?_
  refine gx_aload_n C dJ15_hashCode_44 0 rfl ?_
  replace hf := gx_bs hf
  obtain ⟨x7, g10, hf⟩ := hf
  refine gx_alen C g10 dJ15_hashCode_45 ?_
  refine gx_iconst (v := 0) C dJ15_hashCode_46 rfl ?_
  refine gx_iconst (v := 4) C dJ15_hashCode_47 rfl ?_
  replace hf := gx_bs hf
  obtain ⟨x9, g8, hf⟩ := hf
  refine gx_callS (st := []) C (w_J11_vectorizedHashCode hlt g8) (lw_S q1177 q1178 q136 q1179) gz_245 (by decide) rfl rfl (gx_catn (Nat.le_of_ble_eq_true rfl)) dJ15_hashCode_48 ?_
  obtain rfl := Option.some.inj hf
  exact gx_iret C dJ15_hashCode_51
theorem w_J15_hashCode {l : Launch} (hlt : l.stackTraces = false) {D : gx_D} {h : HX} {p0 : Option Nat} {r : Int32} (hf : f_J15_hashCode D h p0 = some r) : gx_Met l yJ15_hashCode cJ15_hashCode 1 (some .int) 3 73 D [(va_rf p0)] h (some (.int r)) h :=
  gx_ofG gz_139 (by simp only [gx_lsr, gx_lsi, gx_lsj, gx_ls0]; decide) gx_le.rf (fun p e R s m args below meth c C hx => by
    simp only [gx_lar, gx_lai, gx_laj, gx_la0, Nat.reduceAdd]
    exact w_J15_hashCode_b hlt C hx hf)
def f_J9_hashCode (D : gx_D) (h : HX) (a0 : Nat) : Option ((Int32) × HX) :=
  (hx_is h a0 [2]).bind fun _ =>
  (hx_gi h a0 [2] 2).bind fun x1 =>
  if x1 = 0 then
  (hx_gi h a0 [2] 3).bind fun x3 =>
  if x3 = 0 then
  (f_J9_isLatin1 D h a0).bind fun b6 =>
  if b6 = true then
  (hx_gr h a0 [2] 0).bind fun r8 =>
  (f_J15_hashCode D h r8).bind fun x10 =>
  if x10 = 0 then
  (hx_pi h a0 [2] 3 (1 : Int32)).bind fun h12 =>
  some (x10, h12)
  else
  (hx_pi h a0 [2] 2 x10).bind fun h14 =>
  some (x10, h14)
  else
  (hx_gr h a0 [2] 0).bind fun r17 =>
  none
  else
  some (x1, h)
  else
  some (x1, h)
theorem is_J9_hashCode {D : gx_D} {h : HX} {a0 : Nat} {z} (hf : f_J9_hashCode D h a0 = some z) : gx_isC h a0 [2] := by
  unfold f_J9_hashCode at hf
  obtain ⟨_, g, -⟩ := gx_bs hf
  exact hx_is_of g
theorem w_J9_hashCode_b {l : Launch} (hlt : l.stackTraces = false) {p : Program} {e : Env} {R : Room} {s : State} {m : MethodId} {args : Array Value} {below : List Frame} {meth : Method} {c : Code} {D : gx_D} {h0 : HX} {r : Int32} {hz : HX} (C : gx_Ctx p R s m args meth c "java/lang/String" cJ9_hashCode 2 (some .int) 4 93 D h0 hz) (hx : meth.name = "hashCode") {a0 : Nat} (hf : f_J9_hashCode D h0 a0 = some (r, hz)) : gx_G p l e R s m args below meth c D h0 hz 2 (gx_MQ below args s D h0 hz (some (.int r))) 0 [(0, (va_rf (some a0)))] [] h0 := by
  unfold f_J9_hashCode at hf
  replace hf := gx_bs hf
  obtain ⟨_, -, hf⟩ := hf
  refine gx_aload_n C dJ9_hashCode_0 0 rfl ?_
  replace hf := gx_bs hf
  obtain ⟨x1, g20, hf⟩ := hf
  refine gx_gi C g20 gz_246 q531 dJ9_hashCode_1 ?_
  refine gx_istn C dJ9_hashCode_4 1 rfl (by decide) [0]  rfl (gx_okr rfl gx_catv_r gx_ok0) ?_
  refine gx_iload_n C dJ9_hashCode_5 0 rfl ?_
  replace hf := gx_ite hf
  rcases hf with ⟨c2, hf⟩ | ⟨c2, hf⟩
  · refine gx_if_ne_f (tgt := 58) C dJ9_hashCode_6 rfl c2 ?_
    refine gx_aload_n C dJ9_hashCode_9 1 rfl ?_
    replace hf := gx_bs hf
    obtain ⟨x3, g19, hf⟩ := hf
    refine gx_gi C g19 gz_247 q532 dJ9_hashCode_10 ?_
    replace hf := gx_ite hf
    rcases hf with ⟨c4, hf⟩ | ⟨c4, hf⟩
    · refine gx_if_ne_f (tgt := 58) C dJ9_hashCode_13 rfl c4 ?_
      refine gx_aload_n C dJ9_hashCode_16 1 rfl ?_
      replace hf := gx_bs hf
      obtain ⟨b6, g5, hf⟩ := hf
      refine gx_callV (st := []) C (w_J9_isLatin1 hlt g5) (is_J9_isLatin1 g5) gz_10 rfl (lw_V q1070 q1071 q1072 q134 q1073) gz_168 (by decide) rfl rfl (gx_catn (Nat.le_of_ble_eq_true rfl)) dJ9_hashCode_17 ?_
      replace hf := gx_ite hf
      rcases hf with ⟨c7, hf⟩ | ⟨c7, hf⟩
      · refine gx_ifz_eq_f (tgt := 33) C dJ9_hashCode_20 rfl c7 ?_
        refine gx_aload_n C dJ9_hashCode_23 1 rfl ?_
        replace hf := gx_bs hf
        obtain ⟨r8, g16, hf⟩ := hf
        refine gx_gr C g16 gz_150 q529 dJ9_hashCode_24 ?_
        replace hf := gx_bs hf
        obtain ⟨x10, g9, hf⟩ := hf
        refine gx_callS (st := []) C (w_J15_hashCode hlt g9) (lw_S q1174 q1175 q141 q1176) gz_249 (by decide) rfl rfl (gx_catn (Nat.le_of_ble_eq_true rfl)) dJ9_hashCode_27 ?_
        refine gx_goto (tgt := 40) C dJ9_hashCode_30 rfl ?_
        refine gx_istn C dJ9_hashCode_40 1 rfl (by decide) [1]  rfl (gx_okr rfl gx_catv_r gx_ok0) ?_
        refine gx_iload_n C dJ9_hashCode_41 0 rfl ?_
        replace hf := gx_ite hf
        rcases hf with ⟨c11, hf⟩ | ⟨c11, hf⟩
        · refine gx_if_ne_f (tgt := 53) C dJ9_hashCode_42 rfl c11 ?_
          refine gx_aload_n C dJ9_hashCode_45 1 rfl ?_
          refine gx_iconst (v := 1) C dJ9_hashCode_46 rfl ?_
          replace hf := gx_bs hf
          obtain ⟨h12, g13, hf⟩ := hf
          refine gx_putv C g13 gz_247 gz_248 rfl rfl q532 dJ9_hashCode_47 ?_
          refine gx_goto (tgt := 58) C dJ9_hashCode_50 rfl ?_
          refine gx_iload_n C dJ9_hashCode_58 0 rfl ?_
          obtain ⟨rfl, rfl⟩ := Prod.mk.inj (Option.some.inj hf)
          exact gx_iret C dJ9_hashCode_59
        · refine gx_if_ne_t (tgt := 53) C dJ9_hashCode_42 rfl c11 ?_
          refine gx_aload_n C dJ9_hashCode_53 1 rfl ?_
          refine gx_iload_n C dJ9_hashCode_54 0 rfl ?_
          replace hf := gx_bs hf
          obtain ⟨h14, g15, hf⟩ := hf
          refine gx_putv C g15 gz_246 gz_1 rfl rfl q531 dJ9_hashCode_55 ?_
          refine gx_iload_n C dJ9_hashCode_58 0 rfl ?_
          obtain ⟨rfl, rfl⟩ := Prod.mk.inj (Option.some.inj hf)
          exact gx_iret C dJ9_hashCode_59
      · refine gx_ifz_eq_t (tgt := 33) C dJ9_hashCode_20 rfl c7 ?_
        refine gx_aload_n C dJ9_hashCode_33 1 rfl ?_
        replace hf := gx_bs hf
        obtain ⟨r17, g18, hf⟩ := hf
        refine gx_gr C g18 gz_150 q529 dJ9_hashCode_34 ?_
        cases hf
    · refine gx_if_ne_t (tgt := 58) C dJ9_hashCode_13 rfl c4 ?_
      refine gx_iload_n C dJ9_hashCode_58 0 rfl ?_
      obtain ⟨rfl, rfl⟩ := Prod.mk.inj (Option.some.inj hf)
      exact gx_iret C dJ9_hashCode_59
  · refine gx_if_ne_t (tgt := 58) C dJ9_hashCode_6 rfl c2 ?_
    refine gx_iload_n C dJ9_hashCode_58 0 rfl ?_
    obtain ⟨rfl, rfl⟩ := Prod.mk.inj (Option.some.inj hf)
    exact gx_iret C dJ9_hashCode_59
theorem le_J9_hashCode {D : gx_D} {r : Int32} {hz : HX} {h : HX} {a0 : Nat} (hf : f_J9_hashCode D h a0 = some (r, hz)) : gx_le h hz := by
  unfold f_J9_hashCode at hf
  replace hf := gx_bs hf
  obtain ⟨_, -, hf⟩ := hf
  replace hf := gx_bs hf
  obtain ⟨x1, g20, hf⟩ := hf
  replace hf := gx_ite hf
  rcases hf with ⟨c2, hf⟩ | ⟨c2, hf⟩
  · replace hf := gx_bs hf
    obtain ⟨x3, g19, hf⟩ := hf
    replace hf := gx_ite hf
    rcases hf with ⟨c4, hf⟩ | ⟨c4, hf⟩
    · replace hf := gx_bs hf
      obtain ⟨b6, g5, hf⟩ := hf
      replace hf := gx_ite hf
      rcases hf with ⟨c7, hf⟩ | ⟨c7, hf⟩
      · replace hf := gx_bs hf
        obtain ⟨r8, g16, hf⟩ := hf
        replace hf := gx_bs hf
        obtain ⟨x10, g9, hf⟩ := hf
        replace hf := gx_ite hf
        rcases hf with ⟨c11, hf⟩ | ⟨c11, hf⟩
        · replace hf := gx_bs hf
          obtain ⟨h12, g13, hf⟩ := hf
          refine (hx_le_pv g13).tr ?_
          obtain ⟨rfl, rfl⟩ := Prod.mk.inj (Option.some.inj hf)
          exact gx_le.rf
        · replace hf := gx_bs hf
          obtain ⟨h14, g15, hf⟩ := hf
          refine (hx_le_pv g15).tr ?_
          obtain ⟨rfl, rfl⟩ := Prod.mk.inj (Option.some.inj hf)
          exact gx_le.rf
      · replace hf := gx_bs hf
        obtain ⟨r17, g18, hf⟩ := hf
        cases hf
    · obtain ⟨rfl, rfl⟩ := Prod.mk.inj (Option.some.inj hf)
      exact gx_le.rf
  · obtain ⟨rfl, rfl⟩ := Prod.mk.inj (Option.some.inj hf)
    exact gx_le.rf
theorem w_J9_hashCode {l : Launch} (hlt : l.stackTraces = false) {D : gx_D} {h : HX} {a0 : Nat} {r : Int32} {hz : HX} (hf : f_J9_hashCode D h a0 = some (r, hz)) : gx_Met l yJ9_hashCode cJ9_hashCode 2 (some .int) 4 93 D [(va_rf (some a0))] h (some (.int r)) hz :=
  gx_ofG gz_153 (by simp only [gx_lsr, gx_lsi, gx_lsj, gx_ls0]; decide) (le_J9_hashCode hf) (fun p e R s m args below meth c C hx => by
    simp only [gx_lar, gx_lai, gx_laj, gx_la0, Nat.reduceAdd]
    exact w_J9_hashCode_b hlt C hx hf)
def f_J17_circularClear_b12 (D : gx_D) : Nat → HX → Option Nat → Int32 → Int32 → Int32 → Option HX
  | 0, _, _, _, _, _ => none
  | n + 1, h, v0, v1, v2, v3 =>
  if v3 ≤ v1 then
  if v3 = v2 then
  some h
  else
  (f_J17_circularClear_b12 D n) h v0 ((0 : Int32)) v2 v2
  else
  v0.bind fun a6 =>
  (hx_sr h a6 4 [11, 13, 15, 2] v1 none).bind fun h7 =>
  (f_J17_circularClear_b12 D n) h7 (some a6) ((v1 + (1 : Int32))) v2 v3
theorem w_J17_circularClear_b12 {l : Launch} (hlt : l.stackTraces = false) {p : Program} {e : Env} {R : Room} {s : State} {m : MethodId} {args : Array Value} {below : List Frame} {meth : Method} {c : Code} {D : gx_D} {h0 : HX} {hz : HX} (C : gx_Ctx p R s m args meth c "java/util/ArrayDeque" cJ17_circularClear 4 none 1 24 D h0 hz) (hx : meth.name = "circularClear")  : ∀ (n : Nat) ⦃h : HX⦄ ⦃v0 : Option Nat⦄ ⦃v1 : Int32⦄ ⦃v2 : Int32⦄ ⦃v3 : Int32⦄, f_J17_circularClear_b12 D n h v0 v1 v2 v3 = some hz → gx_G p l e R s m args below meth c D h0 hz 4 (gx_MQ below args s D h0 hz none) 12 [(0, (va_rf v0)), (1, (.int v1)), (2, (.int v2)), (3, (.int v3))] [] h := by
  intro n
  induction n with
  | zero => intro h v0 v1 v2 v3 hf; unfold f_J17_circularClear_b12 at hf; cases hf
  | succ n wk12 =>
    intro h v0 v1 v2 v3 hf
    unfold f_J17_circularClear_b12 at hf
    refine gx_iload_n C dJ17_circularClear_12 1 rfl ?_
    refine gx_iload_n C dJ17_circularClear_13 3 rfl ?_
    replace hf := gx_ite hf
    rcases hf with ⟨c4, hf⟩ | ⟨c4, hf⟩
    · refine gx_icmp_ge_t (tgt := 27) C dJ17_circularClear_14 rfl c4 ?_
      refine gx_iload_n C dJ17_circularClear_27 3 rfl ?_
      refine gx_iload_n C dJ17_circularClear_28 2 rfl ?_
      replace hf := gx_ite hf
      rcases hf with ⟨c5, hf⟩ | ⟨c5, hf⟩
      · refine gx_icmp_ne_f (tgt := 35) C dJ17_circularClear_29 rfl c5 ?_
        refine gx_goto (tgt := 42) C dJ17_circularClear_32 rfl ?_
        obtain rfl := Option.some.inj hf
        exact gx_vret C dJ17_circularClear_42
      · refine gx_icmp_ne_t (tgt := 35) C dJ17_circularClear_29 rfl c5 ?_
        refine gx_iconst (v := 0) C dJ17_circularClear_35 rfl ?_
        refine gx_istn C dJ17_circularClear_36 1 rfl (by decide) [0, 2]  rfl (gx_okr rfl gx_catv_r (gx_okn rfl rfl gx_ok0)) ?_
        refine gx_iload_n C dJ17_circularClear_37 2 rfl ?_
        refine gx_istn C dJ17_circularClear_38 3 rfl (by decide) [0, 1, 2]  rfl (gx_okn rfl rfl (gx_okn rfl rfl (gx_okr rfl gx_catv_i gx_ok0))) ?_
        refine gx_goto (tgt := 12) C dJ17_circularClear_39 rfl ?_
        refine gx_sub [2, 1, 3, 0] rfl ?_
        exact wk12 hf
    · refine gx_icmp_ge_f (tgt := 27) C dJ17_circularClear_14 rfl c4 ?_
      refine gx_aload_n C dJ17_circularClear_17 0 rfl ?_
      refine gx_iload_n C dJ17_circularClear_18 1 rfl ?_
      refine gx_null C dJ17_circularClear_19 ?_
      replace hf := gx_bs hf
      obtain ⟨a6, rfl, hf⟩ := hf
      replace hf := gx_bs hf
      obtain ⟨h7, g8, hf⟩ := hf
      refine gx_aast C gz_9 (t := 4) rfl g8 dJ17_circularClear_20 ?_
      refine gx_inc (v := 1) C dJ17_circularClear_21 1 rfl rfl (by decide) [0, 2, 3] rfl (gx_okr rfl gx_catv_r (gx_okn rfl rfl (gx_okn rfl rfl gx_ok0))) ?_
      refine gx_goto (tgt := 12) C dJ17_circularClear_24 rfl ?_
      refine gx_sub [1, 0, 2, 3] rfl ?_
      exact wk12 hf
theorem le_J17_circularClear_b12 {D : gx_D} {hz : HX} : ∀ (n : Nat) ⦃h : HX⦄ ⦃v0 : Option Nat⦄ ⦃v1 : Int32⦄ ⦃v2 : Int32⦄ ⦃v3 : Int32⦄, f_J17_circularClear_b12 D n h v0 v1 v2 v3 = some hz → gx_le h hz := by
  intro n
  induction n with
  | zero => intro h v0 v1 v2 v3 hf; unfold f_J17_circularClear_b12 at hf; cases hf
  | succ n lek12 =>
    intro h v0 v1 v2 v3 hf
    unfold f_J17_circularClear_b12 at hf
    replace hf := gx_ite hf
    rcases hf with ⟨c4, hf⟩ | ⟨c4, hf⟩
    · replace hf := gx_ite hf
      rcases hf with ⟨c5, hf⟩ | ⟨c5, hf⟩
      · obtain rfl := Option.some.inj hf
        exact gx_le.rf
      · exact lek12 hf
    · replace hf := gx_bs hf
      obtain ⟨a6, rfl, hf⟩ := hf
      replace hf := gx_bs hf
      obtain ⟨h7, g8, hf⟩ := hf
      refine (hx_le_sr g8).tr ?_
      exact lek12 hf
def f_J17_circularClear_b11 (D : gx_D) (h : HX) (v0 : Option Nat) (v1 : Int32) (v2 : Int32) (s0 : Int32) : Option HX :=
  f_J17_circularClear_b12 D gx_fuel h v0 v1 v2 s0
theorem w_J17_circularClear_b11 {l : Launch} (hlt : l.stackTraces = false) {p : Program} {e : Env} {R : Room} {s : State} {m : MethodId} {args : Array Value} {below : List Frame} {meth : Method} {c : Code} {D : gx_D} {h0 : HX} {hz : HX} (C : gx_Ctx p R s m args meth c "java/util/ArrayDeque" cJ17_circularClear 4 none 1 24 D h0 hz) (hx : meth.name = "circularClear")  {h : HX} {v0 : Option Nat} {v1 : Int32} {v2 : Int32} {s0 : Int32} (hf : f_J17_circularClear_b11 D h v0 v1 v2 s0 = some hz) : gx_G p l e R s m args below meth c D h0 hz 4 (gx_MQ below args s D h0 hz none) 11 [(0, (va_rf v0)), (1, (.int v1)), (2, (.int v2))] [(.int s0)] h := by
  unfold f_J17_circularClear_b11 at hf
  refine gx_istn C dJ17_circularClear_11 3 rfl (by decide) [0, 1, 2]  rfl (gx_okn rfl rfl (gx_okn rfl rfl (gx_okr rfl gx_catv_i gx_ok0))) ?_
  refine gx_sub [1, 2, 3, 0] rfl ?_
  exact w_J17_circularClear_b12 hlt C hx gx_fuel hf
theorem le_J17_circularClear_b11 {D : gx_D} {hz : HX} {h : HX} {v0 : Option Nat} {v1 : Int32} {v2 : Int32} {s0 : Int32} (hf : f_J17_circularClear_b11 D h v0 v1 v2 s0 = some hz) : gx_le h hz := by
  unfold f_J17_circularClear_b11 at hf
  exact le_J17_circularClear_b12 gx_fuel hf
def f_J17_circularClear (D : gx_D) (h : HX) (p0 : Option Nat) (p1 : Int32) (p2 : Int32) : Option HX :=
  if p2 < p1 then
  p0.bind fun a2 =>
  (hx_len h a2).bind fun x3 =>
  f_J17_circularClear_b11 D h (some a2) p1 p2 x3
  else
  f_J17_circularClear_b11 D h p0 p1 p2 p2
theorem w_J17_circularClear_b {l : Launch} (hlt : l.stackTraces = false) {p : Program} {e : Env} {R : Room} {s : State} {m : MethodId} {args : Array Value} {below : List Frame} {meth : Method} {c : Code} {D : gx_D} {h0 : HX} {hz : HX} (C : gx_Ctx p R s m args meth c "java/util/ArrayDeque" cJ17_circularClear 4 none 1 24 D h0 hz) (hx : meth.name = "circularClear") {p0 : Option Nat} {p1 : Int32} {p2 : Int32} (hf : f_J17_circularClear D h0 p0 p1 p2 = some hz) : gx_G p l e R s m args below meth c D h0 hz 4 (gx_MQ below args s D h0 hz none) 0 [(0, (va_rf p0)), (1, (.int p1)), (2, (.int p2))] [] h0 := by
  unfold f_J17_circularClear at hf
  refine gx_iload_n C dJ17_circularClear_0 1 rfl ?_
  refine gx_iload_n C dJ17_circularClear_1 2 rfl ?_
  replace hf := gx_ite hf
  rcases hf with ⟨c1, hf⟩ | ⟨c1, hf⟩
  · refine gx_icmp_gt_t (tgt := 9) C dJ17_circularClear_2 rfl c1 ?_
    refine gx_aload_n C dJ17_circularClear_9 0 rfl ?_
    replace hf := gx_bs hf
    obtain ⟨a2, rfl, hf⟩ := hf
    replace hf := gx_bs hf
    obtain ⟨x3, g9, hf⟩ := hf
    refine gx_alen C g9 dJ17_circularClear_10 ?_
    refine gx_sub [0, 1, 2] rfl ?_
    exact w_J17_circularClear_b11 hlt C hx hf
  · refine gx_icmp_gt_f (tgt := 9) C dJ17_circularClear_2 rfl c1 ?_
    refine gx_iload_n C dJ17_circularClear_5 2 rfl ?_
    refine gx_goto (tgt := 11) C dJ17_circularClear_6 rfl ?_
    refine gx_sub [0, 1, 2] rfl ?_
    exact w_J17_circularClear_b11 hlt C hx hf
theorem le_J17_circularClear {D : gx_D} {hz : HX} {h : HX} {p0 : Option Nat} {p1 : Int32} {p2 : Int32} (hf : f_J17_circularClear D h p0 p1 p2 = some hz) : gx_le h hz := by
  unfold f_J17_circularClear at hf
  replace hf := gx_ite hf
  rcases hf with ⟨c1, hf⟩ | ⟨c1, hf⟩
  · replace hf := gx_bs hf
    obtain ⟨a2, rfl, hf⟩ := hf
    replace hf := gx_bs hf
    obtain ⟨x3, g9, hf⟩ := hf
    exact le_J17_circularClear_b11 hf
  · exact le_J17_circularClear_b11 hf
theorem w_J17_circularClear {l : Launch} (hlt : l.stackTraces = false) {D : gx_D} {h : HX} {p0 : Option Nat} {p1 : Int32} {p2 : Int32} {hz : HX} (hf : f_J17_circularClear D h p0 p1 p2 = some hz) : gx_Met l yJ17_circularClear cJ17_circularClear 4 none 1 24 D [(va_rf p0), (.int p1), (.int p2)] h none hz :=
  gx_ofG gz_77 (by simp only [gx_lsr, gx_lsi, gx_lsj, gx_ls0]; decide) (le_J17_circularClear hf) (fun p e R s m args below meth c C hx => by
    simp only [gx_lar, gx_lai, gx_laj, gx_la0, Nat.reduceAdd]
    exact w_J17_circularClear_b hlt C hx hf)
def f_J17_clear (D : gx_D) (h : HX) (a0 : Nat) : Option HX :=
  (hx_is h a0 [3]).bind fun _ =>
  (hx_gr h a0 [3] 0).bind fun r1 =>
  (hx_gi h a0 [3] 1).bind fun x2 =>
  (hx_gi h a0 [3] 2).bind fun x3 =>
  (f_J17_circularClear D h r1 x2 x3).bind fun h5 =>
  (hx_pi h5 a0 [3] 2 (0 : Int32)).bind fun h6 =>
  (hx_pi h6 a0 [3] 1 (0 : Int32)).bind fun h7 =>
  some h7
theorem is_J17_clear {D : gx_D} {h : HX} {a0 : Nat} {z} (hf : f_J17_clear D h a0 = some z) : gx_isC h a0 [3] := by
  unfold f_J17_clear at hf
  obtain ⟨_, g, -⟩ := gx_bs hf
  exact hx_is_of g
theorem w_J17_clear_b {l : Launch} (hlt : l.stackTraces = false) {p : Program} {e : Env} {R : Room} {s : State} {m : MethodId} {args : Array Value} {below : List Frame} {meth : Method} {c : Code} {D : gx_D} {h0 : HX} {hz : HX} (C : gx_Ctx p R s m args meth c "java/util/ArrayDeque" cJ17_clear 1 none 2 47 D h0 hz) (hx : meth.name = "clear") {a0 : Nat} (hf : f_J17_clear D h0 a0 = some hz) : gx_G p l e R s m args below meth c D h0 hz 1 (gx_MQ below args s D h0 hz none) 0 [(0, (va_rf (some a0)))] [] h0 := by
  unfold f_J17_clear at hf
  replace hf := gx_bs hf
  obtain ⟨_, -, hf⟩ := hf
  refine gx_aload_n C dJ17_clear_0 0 rfl ?_
  replace hf := gx_bs hf
  obtain ⟨r1, g12, hf⟩ := hf
  refine gx_gr C g12 gz_76 q648 dJ17_clear_1 ?_
  refine gx_aload_n C dJ17_clear_4 0 rfl ?_
  replace hf := gx_bs hf
  obtain ⟨x2, g11, hf⟩ := hf
  refine gx_gi C g11 gz_261 q649 dJ17_clear_5 ?_
  refine gx_aload_n C dJ17_clear_8 0 rfl ?_
  replace hf := gx_bs hf
  obtain ⟨x3, g10, hf⟩ := hf
  refine gx_gi C g10 gz_262 q650 dJ17_clear_9 ?_
  replace hf := gx_bs hf
  obtain ⟨h5, g4, hf⟩ := hf
  refine gx_callS (st := []) C (w_J17_circularClear hlt g4) (lw_S q1477 q1478 q145 q1479) gz_263 (by decide) rfl rfl (gx_catn (Nat.le_of_ble_eq_true rfl)) dJ17_clear_12 ?_
  refine gx_aload_n C dJ17_clear_15 0 rfl ?_
  refine gx_aload_n C dJ17_clear_16 0 rfl ?_
  refine gx_iconst (v := 0) C dJ17_clear_17 rfl ?_
  refine gx_dup_x1 C dJ17_clear_18 rfl rfl ?_
  replace hf := gx_bs hf
  obtain ⟨h6, g9, hf⟩ := hf
  refine gx_putv C g9 gz_262 gz_1 rfl rfl q650 dJ17_clear_19 ?_
  replace hf := gx_bs hf
  obtain ⟨h7, g8, hf⟩ := hf
  refine gx_putv C g8 gz_261 gz_1 rfl rfl q649 dJ17_clear_22 ?_
  obtain rfl := Option.some.inj hf
  exact gx_vret C dJ17_clear_25
theorem le_J17_clear {D : gx_D} {hz : HX} {h : HX} {a0 : Nat} (hf : f_J17_clear D h a0 = some hz) : gx_le h hz := by
  unfold f_J17_clear at hf
  replace hf := gx_bs hf
  obtain ⟨_, -, hf⟩ := hf
  replace hf := gx_bs hf
  obtain ⟨r1, g12, hf⟩ := hf
  replace hf := gx_bs hf
  obtain ⟨x2, g11, hf⟩ := hf
  replace hf := gx_bs hf
  obtain ⟨x3, g10, hf⟩ := hf
  replace hf := gx_bs hf
  obtain ⟨h5, g4, hf⟩ := hf
  refine (le_J17_circularClear g4).tr ?_
  replace hf := gx_bs hf
  obtain ⟨h6, g9, hf⟩ := hf
  refine (hx_le_pv g9).tr ?_
  replace hf := gx_bs hf
  obtain ⟨h7, g8, hf⟩ := hf
  refine (hx_le_pv g8).tr ?_
  obtain rfl := Option.some.inj hf
  exact gx_le.rf
theorem w_J17_clear {l : Launch} (hlt : l.stackTraces = false) {D : gx_D} {h : HX} {a0 : Nat} {hz : HX} (hf : f_J17_clear D h a0 = some hz) : gx_Met l yJ17_clear cJ17_clear 1 none 2 47 D [(va_rf (some a0))] h none hz :=
  gx_ofG gz_77 (by simp only [gx_lsr, gx_lsi, gx_lsj, gx_ls0]; decide) (le_J17_clear hf) (fun p e R s m args below meth c C hx => by
    simp only [gx_lar, gx_lai, gx_laj, gx_la0, Nat.reduceAdd]
    exact w_J17_clear_b hlt C hx hf)
def f_J25_init (D : gx_D) (h : HX) (a0 : Nat) (p1 : Option Nat) : Option HX :=
  (hx_pr h a0 [4] 3 p1).bind fun h1 =>
  (hx_pi h1 a0 [4] 1 (-1 : Int32)).bind fun h2 =>
  (hx_gr h2 a0 [4] 3).bind fun r3 =>
  r3.bind fun a4 =>
  (hx_gi h2 a4 [0] 0).bind fun x5 =>
  (hx_pi h2 a0 [4] 2 x5).bind fun h6 =>
  some h6
theorem w_J25_init_b {l : Launch} (hlt : l.stackTraces = false) {p : Program} {e : Env} {R : Room} {s : State} {m : MethodId} {args : Array Value} {below : List Frame} {meth : Method} {c : Code} {D : gx_D} {h0 : HX} {hz : HX} (C : gx_Ctx p R s m args meth c "java/util/ArrayList$Itr" cJ25_init 2 none 1 24 D h0 hz) (hx : meth.name = "<init>") {a0 : Nat} {p1 : Option Nat} (hf : f_J25_init D h0 a0 p1 = some hz) : gx_G p l e R s m args below meth c D h0 hz 2 (gx_MQ below args s D h0 hz none) 0 [(0, (va_rf (some a0))), (1, (va_rf p1))] [] h0 := by
  unfold f_J25_init at hf
  refine gx_aload_n C dJ25_init_0 0 rfl ?_
  refine gx_aload_n C dJ25_init_1 1 rfl ?_
  replace hf := gx_bs hf
  obtain ⟨h1, g11, hf⟩ := hf
  refine gx_putvF C hx g11 gz_271 gz_272 (gx_narrow_r rfl _).1 (gx_narrow_r rfl _).2 q1733 dJ25_init_2 ?_
  refine gx_aload_n C dJ25_init_5 0 rfl ?_
  refine gx_objInit (st := []) C q1729 q188 q189 (by decide) (by decide) dJ25_init_6 ?_
  refine gx_aload_n C dJ25_init_9 0 rfl ?_
  refine gx_iconst (v := -1) C dJ25_init_10 rfl ?_
  replace hf := gx_bs hf
  obtain ⟨h2, g10, hf⟩ := hf
  refine gx_putv C g10 gz_273 gz_1 rfl rfl q1731 dJ25_init_11 ?_
  refine gx_aload_n C dJ25_init_14 0 rfl ?_
  refine gx_aload_n C dJ25_init_15 0 rfl ?_
  replace hf := gx_bs hf
  obtain ⟨r3, g9, hf⟩ := hf
  refine gx_gr C g9 gz_271 q1733 dJ25_init_16 ?_
  replace hf := gx_bs hf
  obtain ⟨a4, rfl, hf⟩ := hf
  replace hf := gx_bs hf
  obtain ⟨x5, g8, hf⟩ := hf
  refine gx_giS C g8 gz_16 q549 q548 dJ25_init_19 ?_
  replace hf := gx_bs hf
  obtain ⟨h6, g7, hf⟩ := hf
  refine gx_putv C g7 gz_274 gz_1 rfl rfl q1732 dJ25_init_22 ?_
  obtain rfl := Option.some.inj hf
  exact gx_vret C dJ25_init_25
theorem le_J25_init {D : gx_D} {hz : HX} {h : HX} {a0 : Nat} {p1 : Option Nat} (hf : f_J25_init D h a0 p1 = some hz) : gx_le h hz := by
  unfold f_J25_init at hf
  replace hf := gx_bs hf
  obtain ⟨h1, g11, hf⟩ := hf
  refine (hx_le_pv g11).tr ?_
  replace hf := gx_bs hf
  obtain ⟨h2, g10, hf⟩ := hf
  refine (hx_le_pv g10).tr ?_
  replace hf := gx_bs hf
  obtain ⟨r3, g9, hf⟩ := hf
  replace hf := gx_bs hf
  obtain ⟨a4, rfl, hf⟩ := hf
  replace hf := gx_bs hf
  obtain ⟨x5, g8, hf⟩ := hf
  replace hf := gx_bs hf
  obtain ⟨h6, g7, hf⟩ := hf
  refine (hx_le_pv g7).tr ?_
  obtain rfl := Option.some.inj hf
  exact gx_le.rf
theorem w_J25_init {l : Launch} (hlt : l.stackTraces = false) {D : gx_D} {h : HX} {a0 : Nat} {p1 : Option Nat} {hz : HX} (hf : f_J25_init D h a0 p1 = some hz) : gx_Met l yJ25_init cJ25_init 2 none 1 24 D [(va_rf (some a0)), (va_rf p1)] h none hz :=
  gx_ofG gz_275 (by simp only [gx_lsr, gx_lsi, gx_lsj, gx_ls0]; decide) (le_J25_init hf) (fun p e R s m args below meth c C hx => by
    simp only [gx_lar, gx_lai, gx_laj, gx_la0, Nat.reduceAdd]
    exact w_J25_init_b hlt C hx hf)
def f_J2_iterator (D : gx_D) (h : HX) (a0 : Nat) : Option ((Option Nat) × HX) :=
  (hx_is h a0 [0]).bind fun _ =>
  gx_b2 (hx_new h 4 4 gx_df4) fun a1 h2 =>
  (f_J25_init D h2 a1 (some a0)).bind fun h4 =>
  some ((some a1), h4)
theorem is_J2_iterator {D : gx_D} {h : HX} {a0 : Nat} {z} (hf : f_J2_iterator D h a0 = some z) : gx_isC h a0 [0] := by
  unfold f_J2_iterator at hf
  obtain ⟨_, g, -⟩ := gx_bs hf
  exact hx_is_of g
theorem w_J2_iterator_b {l : Launch} (hlt : l.stackTraces = false) {p : Program} {e : Env} {R : Room} {s : State} {m : MethodId} {args : Array Value} {below : List Frame} {meth : Method} {c : Code} {D : gx_D} {h0 : HX} {r : Option Nat} {hz : HX} (C : gx_Ctx p R s m args meth c "java/util/ArrayList" cJ2_iterator 1 (some (.object "java/util/Iterator")) 2 45 D h0 hz) (hx : meth.name = "iterator") {a0 : Nat} (hf : f_J2_iterator D h0 a0 = some (r, hz)) : gx_G p l e R s m args below meth c D h0 hz 1 (gx_MQ below args s D h0 hz (some (va_rf r))) 0 [(0, (va_rf (some a0)))] [] h0 := by
  unfold f_J2_iterator at hf
  replace hf := gx_bs hf
  obtain ⟨_, -, hf⟩ := hf
  replace hf := gx_b2s hf
  obtain ⟨a1, h2, g5, hf⟩ := hf
  refine gx_newN C g5 gz_278 tyJ25_ok gx_df4_ok q1724 q1725 q169 dJ2_iterator_0 rfl ?_
  refine gx_dup C dJ2_iterator_3 rfl ?_
  refine gx_aload_n C dJ2_iterator_4 0 rfl ?_
  replace hf := gx_bs hf
  obtain ⟨h4, g3, hf⟩ := hf
  refine gx_callI (st := [(va_rf (some a1))]) C (w_J25_init hlt g3) q1726 q1727 q169 q1728 rfl gz_277 (by decide) rfl rfl (gx_catn (Nat.le_of_ble_eq_true rfl)) dJ2_iterator_5 ?_
  obtain ⟨rfl, rfl⟩ := Prod.mk.inj (Option.some.inj hf)
  exact gx_aret C rfl rfl dJ2_iterator_8
theorem le_J2_iterator {D : gx_D} {r : Option Nat} {hz : HX} {h : HX} {a0 : Nat} (hf : f_J2_iterator D h a0 = some (r, hz)) : gx_le h hz := by
  unfold f_J2_iterator at hf
  replace hf := gx_bs hf
  obtain ⟨_, -, hf⟩ := hf
  replace hf := gx_b2s hf
  obtain ⟨a1, h2, g5, hf⟩ := hf
  refine (hx_le_new g5).tr ?_
  replace hf := gx_bs hf
  obtain ⟨h4, g3, hf⟩ := hf
  refine (le_J25_init g3).tr ?_
  obtain ⟨rfl, rfl⟩ := Prod.mk.inj (Option.some.inj hf)
  exact gx_le.rf
theorem w_J2_iterator {l : Launch} (hlt : l.stackTraces = false) {D : gx_D} {h : HX} {a0 : Nat} {r : Option Nat} {hz : HX} (hf : f_J2_iterator D h a0 = some (r, hz)) : gx_Met l yJ2_iterator cJ2_iterator 1 (some (.object "java/util/Iterator")) 2 45 D [(va_rf (some a0))] h (some (va_rf r)) hz :=
  gx_ofG gz_15 (by simp only [gx_lsr, gx_lsi, gx_lsj, gx_ls0]; decide) (le_J2_iterator hf) (fun p e R s m args below meth c C hx => by
    simp only [gx_lar, gx_lai, gx_laj, gx_la0, Nat.reduceAdd]
    exact w_J2_iterator_b hlt C hx hf)
def f_J25_hasNext (D : gx_D) (h : HX) (a0 : Nat) : Option Bool :=
  (hx_is h a0 [4]).bind fun _ =>
  (hx_gi h a0 [4] 0).bind fun x1 =>
  (hx_gr h a0 [4] 3).bind fun r2 =>
  r2.bind fun a3 =>
  (hx_gi h a3 [0] 2).bind fun x4 =>
  if x1 = x4 then
  some false
  else
  some true
theorem is_J25_hasNext {D : gx_D} {h : HX} {a0 : Nat} {z} (hf : f_J25_hasNext D h a0 = some z) : gx_isC h a0 [4] := by
  unfold f_J25_hasNext at hf
  obtain ⟨_, g, -⟩ := gx_bs hf
  exact hx_is_of g
theorem w_J25_hasNext_b {l : Launch} (hlt : l.stackTraces = false) {p : Program} {e : Env} {R : Room} {s : State} {m : MethodId} {args : Array Value} {below : List Frame} {meth : Method} {c : Code} {D : gx_D} {h0 : HX} {r : Bool} (C : gx_Ctx p R s m args meth c "java/util/ArrayList$Itr" cJ25_hasNext 1 (some .boolean) 1 24 D h0 h0) (hx : meth.name = "hasNext") {a0 : Nat} (hf : f_J25_hasNext D h0 a0 = some r) : gx_G p l e R s m args below meth c D h0 h0 1 (gx_MQ below args s D h0 h0 (some (.int (b2i r)))) 0 [(0, (va_rf (some a0)))] [] h0 := by
  unfold f_J25_hasNext at hf
  replace hf := gx_bs hf
  obtain ⟨_, -, hf⟩ := hf
  refine gx_aload_n C dJ25_hasNext_0 0 rfl ?_
  replace hf := gx_bs hf
  obtain ⟨x1, g8, hf⟩ := hf
  refine gx_gi C g8 gz_279 q1730 dJ25_hasNext_1 ?_
  refine gx_aload_n C dJ25_hasNext_4 0 rfl ?_
  replace hf := gx_bs hf
  obtain ⟨r2, g7, hf⟩ := hf
  refine gx_gr C g7 gz_271 q1733 dJ25_hasNext_5 ?_
  replace hf := gx_bs hf
  obtain ⟨a3, rfl, hf⟩ := hf
  replace hf := gx_bs hf
  obtain ⟨x4, g6, hf⟩ := hf
  refine gx_giN C g6 gz_14 q545 dJ25_hasNext_8 ?_
  replace hf := gx_ite hf
  rcases hf with ⟨c5, hf⟩ | ⟨c5, hf⟩
  · refine gx_icmp_eq_t (tgt := 18) C dJ25_hasNext_11 rfl c5 ?_
    refine gx_iconst (v := 0) C dJ25_hasNext_18 rfl ?_
    obtain rfl := Option.some.inj hf
    exact gx_zret (b := false) C dJ25_hasNext_19
  · refine gx_icmp_eq_f (tgt := 18) C dJ25_hasNext_11 rfl c5 ?_
    refine gx_iconst (v := 1) C dJ25_hasNext_14 rfl ?_
    refine gx_goto (tgt := 19) C dJ25_hasNext_15 rfl ?_
    obtain rfl := Option.some.inj hf
    exact gx_zret (b := true) C dJ25_hasNext_19
theorem w_J25_hasNext {l : Launch} (hlt : l.stackTraces = false) {D : gx_D} {h : HX} {a0 : Nat} {r : Bool} (hf : f_J25_hasNext D h a0 = some r) : gx_Met l yJ25_hasNext cJ25_hasNext 1 (some .boolean) 1 24 D [(va_rf (some a0))] h (some (.int (b2i r))) h :=
  gx_ofG gz_275 (by simp only [gx_lsr, gx_lsi, gx_lsj, gx_ls0]; decide) gx_le.rf (fun p e R s m args below meth c C hx => by
    simp only [gx_lar, gx_lai, gx_laj, gx_la0, Nat.reduceAdd]
    exact w_J25_hasNext_b hlt C hx hf)
def f_J25_checkForComodification (D : gx_D) (h : HX) (a0 : Nat) : Option Unit :=
  (hx_is h a0 [4]).bind fun _ =>
  (hx_gr h a0 [4] 3).bind fun r1 =>
  r1.bind fun a2 =>
  (hx_gi h a2 [0] 0).bind fun x3 =>
  (hx_gi h a0 [4] 2).bind fun x4 =>
  if x3 = x4 then
  some ()
  else
  none
theorem is_J25_checkForComodification {D : gx_D} {h : HX} {a0 : Nat} {z} (hf : f_J25_checkForComodification D h a0 = some z) : gx_isC h a0 [4] := by
  unfold f_J25_checkForComodification at hf
  obtain ⟨_, g, -⟩ := gx_bs hf
  exact hx_is_of g
theorem w_J25_checkForComodification_b {l : Launch} (hlt : l.stackTraces = false) {p : Program} {e : Env} {R : Room} {s : State} {m : MethodId} {args : Array Value} {below : List Frame} {meth : Method} {c : Code} {D : gx_D} {h0 : HX} {r : Unit} (C : gx_Ctx p R s m args meth c "java/util/ArrayList$Itr" cJ25_checkForComodification 1 none 1 24 D h0 h0) (hx : meth.name = "checkForComodification") {a0 : Nat} (hf : f_J25_checkForComodification D h0 a0 = some r) : gx_G p l e R s m args below meth c D h0 h0 1 (gx_MQ below args s D h0 h0 none) 0 [(0, (va_rf (some a0)))] [] h0 := by
  unfold f_J25_checkForComodification at hf
  replace hf := gx_bs hf
  obtain ⟨_, -, hf⟩ := hf
  refine gx_aload_n C dJ25_checkForComodification_0 0 rfl ?_
  replace hf := gx_bs hf
  obtain ⟨r1, g8, hf⟩ := hf
  refine gx_gr C g8 gz_271 q1733 dJ25_checkForComodification_1 ?_
  replace hf := gx_bs hf
  obtain ⟨a2, rfl, hf⟩ := hf
  replace hf := gx_bs hf
  obtain ⟨x3, g7, hf⟩ := hf
  refine gx_giS C g7 gz_16 q549 q548 dJ25_checkForComodification_4 ?_
  refine gx_aload_n C dJ25_checkForComodification_7 0 rfl ?_
  replace hf := gx_bs hf
  obtain ⟨x4, g6, hf⟩ := hf
  refine gx_gi C g6 gz_274 q1732 dJ25_checkForComodification_8 ?_
  replace hf := gx_ite hf
  rcases hf with ⟨c5, hf⟩ | ⟨c5, hf⟩
  · refine gx_icmp_eq_t (tgt := 22) C dJ25_checkForComodification_11 rfl c5 ?_
    obtain rfl := Option.some.inj hf
    exact gx_vret C dJ25_checkForComodification_22
  · refine gx_icmp_eq_f (tgt := 22) C dJ25_checkForComodification_11 rfl c5 ?_
    cases hf
theorem w_J25_checkForComodification {l : Launch} (hlt : l.stackTraces = false) {D : gx_D} {h : HX} {a0 : Nat} {r : Unit} (hf : f_J25_checkForComodification D h a0 = some r) : gx_Met l yJ25_checkForComodification cJ25_checkForComodification 1 none 1 24 D [(va_rf (some a0))] h none h :=
  gx_ofG gz_275 (by simp only [gx_lsr, gx_lsi, gx_lsj, gx_ls0]; decide) gx_le.rf (fun p e R s m args below meth c C hx => by
    simp only [gx_lar, gx_lai, gx_laj, gx_la0, Nat.reduceAdd]
    exact w_J25_checkForComodification_b hlt C hx hf)
def f_J25_next (D : gx_D) (h : HX) (a0 : Nat) : Option ((Option Nat) × HX) :=
  (hx_is h a0 [4]).bind fun _ =>
  (f_J25_checkForComodification D h a0).bind fun u25 =>
  (hx_gi h a0 [4] 0).bind fun x2 =>
  (hx_gr h a0 [4] 3).bind fun r3 =>
  r3.bind fun a4 =>
  (hx_gi h a4 [0] 2).bind fun x5 =>
  if x2 < x5 then
  (hx_gr h a0 [4] 3).bind fun r7 =>
  r7.bind fun a8 =>
  (hx_gr h a8 [0] 1).bind fun r9 =>
  r9.bind fun a10 =>
  (hx_len h a10).bind fun x11 =>
  if x2 < x11 then
  (hx_pi h a0 [4] 0 (x2 + (1 : Int32))).bind fun h13 =>
  (hx_pi h13 a0 [4] 1 x2).bind fun h14 =>
  (hx_ar h14 a10 x2).bind fun r15 =>
  some (r15, h14)
  else
  none
  else
  none
theorem is_J25_next {D : gx_D} {h : HX} {a0 : Nat} {z} (hf : f_J25_next D h a0 = some z) : gx_isC h a0 [4] := by
  unfold f_J25_next at hf
  obtain ⟨_, g, -⟩ := gx_bs hf
  exact hx_is_of g
theorem w_J25_next_b {l : Launch} (hlt : l.stackTraces = false) {p : Program} {e : Env} {R : Room} {s : State} {m : MethodId} {args : Array Value} {below : List Frame} {meth : Method} {c : Code} {D : gx_D} {h0 : HX} {r : Option Nat} {hz : HX} (C : gx_Ctx p R s m args meth c "java/util/ArrayList$Itr" cJ25_next 3 (some (.object "java/lang/Object")) 2 44 D h0 hz) (hx : meth.name = "next") {a0 : Nat} (hf : f_J25_next D h0 a0 = some (r, hz)) : gx_G p l e R s m args below meth c D h0 hz 3 (gx_MQ below args s D h0 hz (some (va_rf r))) 0 [(0, (va_rf (some a0)))] [] h0 := by
  unfold f_J25_next at hf
  replace hf := gx_bs hf
  obtain ⟨_, -, hf⟩ := hf
  refine gx_aload_n C dJ25_next_0 0 rfl ?_
  replace hf := gx_bs hf
  obtain ⟨u25, g1, hf⟩ := hf
  refine gx_callV (st := []) C (w_J25_checkForComodification hlt g1) (is_J25_checkForComodification g1) gz_278 rfl (lw_V q1762 q1763 q1764 q169 q1765) gz_280 (by decide) rfl rfl (gx_catn (Nat.le_of_ble_eq_true rfl)) dJ25_next_1 ?_
  refine gx_aload_n C dJ25_next_4 0 rfl ?_
  replace hf := gx_bs hf
  obtain ⟨x2, g24, hf⟩ := hf
  refine gx_gi C g24 gz_279 q1730 dJ25_next_5 ?_
  refine gx_istn C dJ25_next_8 1 rfl (by decide) [0]  rfl (gx_okr rfl gx_catv_r gx_ok0) ?_
  refine gx_iload_n C dJ25_next_9 0 rfl ?_
  refine gx_aload_n C dJ25_next_10 1 rfl ?_
  replace hf := gx_bs hf
  obtain ⟨r3, g23, hf⟩ := hf
  refine gx_gr C g23 gz_271 q1733 dJ25_next_11 ?_
  replace hf := gx_bs hf
  obtain ⟨a4, rfl, hf⟩ := hf
  replace hf := gx_bs hf
  obtain ⟨x5, g22, hf⟩ := hf
  refine gx_giN C g22 gz_14 q545 dJ25_next_14 ?_
  replace hf := gx_ite hf
  rcases hf with ⟨c6, hf⟩ | ⟨c6, hf⟩
  · refine gx_icmp_lt_t (tgt := 28) C dJ25_next_17 rfl c6 ?_
    refine gx_aload_n C dJ25_next_28 1 rfl ?_
    replace hf := gx_bs hf
    obtain ⟨r7, g21, hf⟩ := hf
    refine gx_gr C g21 gz_271 q1733 dJ25_next_29 ?_
    replace hf := gx_bs hf
    obtain ⟨a8, rfl, hf⟩ := hf
    replace hf := gx_bs hf
    obtain ⟨r9, g20, hf⟩ := hf
    refine gx_gr C g20 gz_17 q544 dJ25_next_32 ?_
    refine gx_astn C dJ25_next_35 2 rfl (by decide) [0, 1]  rfl (gx_okr rfl gx_catv_i (gx_okn rfl rfl gx_ok0)) ?_
    refine gx_iload_n C dJ25_next_36 1 rfl ?_
    refine gx_aload_n C dJ25_next_37 0 rfl ?_
    replace hf := gx_bs hf
    obtain ⟨a10, rfl, hf⟩ := hf
    replace hf := gx_bs hf
    obtain ⟨x11, g19, hf⟩ := hf
    refine gx_alen C g19 dJ25_next_38 ?_
    replace hf := gx_ite hf
    rcases hf with ⟨c12, hf⟩ | ⟨c12, hf⟩
    · refine gx_icmp_lt_t (tgt := 50) C dJ25_next_39 rfl c12 ?_
      refine gx_aload_n C dJ25_next_50 2 rfl ?_
      refine gx_iload_n C dJ25_next_51 1 rfl ?_
      refine gx_iconst (v := 1) C dJ25_next_52 rfl ?_
      refine gx_iadd C dJ25_next_53 ?_
      replace hf := gx_bs hf
      obtain ⟨h13, g18, hf⟩ := hf
      refine gx_putv C g18 gz_279 gz_1 rfl rfl q1730 dJ25_next_54 ?_
      refine gx_aload_n C dJ25_next_57 0 rfl ?_
      refine gx_aload_n C dJ25_next_58 2 rfl ?_
      refine gx_iload_n C dJ25_next_59 1 rfl ?_
      refine gx_dup_x1 C dJ25_next_60 rfl rfl ?_
      replace hf := gx_bs hf
      obtain ⟨h14, g17, hf⟩ := hf
      refine gx_putv C g17 gz_273 gz_1 rfl rfl q1731 dJ25_next_61 ?_
      replace hf := gx_bs hf
      obtain ⟨r15, g16, hf⟩ := hf
      refine gx_aald C g16 dJ25_next_64 ?_
      obtain ⟨rfl, rfl⟩ := Prod.mk.inj (Option.some.inj hf)
      exact gx_aret C rfl rfl dJ25_next_65
    · refine gx_icmp_lt_f (tgt := 50) C dJ25_next_39 rfl c12 ?_
      cases hf
  · refine gx_icmp_lt_f (tgt := 28) C dJ25_next_17 rfl c6 ?_
    cases hf
theorem le_J25_next {D : gx_D} {r : Option Nat} {hz : HX} {h : HX} {a0 : Nat} (hf : f_J25_next D h a0 = some (r, hz)) : gx_le h hz := by
  unfold f_J25_next at hf
  replace hf := gx_bs hf
  obtain ⟨_, -, hf⟩ := hf
  replace hf := gx_bs hf
  obtain ⟨u25, g1, hf⟩ := hf
  replace hf := gx_bs hf
  obtain ⟨x2, g24, hf⟩ := hf
  replace hf := gx_bs hf
  obtain ⟨r3, g23, hf⟩ := hf
  replace hf := gx_bs hf
  obtain ⟨a4, rfl, hf⟩ := hf
  replace hf := gx_bs hf
  obtain ⟨x5, g22, hf⟩ := hf
  replace hf := gx_ite hf
  rcases hf with ⟨c6, hf⟩ | ⟨c6, hf⟩
  · replace hf := gx_bs hf
    obtain ⟨r7, g21, hf⟩ := hf
    replace hf := gx_bs hf
    obtain ⟨a8, rfl, hf⟩ := hf
    replace hf := gx_bs hf
    obtain ⟨r9, g20, hf⟩ := hf
    replace hf := gx_bs hf
    obtain ⟨a10, rfl, hf⟩ := hf
    replace hf := gx_bs hf
    obtain ⟨x11, g19, hf⟩ := hf
    replace hf := gx_ite hf
    rcases hf with ⟨c12, hf⟩ | ⟨c12, hf⟩
    · replace hf := gx_bs hf
      obtain ⟨h13, g18, hf⟩ := hf
      refine (hx_le_pv g18).tr ?_
      replace hf := gx_bs hf
      obtain ⟨h14, g17, hf⟩ := hf
      refine (hx_le_pv g17).tr ?_
      replace hf := gx_bs hf
      obtain ⟨r15, g16, hf⟩ := hf
      obtain ⟨rfl, rfl⟩ := Prod.mk.inj (Option.some.inj hf)
      exact gx_le.rf
    · cases hf
  · cases hf
theorem w_J25_next {l : Launch} (hlt : l.stackTraces = false) {D : gx_D} {h : HX} {a0 : Nat} {r : Option Nat} {hz : HX} (hf : f_J25_next D h a0 = some (r, hz)) : gx_Met l yJ25_next cJ25_next 3 (some (.object "java/lang/Object")) 2 44 D [(va_rf (some a0))] h (some (va_rf r)) hz :=
  gx_ofG gz_275 (by simp only [gx_lsr, gx_lsi, gx_lsj, gx_ls0]; decide) (le_J25_next hf) (fun p e R s m args below meth c C hx => by
    simp only [gx_lar, gx_lai, gx_laj, gx_la0, Nat.reduceAdd]
    exact w_J25_next_b hlt C hx hf)
def f_J17_inc (D : gx_D) (h : HX) (p0 : Int32) (p1 : Int32) : Option Int32 :=
  if (p0 + (1 : Int32)) < p1 then
  some ((p0 + (1 : Int32)))
  else
  some ((0 : Int32))
theorem w_J17_inc_b {l : Launch} (hlt : l.stackTraces = false) {p : Program} {e : Env} {R : Room} {s : State} {m : MethodId} {args : Array Value} {below : List Frame} {meth : Method} {c : Code} {D : gx_D} {h0 : HX} {r : Int32} (C : gx_Ctx p R s m args meth c "java/util/ArrayDeque" cJ17_inc 2 (some .int) 1 24 D h0 h0) (hx : meth.name = "inc") {p0 : Int32} {p1 : Int32} (hf : f_J17_inc D h0 p0 p1 = some r) : gx_G p l e R s m args below meth c D h0 h0 2 (gx_MQ below args s D h0 h0 (some (.int r))) 0 [(0, (.int p0)), (1, (.int p1))] [] h0 := by
  unfold f_J17_inc at hf
  refine gx_inc (v := 1) C dJ17_inc_0 0 rfl rfl (by decide) [1] rfl (gx_okn rfl rfl gx_ok0) ?_
  refine gx_iload_n C dJ17_inc_3 0 rfl ?_
  refine gx_iload_n C dJ17_inc_4 1 rfl ?_
  replace hf := gx_ite hf
  rcases hf with ⟨c1, hf⟩ | ⟨c1, hf⟩
  · refine gx_icmp_lt_t (tgt := 10) C dJ17_inc_5 rfl c1 ?_
    refine gx_iload_n C dJ17_inc_10 0 rfl ?_
    obtain rfl := Option.some.inj hf
    exact gx_iret C dJ17_inc_11
  · refine gx_icmp_lt_f (tgt := 10) C dJ17_inc_5 rfl c1 ?_
    refine gx_iconst (v := 0) C dJ17_inc_8 rfl ?_
    refine gx_istn C dJ17_inc_9 0 rfl (by decide) []  rfl gx_ok0 ?_
    refine gx_iload_n C dJ17_inc_10 0 rfl ?_
    obtain rfl := Option.some.inj hf
    exact gx_iret C dJ17_inc_11
theorem w_J17_inc {l : Launch} (hlt : l.stackTraces = false) {D : gx_D} {h : HX} {p0 : Int32} {p1 : Int32} {r : Int32} (hf : f_J17_inc D h p0 p1 = some r) : gx_Met l yJ17_inc cJ17_inc 2 (some .int) 1 24 D [(.int p0), (.int p1)] h (some (.int r)) h :=
  gx_ofG gz_77 (by simp only [gx_lsr, gx_lsi, gx_lsj, gx_ls0]; decide) gx_le.rf (fun p e R s m args below meth c C hx => by
    simp only [gx_lar, gx_lai, gx_laj, gx_la0, Nat.reduceAdd]
    exact w_J17_inc_b hlt C hx hf)
def f_J17_addLast (D : gx_D) (h : HX) (a0 : Nat) (p1 : Option Nat) : Option HX :=
  (hx_is h a0 [3]).bind fun _ =>
  gx_on p1 (
  none) fun a1 =>
  (hx_gr h a0 [3] 0).bind fun r2 =>
  (hx_gi h a0 [3] 2).bind fun x3 =>
  r2.bind fun a4 =>
  (hx_sr h a4 4 [11, 13, 15, 2] x3 (some a1)).bind fun h5 =>
  (hx_gi h5 a0 [3] 1).bind fun x6 =>
  (hx_gi h5 a0 [3] 2).bind fun x7 =>
  (hx_len h5 a4).bind fun x8 =>
  (f_J17_inc D h5 x7 x8).bind fun x10 =>
  (hx_pi h5 a0 [3] 2 x10).bind fun h11 =>
  if x6 = x10 then
  none
  else
  some h11
theorem is_J17_addLast {D : gx_D} {h : HX} {a0 : Nat} {p1 : Option Nat} {z} (hf : f_J17_addLast D h a0 p1 = some z) : gx_isC h a0 [3] := by
  unfold f_J17_addLast at hf
  obtain ⟨_, g, -⟩ := gx_bs hf
  exact hx_is_of g
theorem w_J17_addLast_b {l : Launch} (hlt : l.stackTraces = false) {p : Program} {e : Env} {R : Room} {s : State} {m : MethodId} {args : Array Value} {below : List Frame} {meth : Method} {c : Code} {D : gx_D} {h0 : HX} {hz : HX} (C : gx_Ctx p R s m args meth c "java/util/ArrayDeque" cJ17_addLast 3 none 2 45 D h0 hz) (hx : meth.name = "addLast") {a0 : Nat} {p1 : Option Nat} (hf : f_J17_addLast D h0 a0 p1 = some hz) : gx_G p l e R s m args below meth c D h0 hz 3 (gx_MQ below args s D h0 hz none) 0 [(0, (va_rf (some a0))), (1, (va_rf p1))] [] h0 := by
  unfold f_J17_addLast at hf
  replace hf := gx_bs hf
  obtain ⟨_, -, hf⟩ := hf
  refine gx_aload_n C dJ17_addLast_0 1 rfl ?_
  rcases p1 with _ | a1
  · replace hf := gx_on_n hf
    refine gx_ifnonnull_f C dJ17_addLast_1 ?_
    cases hf
  · replace hf := gx_on_s hf
    refine gx_ifnonnull_t (tgt := 12) C dJ17_addLast_1 rfl ?_
    refine gx_aload_n C dJ17_addLast_12 0 rfl ?_
    replace hf := gx_bs hf
    obtain ⟨r2, g19, hf⟩ := hf
    refine gx_gr C g19 gz_76 q648 dJ17_addLast_13 ?_
    refine gx_astn C dJ17_addLast_16 2 rfl (by decide) [0, 1]  rfl (gx_okn rfl rfl (gx_okr rfl gx_catv_r gx_ok0)) ?_
    refine gx_aload_n C dJ17_addLast_17 0 rfl ?_
    refine gx_aload_n C dJ17_addLast_18 1 rfl ?_
    replace hf := gx_bs hf
    obtain ⟨x3, g18, hf⟩ := hf
    refine gx_gi C g18 gz_262 q650 dJ17_addLast_19 ?_
    refine gx_aload_n C dJ17_addLast_22 2 rfl ?_
    replace hf := gx_bs hf
    obtain ⟨a4, rfl, hf⟩ := hf
    replace hf := gx_bs hf
    obtain ⟨h5, g17, hf⟩ := hf
    refine gx_aast C gz_9 (t := 4) rfl g17 dJ17_addLast_23 ?_
    refine gx_aload_n C dJ17_addLast_24 1 rfl ?_
    replace hf := gx_bs hf
    obtain ⟨x6, g16, hf⟩ := hf
    refine gx_gi C g16 gz_261 q649 dJ17_addLast_25 ?_
    refine gx_aload_n C dJ17_addLast_28 1 rfl ?_
    refine gx_aload_n C dJ17_addLast_29 1 rfl ?_
    replace hf := gx_bs hf
    obtain ⟨x7, g15, hf⟩ := hf
    refine gx_gi C g15 gz_262 q650 dJ17_addLast_30 ?_
    refine gx_aload_n C dJ17_addLast_33 0 rfl ?_
    replace hf := gx_bs hf
    obtain ⟨x8, g14, hf⟩ := hf
    refine gx_alen C g14 dJ17_addLast_34 ?_
    replace hf := gx_bs hf
    obtain ⟨x10, g9, hf⟩ := hf
    refine gx_callS (st := [(va_rf (some a0)), (.int x6)]) C (w_J17_inc hlt g9) (lw_S q1653 q1654 q145 q1655) gz_287 (by decide) rfl rfl (gx_catn (Nat.le_of_ble_eq_true rfl)) dJ17_addLast_35 ?_
    refine gx_dup_x1 C dJ17_addLast_38 rfl rfl ?_
    replace hf := gx_bs hf
    obtain ⟨h11, g13, hf⟩ := hf
    refine gx_putv C g13 gz_262 gz_1 rfl rfl q650 dJ17_addLast_39 ?_
    replace hf := gx_ite hf
    rcases hf with ⟨c12, hf⟩ | ⟨c12, hf⟩
    · refine gx_icmp_ne_f (tgt := 50) C dJ17_addLast_42 rfl c12 ?_
      refine gx_aload_n C dJ17_addLast_45 1 rfl ?_
      refine gx_iconst (v := 1) C dJ17_addLast_46 rfl ?_
      cases hf
    · refine gx_icmp_ne_t (tgt := 50) C dJ17_addLast_42 rfl c12 ?_
      obtain rfl := Option.some.inj hf
      exact gx_vret C dJ17_addLast_50
theorem le_J17_addLast {D : gx_D} {hz : HX} {h : HX} {a0 : Nat} {p1 : Option Nat} (hf : f_J17_addLast D h a0 p1 = some hz) : gx_le h hz := by
  unfold f_J17_addLast at hf
  replace hf := gx_bs hf
  obtain ⟨_, -, hf⟩ := hf
  rcases p1 with _ | a1
  · replace hf := gx_on_n hf
    cases hf
  · replace hf := gx_on_s hf
    replace hf := gx_bs hf
    obtain ⟨r2, g19, hf⟩ := hf
    replace hf := gx_bs hf
    obtain ⟨x3, g18, hf⟩ := hf
    replace hf := gx_bs hf
    obtain ⟨a4, rfl, hf⟩ := hf
    replace hf := gx_bs hf
    obtain ⟨h5, g17, hf⟩ := hf
    refine (hx_le_sr g17).tr ?_
    replace hf := gx_bs hf
    obtain ⟨x6, g16, hf⟩ := hf
    replace hf := gx_bs hf
    obtain ⟨x7, g15, hf⟩ := hf
    replace hf := gx_bs hf
    obtain ⟨x8, g14, hf⟩ := hf
    replace hf := gx_bs hf
    obtain ⟨x10, g9, hf⟩ := hf
    replace hf := gx_bs hf
    obtain ⟨h11, g13, hf⟩ := hf
    refine (hx_le_pv g13).tr ?_
    replace hf := gx_ite hf
    rcases hf with ⟨c12, hf⟩ | ⟨c12, hf⟩
    · cases hf
    · obtain rfl := Option.some.inj hf
      exact gx_le.rf
theorem w_J17_addLast {l : Launch} (hlt : l.stackTraces = false) {D : gx_D} {h : HX} {a0 : Nat} {p1 : Option Nat} {hz : HX} (hf : f_J17_addLast D h a0 p1 = some hz) : gx_Met l yJ17_addLast cJ17_addLast 3 none 2 45 D [(va_rf (some a0)), (va_rf p1)] h none hz :=
  gx_ofG gz_77 (by simp only [gx_lsr, gx_lsi, gx_lsj, gx_ls0]; decide) (le_J17_addLast hf) (fun p e R s m args below meth c C hx => by
    simp only [gx_lar, gx_lai, gx_laj, gx_la0, Nat.reduceAdd]
    exact w_J17_addLast_b hlt C hx hf)
def f_J17_elementAt (D : gx_D) (h : HX) (p0 : Option Nat) (p1 : Int32) : Option (Option Nat) :=
  p0.bind fun a1 =>
  (hx_ar h a1 p1).bind fun r2 =>
  some r2
theorem w_J17_elementAt_b {l : Launch} (hlt : l.stackTraces = false) {p : Program} {e : Env} {R : Room} {s : State} {m : MethodId} {args : Array Value} {below : List Frame} {meth : Method} {c : Code} {D : gx_D} {h0 : HX} {r : Option Nat} (C : gx_Ctx p R s m args meth c "java/util/ArrayDeque" cJ17_elementAt 2 (some (.object "java/lang/Object")) 1 24 D h0 h0) (hx : meth.name = "elementAt") {p0 : Option Nat} {p1 : Int32} (hf : f_J17_elementAt D h0 p0 p1 = some r) : gx_G p l e R s m args below meth c D h0 h0 2 (gx_MQ below args s D h0 h0 (some (va_rf r))) 0 [(0, (va_rf p0)), (1, (.int p1))] [] h0 := by
  unfold f_J17_elementAt at hf
  refine gx_aload_n C dJ17_elementAt_0 0 rfl ?_
  refine gx_iload_n C dJ17_elementAt_1 1 rfl ?_
  replace hf := gx_bs hf
  obtain ⟨a1, rfl, hf⟩ := hf
  replace hf := gx_bs hf
  obtain ⟨r2, g3, hf⟩ := hf
  refine gx_aald C g3 dJ17_elementAt_2 ?_
  obtain rfl := Option.some.inj hf
  exact gx_aret C rfl rfl dJ17_elementAt_3
theorem w_J17_elementAt {l : Launch} (hlt : l.stackTraces = false) {D : gx_D} {h : HX} {p0 : Option Nat} {p1 : Int32} {r : Option Nat} (hf : f_J17_elementAt D h p0 p1 = some r) : gx_Met l yJ17_elementAt cJ17_elementAt 2 (some (.object "java/lang/Object")) 1 24 D [(va_rf p0), (.int p1)] h (some (va_rf r)) h :=
  gx_ofG gz_77 (by simp only [gx_lsr, gx_lsi, gx_lsj, gx_ls0]; decide) gx_le.rf (fun p e R s m args below meth c C hx => by
    simp only [gx_lar, gx_lai, gx_laj, gx_la0, Nat.reduceAdd]
    exact w_J17_elementAt_b hlt C hx hf)
def f_J17_pollFirst (D : gx_D) (h : HX) (a0 : Nat) : Option ((Option Nat) × HX) :=
  (hx_is h a0 [3]).bind fun _ =>
  (hx_gr h a0 [3] 0).bind fun r1 =>
  (hx_gi h a0 [3] 1).bind fun x2 =>
  (f_J17_elementAt D h r1 x2).bind fun r4 =>
  gx_on r4 (
  some (none, h)) fun a5 =>
  r1.bind fun a6 =>
  (hx_sr h a6 4 [11, 13, 15, 2] x2 none).bind fun h7 =>
  (hx_len h7 a6).bind fun x8 =>
  (f_J17_inc D h7 x2 x8).bind fun x10 =>
  (hx_pi h7 a0 [3] 1 x10).bind fun h11 =>
  some ((some a5), h11)
theorem is_J17_pollFirst {D : gx_D} {h : HX} {a0 : Nat} {z} (hf : f_J17_pollFirst D h a0 = some z) : gx_isC h a0 [3] := by
  unfold f_J17_pollFirst at hf
  obtain ⟨_, g, -⟩ := gx_bs hf
  exact hx_is_of g
theorem w_J17_pollFirst_b {l : Launch} (hlt : l.stackTraces = false) {p : Program} {e : Env} {R : Room} {s : State} {m : MethodId} {args : Array Value} {below : List Frame} {meth : Method} {c : Code} {D : gx_D} {h0 : HX} {r : Option Nat} {hz : HX} (C : gx_Ctx p R s m args meth c "java/util/ArrayDeque" cJ17_pollFirst 4 (some (.object "java/lang/Object")) 2 45 D h0 hz) (hx : meth.name = "pollFirst") {a0 : Nat} (hf : f_J17_pollFirst D h0 a0 = some (r, hz)) : gx_G p l e R s m args below meth c D h0 hz 4 (gx_MQ below args s D h0 hz (some (va_rf r))) 0 [(0, (va_rf (some a0)))] [] h0 := by
  unfold f_J17_pollFirst at hf
  replace hf := gx_bs hf
  obtain ⟨_, -, hf⟩ := hf
  refine gx_aload_n C dJ17_pollFirst_0 0 rfl ?_
  replace hf := gx_bs hf
  obtain ⟨r1, g16, hf⟩ := hf
  refine gx_gr C g16 gz_76 q648 dJ17_pollFirst_1 ?_
  refine gx_dup C dJ17_pollFirst_4 (gx_rfcat _) ?_
  refine gx_astn C dJ17_pollFirst_5 1 rfl (by decide) [0]  rfl (gx_okr rfl gx_catv_r gx_ok0) ?_
  refine gx_aload_n C dJ17_pollFirst_6 1 rfl ?_
  replace hf := gx_bs hf
  obtain ⟨x2, g15, hf⟩ := hf
  refine gx_gi C g15 gz_261 q649 dJ17_pollFirst_7 ?_
  refine gx_dup C dJ17_pollFirst_10 rfl ?_
  refine gx_istn C dJ17_pollFirst_11 2 rfl (by decide) [0, 1]  rfl (gx_okr rfl gx_catv_r (gx_okn rfl rfl gx_ok0)) ?_
  replace hf := gx_bs hf
  obtain ⟨r4, g3, hf⟩ := hf
  refine gx_callS (st := []) C (w_J17_elementAt hlt g3) (lw_S q1650 q1651 q145 q1652) gz_288 (by decide) rfl rfl (gx_catn (Nat.le_of_ble_eq_true rfl)) dJ17_pollFirst_12 ?_
  refine gx_astn C dJ17_pollFirst_15 3 rfl (by decide) [0, 1, 2]  rfl (gx_okr rfl gx_catv_i (gx_okn rfl rfl (gx_okn rfl rfl gx_ok0))) ?_
  refine gx_aload_n C dJ17_pollFirst_16 0 rfl ?_
  rcases r4 with _ | a5
  · replace hf := gx_on_n hf
    refine gx_ifnull_t (tgt := 34) C dJ17_pollFirst_17 rfl ?_
    refine gx_aload_n C dJ17_pollFirst_34 0 rfl ?_
    obtain ⟨rfl, rfl⟩ := Prod.mk.inj (Option.some.inj hf)
    exact gx_aret C rfl rfl dJ17_pollFirst_35
  · replace hf := gx_on_s hf
    refine gx_ifnull_f C dJ17_pollFirst_17 ?_
    refine gx_aload_n C dJ17_pollFirst_20 2 rfl ?_
    refine gx_iload_n C dJ17_pollFirst_21 1 rfl ?_
    refine gx_null C dJ17_pollFirst_22 ?_
    replace hf := gx_bs hf
    obtain ⟨a6, rfl, hf⟩ := hf
    replace hf := gx_bs hf
    obtain ⟨h7, g14, hf⟩ := hf
    refine gx_aast C gz_9 (t := 4) rfl g14 dJ17_pollFirst_23 ?_
    refine gx_aload_n C dJ17_pollFirst_24 3 rfl ?_
    refine gx_iload_n C dJ17_pollFirst_25 1 rfl ?_
    refine gx_aload_n C dJ17_pollFirst_26 2 rfl ?_
    replace hf := gx_bs hf
    obtain ⟨x8, g13, hf⟩ := hf
    refine gx_alen C g13 dJ17_pollFirst_27 ?_
    replace hf := gx_bs hf
    obtain ⟨x10, g9, hf⟩ := hf
    refine gx_callS (st := [(va_rf (some a0))]) C (w_J17_inc hlt g9) (lw_S q1653 q1654 q145 q1655) gz_287 (by decide) rfl rfl (gx_catn (Nat.le_of_ble_eq_true rfl)) dJ17_pollFirst_28 ?_
    replace hf := gx_bs hf
    obtain ⟨h11, g12, hf⟩ := hf
    refine gx_putv C g12 gz_261 gz_1 rfl rfl q649 dJ17_pollFirst_31 ?_
    refine gx_aload_n C dJ17_pollFirst_34 0 rfl ?_
    obtain ⟨rfl, rfl⟩ := Prod.mk.inj (Option.some.inj hf)
    exact gx_aret C rfl rfl dJ17_pollFirst_35
theorem le_J17_pollFirst {D : gx_D} {r : Option Nat} {hz : HX} {h : HX} {a0 : Nat} (hf : f_J17_pollFirst D h a0 = some (r, hz)) : gx_le h hz := by
  unfold f_J17_pollFirst at hf
  replace hf := gx_bs hf
  obtain ⟨_, -, hf⟩ := hf
  replace hf := gx_bs hf
  obtain ⟨r1, g16, hf⟩ := hf
  replace hf := gx_bs hf
  obtain ⟨x2, g15, hf⟩ := hf
  replace hf := gx_bs hf
  obtain ⟨r4, g3, hf⟩ := hf
  rcases r4 with _ | a5
  · replace hf := gx_on_n hf
    obtain ⟨rfl, rfl⟩ := Prod.mk.inj (Option.some.inj hf)
    exact gx_le.rf
  · replace hf := gx_on_s hf
    replace hf := gx_bs hf
    obtain ⟨a6, rfl, hf⟩ := hf
    replace hf := gx_bs hf
    obtain ⟨h7, g14, hf⟩ := hf
    refine (hx_le_sr g14).tr ?_
    replace hf := gx_bs hf
    obtain ⟨x8, g13, hf⟩ := hf
    replace hf := gx_bs hf
    obtain ⟨x10, g9, hf⟩ := hf
    replace hf := gx_bs hf
    obtain ⟨h11, g12, hf⟩ := hf
    refine (hx_le_pv g12).tr ?_
    obtain ⟨rfl, rfl⟩ := Prod.mk.inj (Option.some.inj hf)
    exact gx_le.rf
theorem w_J17_pollFirst {l : Launch} (hlt : l.stackTraces = false) {D : gx_D} {h : HX} {a0 : Nat} {r : Option Nat} {hz : HX} (hf : f_J17_pollFirst D h a0 = some (r, hz)) : gx_Met l yJ17_pollFirst cJ17_pollFirst 4 (some (.object "java/lang/Object")) 2 45 D [(va_rf (some a0))] h (some (va_rf r)) hz :=
  gx_ofG gz_77 (by simp only [gx_lsr, gx_lsi, gx_lsj, gx_ls0]; decide) (le_J17_pollFirst hf) (fun p e R s m args below meth c C hx => by
    simp only [gx_lar, gx_lai, gx_laj, gx_la0, Nat.reduceAdd]
    exact w_J17_pollFirst_b hlt C hx hf)
def f_J17_removeFirst (D : gx_D) (h : HX) (a0 : Nat) : Option ((Option Nat) × HX) :=
  (hx_is h a0 [3]).bind fun _ =>
  gx_b2 (f_J17_pollFirst D h a0) fun r2 h3 =>
  gx_on r2 (
  none) fun a4 =>
  some ((some a4), h3)
theorem is_J17_removeFirst {D : gx_D} {h : HX} {a0 : Nat} {z} (hf : f_J17_removeFirst D h a0 = some z) : gx_isC h a0 [3] := by
  unfold f_J17_removeFirst at hf
  obtain ⟨_, g, -⟩ := gx_bs hf
  exact hx_is_of g
theorem w_J17_removeFirst_b {l : Launch} (hlt : l.stackTraces = false) {p : Program} {e : Env} {R : Room} {s : State} {m : MethodId} {args : Array Value} {below : List Frame} {meth : Method} {c : Code} {D : gx_D} {h0 : HX} {r : Option Nat} {hz : HX} (C : gx_Ctx p R s m args meth c "java/util/ArrayDeque" cJ17_removeFirst 2 (some (.object "java/lang/Object")) 3 68 D h0 hz) (hx : meth.name = "removeFirst") {a0 : Nat} (hf : f_J17_removeFirst D h0 a0 = some (r, hz)) : gx_G p l e R s m args below meth c D h0 hz 2 (gx_MQ below args s D h0 hz (some (va_rf r))) 0 [(0, (va_rf (some a0)))] [] h0 := by
  unfold f_J17_removeFirst at hf
  replace hf := gx_bs hf
  obtain ⟨_, -, hf⟩ := hf
  refine gx_aload_n C dJ17_removeFirst_0 0 rfl ?_
  replace hf := gx_b2s hf
  obtain ⟨r2, h3, g1, hf⟩ := hf
  refine gx_callV (st := []) C (w_J17_pollFirst hlt g1) (is_J17_pollFirst g1) gz_115 rfl (lw_V q1646 q1647 q1648 q145 q1649) gz_289 (by decide) rfl rfl (gx_catn (Nat.le_of_ble_eq_true rfl)) dJ17_removeFirst_1 ?_
  refine gx_astn C dJ17_removeFirst_4 1 rfl (by decide) []  rfl gx_ok0 ?_
  refine gx_aload_n C dJ17_removeFirst_5 0 rfl ?_
  rcases r2 with _ | a4
  · replace hf := gx_on_n hf
    refine gx_ifnonnull_f C dJ17_removeFirst_6 ?_
    cases hf
  · replace hf := gx_on_s hf
    refine gx_ifnonnull_t (tgt := 17) C dJ17_removeFirst_6 rfl ?_
    refine gx_aload_n C dJ17_removeFirst_17 0 rfl ?_
    obtain ⟨rfl, rfl⟩ := Prod.mk.inj (Option.some.inj hf)
    exact gx_aret C rfl rfl dJ17_removeFirst_18
theorem le_J17_removeFirst {D : gx_D} {r : Option Nat} {hz : HX} {h : HX} {a0 : Nat} (hf : f_J17_removeFirst D h a0 = some (r, hz)) : gx_le h hz := by
  unfold f_J17_removeFirst at hf
  replace hf := gx_bs hf
  obtain ⟨_, -, hf⟩ := hf
  replace hf := gx_b2s hf
  obtain ⟨r2, h3, g1, hf⟩ := hf
  refine (le_J17_pollFirst g1).tr ?_
  rcases r2 with _ | a4
  · replace hf := gx_on_n hf
    cases hf
  · replace hf := gx_on_s hf
    obtain ⟨rfl, rfl⟩ := Prod.mk.inj (Option.some.inj hf)
    exact gx_le.rf
theorem w_J17_removeFirst {l : Launch} (hlt : l.stackTraces = false) {D : gx_D} {h : HX} {a0 : Nat} {r : Option Nat} {hz : HX} (hf : f_J17_removeFirst D h a0 = some (r, hz)) : gx_Met l yJ17_removeFirst cJ17_removeFirst 2 (some (.object "java/lang/Object")) 3 68 D [(va_rf (some a0))] h (some (va_rf r)) hz :=
  gx_ofG gz_77 (by simp only [gx_lsr, gx_lsi, gx_lsj, gx_ls0]; decide) (le_J17_removeFirst hf) (fun p e R s m args below meth c C hx => by
    simp only [gx_lar, gx_lai, gx_laj, gx_la0, Nat.reduceAdd]
    exact w_J17_removeFirst_b hlt C hx hf)
def f_J17_sub (D : gx_D) (h : HX) (p0 : Int32) (p1 : Int32) (p2 : Int32) : Option Int32 :=
  if 0 ≤ (p0 - p1) then
  some ((p0 - p1))
  else
  some (((p0 - p1) + p2))
theorem w_J17_sub_b {l : Launch} (hlt : l.stackTraces = false) {p : Program} {e : Env} {R : Room} {s : State} {m : MethodId} {args : Array Value} {below : List Frame} {meth : Method} {c : Code} {D : gx_D} {h0 : HX} {r : Int32} (C : gx_Ctx p R s m args meth c "java/util/ArrayDeque" cJ17_sub 3 (some .int) 1 24 D h0 h0) (hx : meth.name = "sub") {p0 : Int32} {p1 : Int32} {p2 : Int32} (hf : f_J17_sub D h0 p0 p1 p2 = some r) : gx_G p l e R s m args below meth c D h0 h0 3 (gx_MQ below args s D h0 h0 (some (.int r))) 0 [(0, (.int p0)), (1, (.int p1)), (2, (.int p2))] [] h0 := by
  unfold f_J17_sub at hf
  refine gx_iload_n C dJ17_sub_0 0 rfl ?_
  refine gx_iload_n C dJ17_sub_1 1 rfl ?_
  refine gx_isub C dJ17_sub_2 ?_
  refine gx_dup C dJ17_sub_3 rfl ?_
  refine gx_istn C dJ17_sub_4 0 rfl (by decide) [2]  rfl (gx_okn rfl rfl gx_ok0) ?_
  replace hf := gx_ite hf
  rcases hf with ⟨c1, hf⟩ | ⟨c1, hf⟩
  · refine gx_if_ge_t (tgt := 12) C dJ17_sub_5 rfl c1 ?_
    refine gx_iload_n C dJ17_sub_12 0 rfl ?_
    obtain rfl := Option.some.inj hf
    exact gx_iret C dJ17_sub_13
  · refine gx_if_ge_f (tgt := 12) C dJ17_sub_5 rfl c1 ?_
    refine gx_iload_n C dJ17_sub_8 0 rfl ?_
    refine gx_iload_n C dJ17_sub_9 1 rfl ?_
    refine gx_iadd C dJ17_sub_10 ?_
    refine gx_istn C dJ17_sub_11 0 rfl (by decide) []  rfl gx_ok0 ?_
    refine gx_iload_n C dJ17_sub_12 0 rfl ?_
    obtain rfl := Option.some.inj hf
    exact gx_iret C dJ17_sub_13
theorem w_J17_sub {l : Launch} (hlt : l.stackTraces = false) {D : gx_D} {h : HX} {p0 : Int32} {p1 : Int32} {p2 : Int32} {r : Int32} (hf : f_J17_sub D h p0 p1 p2 = some r) : gx_Met l yJ17_sub cJ17_sub 3 (some .int) 1 24 D [(.int p0), (.int p1), (.int p2)] h (some (.int r)) h :=
  gx_ofG gz_77 (by simp only [gx_lsr, gx_lsi, gx_lsj, gx_ls0]; decide) gx_le.rf (fun p e R s m args below meth c C hx => by
    simp only [gx_lar, gx_lai, gx_laj, gx_la0, Nat.reduceAdd]
    exact w_J17_sub_b hlt C hx hf)
def f_J17_size (D : gx_D) (h : HX) (a0 : Nat) : Option Int32 :=
  (hx_is h a0 [3]).bind fun _ =>
  (hx_gi h a0 [3] 2).bind fun x1 =>
  (hx_gi h a0 [3] 1).bind fun x2 =>
  (hx_gr h a0 [3] 0).bind fun r3 =>
  r3.bind fun a4 =>
  (hx_len h a4).bind fun x5 =>
  (f_J17_sub D h x1 x2 x5).bind fun x7 =>
  some x7
theorem is_J17_size {D : gx_D} {h : HX} {a0 : Nat} {z} (hf : f_J17_size D h a0 = some z) : gx_isC h a0 [3] := by
  unfold f_J17_size at hf
  obtain ⟨_, g, -⟩ := gx_bs hf
  exact hx_is_of g
theorem w_J17_size_b {l : Launch} (hlt : l.stackTraces = false) {p : Program} {e : Env} {R : Room} {s : State} {m : MethodId} {args : Array Value} {below : List Frame} {meth : Method} {c : Code} {D : gx_D} {h0 : HX} {r : Int32} (C : gx_Ctx p R s m args meth c "java/util/ArrayDeque" cJ17_size 1 (some .int) 2 46 D h0 h0) (hx : meth.name = "size") {a0 : Nat} (hf : f_J17_size D h0 a0 = some r) : gx_G p l e R s m args below meth c D h0 h0 1 (gx_MQ below args s D h0 h0 (some (.int r))) 0 [(0, (va_rf (some a0)))] [] h0 := by
  unfold f_J17_size at hf
  replace hf := gx_bs hf
  obtain ⟨_, -, hf⟩ := hf
  refine gx_aload_n C dJ17_size_0 0 rfl ?_
  replace hf := gx_bs hf
  obtain ⟨x1, g11, hf⟩ := hf
  refine gx_gi C g11 gz_262 q650 dJ17_size_1 ?_
  refine gx_aload_n C dJ17_size_4 0 rfl ?_
  replace hf := gx_bs hf
  obtain ⟨x2, g10, hf⟩ := hf
  refine gx_gi C g10 gz_261 q649 dJ17_size_5 ?_
  refine gx_aload_n C dJ17_size_8 0 rfl ?_
  replace hf := gx_bs hf
  obtain ⟨r3, g9, hf⟩ := hf
  refine gx_gr C g9 gz_76 q648 dJ17_size_9 ?_
  replace hf := gx_bs hf
  obtain ⟨a4, rfl, hf⟩ := hf
  replace hf := gx_bs hf
  obtain ⟨x5, g8, hf⟩ := hf
  refine gx_alen C g8 dJ17_size_12 ?_
  replace hf := gx_bs hf
  obtain ⟨x7, g6, hf⟩ := hf
  refine gx_callS (st := []) C (w_J17_sub hlt g6) (lw_S q1639 q1640 q145 q1641) gz_290 (by decide) rfl rfl (gx_catn (Nat.le_of_ble_eq_true rfl)) dJ17_size_13 ?_
  obtain rfl := Option.some.inj hf
  exact gx_iret C dJ17_size_16
theorem w_J17_size {l : Launch} (hlt : l.stackTraces = false) {D : gx_D} {h : HX} {a0 : Nat} {r : Int32} (hf : f_J17_size D h a0 = some r) : gx_Met l yJ17_size cJ17_size 1 (some .int) 2 46 D [(va_rf (some a0))] h (some (.int r)) h :=
  gx_ofG gz_77 (by simp only [gx_lsr, gx_lsi, gx_lsj, gx_ls0]; decide) gx_le.rf (fun p e R s m args below meth c C hx => by
    simp only [gx_lar, gx_lai, gx_laj, gx_la0, Nat.reduceAdd]
    exact w_J17_size_b hlt C hx hf)
def f_J16_getChars_b104 (D : gx_D) (h : HX) (v2 : Option Nat) (v5 : Int32) (v6 : Bool) : Option ((Int32) × HX) :=
  if v6 = true then
  v2.bind fun a9 =>
  (hx_sb h a9 (v5 + (-1 : Int32)) (45 : Int32)).bind fun h10 =>
  some ((v5 + (-1 : Int32)), h10)
  else
  some (v5, h)
theorem w_J16_getChars_b104 {l : Launch} (hlt : l.stackTraces = false) {p : Program} {e : Env} {R : Room} {s : State} {m : MethodId} {args : Array Value} {below : List Frame} {meth : Method} {c : Code} {D : gx_D} {h0 : HX} {r : Int32} {hz : HX} (C : gx_Ctx p R s m args meth c "java/lang/Integer" cJ16_getChars 7 (some .int) 1 24 D h0 hz) (hx : meth.name = "getChars")  {h : HX} {v2 : Option Nat} {v5 : Int32} {v6 : Bool} (hf : f_J16_getChars_b104 D h v2 v5 v6 = some (r, hz)) : gx_G p l e R s m args below meth c D h0 hz 7 (gx_MQ below args s D h0 hz (some (.int r))) 104 [(2, (va_rf v2)), (5, (.int v5)), (6, (.int (b2i v6)))] [] h := by
  unfold f_J16_getChars_b104 at hf
  refine gx_iload C dJ16_getChars_104 2 rfl ?_
  replace hf := gx_ite hf
  rcases hf with ⟨c8, hf⟩ | ⟨c8, hf⟩
  · refine gx_ifz_eq_f (tgt := 118) C dJ16_getChars_106 rfl c8 ?_
    refine gx_aload_n C dJ16_getChars_109 0 rfl ?_
    refine gx_inc (v := -1) C dJ16_getChars_110 1 rfl rfl (by decide) [] rfl gx_ok0 ?_
    refine gx_iload C dJ16_getChars_113 0 rfl ?_
    refine gx_bipush (v := 45) C dJ16_getChars_115 rfl ?_
    replace hf := gx_bs hf
    obtain ⟨a9, rfl, hf⟩ := hf
    replace hf := gx_bs hf
    obtain ⟨h10, g11, hf⟩ := hf
    refine gx_bast C g11 dJ16_getChars_117 ?_
    refine gx_iload C dJ16_getChars_118 0 rfl ?_
    obtain ⟨rfl, rfl⟩ := Prod.mk.inj (Option.some.inj hf)
    exact gx_iret C dJ16_getChars_120
  · refine gx_ifz_eq_t (tgt := 118) C dJ16_getChars_106 rfl c8 ?_
    refine gx_iload C dJ16_getChars_118 1 rfl ?_
    obtain ⟨rfl, rfl⟩ := Prod.mk.inj (Option.some.inj hf)
    exact gx_iret C dJ16_getChars_120
theorem le_J16_getChars_b104 {D : gx_D} {r : Int32} {hz : HX} {h : HX} {v2 : Option Nat} {v5 : Int32} {v6 : Bool} (hf : f_J16_getChars_b104 D h v2 v5 v6 = some (r, hz)) : gx_le h hz := by
  unfold f_J16_getChars_b104 at hf
  replace hf := gx_ite hf
  rcases hf with ⟨c8, hf⟩ | ⟨c8, hf⟩
  · replace hf := gx_bs hf
    obtain ⟨a9, rfl, hf⟩ := hf
    replace hf := gx_bs hf
    obtain ⟨h10, g11, hf⟩ := hf
    refine (hx_le_sb g11).tr ?_
    obtain ⟨rfl, rfl⟩ := Prod.mk.inj (Option.some.inj hf)
    exact gx_le.rf
  · obtain ⟨rfl, rfl⟩ := Prod.mk.inj (Option.some.inj hf)
    exact gx_le.rf
def f_J16_getChars_b72 (D : gx_D) (h : HX) (v0 : Int32) (v2 : Option Nat) (v5 : Int32) (v6 : Bool) : Option ((Int32) × HX) :=
  (hx_ai h ((D.2.2.1 132)) 1 (-v0)).bind fun x4 =>
  v2.bind fun a5 =>
  (hx_sb h a5 (v5 + (-1 : Int32)) x4).bind fun h6 =>
  if (-9 : Int32) ≤ v0 then
  f_J16_getChars_b104 D h6 (some a5) ((v5 + (-1 : Int32))) v6
  else
  (hx_ai h6 ((D.2.2.1 133)) 1 (-v0)).bind fun x12 =>
  (hx_sb h6 a5 ((v5 + (-1 : Int32)) + (-1 : Int32)) x12).bind fun h13 =>
  f_J16_getChars_b104 D h13 (some a5) (((v5 + (-1 : Int32)) + (-1 : Int32))) v6
theorem w_J16_getChars_b72 {l : Launch} (hlt : l.stackTraces = false) {p : Program} {e : Env} {R : Room} {s : State} {m : MethodId} {args : Array Value} {below : List Frame} {meth : Method} {c : Code} {D : gx_D} {h0 : HX} {r : Int32} {hz : HX} (C : gx_Ctx p R s m args meth c "java/lang/Integer" cJ16_getChars 7 (some .int) 1 24 D h0 hz) (hx : meth.name = "getChars")  {h : HX} {v0 : Int32} {v2 : Option Nat} {v5 : Int32} {v6 : Bool} (hf : f_J16_getChars_b72 D h v0 v2 v5 v6 = some (r, hz)) : gx_G p l e R s m args below meth c D h0 hz 7 (gx_MQ below args s D h0 hz (some (.int r))) 72 [(0, (.int v0)), (2, (va_rf v2)), (5, (.int v5)), (6, (.int (b2i v6)))] [] h := by
  unfold f_J16_getChars_b72 at hf
  refine gx_aload_n C dJ16_getChars_72 1 rfl ?_
  refine gx_inc (v := -1) C dJ16_getChars_73 2 rfl rfl (by decide) [0, 1, 3] rfl (gx_okn rfl rfl (gx_okn rfl rfl (gx_okn rfl rfl gx_ok0))) ?_
  refine gx_iload C dJ16_getChars_76 0 rfl ?_
  refine gx_statk C 16 rfl q436 dJ16_getChars_78 ?_
  refine gx_iload_n C dJ16_getChars_81 1 rfl ?_
  refine gx_ineg C dJ16_getChars_82 ?_
  replace hf := gx_bs hf
  obtain ⟨x4, g17, hf⟩ := hf
  refine gx_bald C g17 dJ16_getChars_83 ?_
  replace hf := gx_bs hf
  obtain ⟨a5, rfl, hf⟩ := hf
  replace hf := gx_bs hf
  obtain ⟨h6, g16, hf⟩ := hf
  refine gx_bast C g16 dJ16_getChars_84 ?_
  refine gx_iload_n C dJ16_getChars_85 1 rfl ?_
  refine gx_bipush (v := -9) C dJ16_getChars_86 rfl ?_
  replace hf := gx_ite hf
  rcases hf with ⟨c7, hf⟩ | ⟨c7, hf⟩
  · refine gx_icmp_ge_t (tgt := 104) C dJ16_getChars_88 rfl c7 ?_
    refine gx_sub [2, 0, 3] rfl ?_
    exact w_J16_getChars_b104 hlt C hx hf
  · refine gx_icmp_ge_f (tgt := 104) C dJ16_getChars_88 rfl c7 ?_
    refine gx_aload_n C dJ16_getChars_91 2 rfl ?_
    refine gx_inc (v := -1) C dJ16_getChars_92 0 rfl rfl (by decide) [1, 2, 3] rfl (gx_okn rfl rfl (gx_okn rfl rfl (gx_okn rfl rfl gx_ok0))) ?_
    refine gx_iload C dJ16_getChars_95 0 rfl ?_
    refine gx_statk C 17 rfl q438 dJ16_getChars_97 ?_
    refine gx_iload_n C dJ16_getChars_100 1 rfl ?_
    refine gx_ineg C dJ16_getChars_101 ?_
    replace hf := gx_bs hf
    obtain ⟨x12, g15, hf⟩ := hf
    refine gx_bald C g15 dJ16_getChars_102 ?_
    replace hf := gx_bs hf
    obtain ⟨h13, g14, hf⟩ := hf
    refine gx_bast C g14 dJ16_getChars_103 ?_
    refine gx_sub [2, 0, 3] rfl ?_
    exact w_J16_getChars_b104 hlt C hx hf
theorem le_J16_getChars_b72 {D : gx_D} {r : Int32} {hz : HX} {h : HX} {v0 : Int32} {v2 : Option Nat} {v5 : Int32} {v6 : Bool} (hf : f_J16_getChars_b72 D h v0 v2 v5 v6 = some (r, hz)) : gx_le h hz := by
  unfold f_J16_getChars_b72 at hf
  replace hf := gx_bs hf
  obtain ⟨x4, g17, hf⟩ := hf
  replace hf := gx_bs hf
  obtain ⟨a5, rfl, hf⟩ := hf
  replace hf := gx_bs hf
  obtain ⟨h6, g16, hf⟩ := hf
  refine (hx_le_sb g16).tr ?_
  replace hf := gx_ite hf
  rcases hf with ⟨c7, hf⟩ | ⟨c7, hf⟩
  · exact le_J16_getChars_b104 hf
  · replace hf := gx_bs hf
    obtain ⟨x12, g15, hf⟩ := hf
    replace hf := gx_bs hf
    obtain ⟨h13, g14, hf⟩ := hf
    refine (hx_le_sb g14).tr ?_
    exact le_J16_getChars_b104 hf
def f_J16_getChars_b22 (D : gx_D) : Nat → HX → Int32 → Option Nat → Int32 → Bool → Option ((Int32) × HX)
  | 0, _, _, _, _, _ => none
  | n + 1, h, v0, v2, v5, v6 =>
  if (-100 : Int32) < v0 then
  f_J16_getChars_b72 D h v0 v2 v5 v6
  else
  (hx_ai h ((D.2.2.1 132)) 1 (((v0 / (100 : Int32)) * (100 : Int32)) - v0)).bind fun x18 =>
  v2.bind fun a19 =>
  (hx_sb h a19 (v5 + (-1 : Int32)) x18).bind fun h20 =>
  (hx_ai h20 ((D.2.2.1 133)) 1 (((v0 / (100 : Int32)) * (100 : Int32)) - v0)).bind fun x21 =>
  (hx_sb h20 a19 ((v5 + (-1 : Int32)) + (-1 : Int32)) x21).bind fun h22 =>
  (f_J16_getChars_b22 D n) h22 ((v0 / (100 : Int32))) (some a19) (((v5 + (-1 : Int32)) + (-1 : Int32))) v6
theorem w_J16_getChars_b22 {l : Launch} (hlt : l.stackTraces = false) {p : Program} {e : Env} {R : Room} {s : State} {m : MethodId} {args : Array Value} {below : List Frame} {meth : Method} {c : Code} {D : gx_D} {h0 : HX} {r : Int32} {hz : HX} (C : gx_Ctx p R s m args meth c "java/lang/Integer" cJ16_getChars 7 (some .int) 1 24 D h0 hz) (hx : meth.name = "getChars")  : ∀ (n : Nat) ⦃h : HX⦄ ⦃v0 : Int32⦄ ⦃v2 : Option Nat⦄ ⦃v5 : Int32⦄ ⦃v6 : Bool⦄, f_J16_getChars_b22 D n h v0 v2 v5 v6 = some (r, hz) → gx_G p l e R s m args below meth c D h0 hz 7 (gx_MQ below args s D h0 hz (some (.int r))) 22 [(0, (.int v0)), (2, (va_rf v2)), (5, (.int v5)), (6, (.int (b2i v6)))] [] h := by
  intro n
  induction n with
  | zero => intro h v0 v2 v5 v6 hf; unfold f_J16_getChars_b22 at hf; cases hf
  | succ n wk22 =>
    intro h v0 v2 v5 v6 hf
    unfold f_J16_getChars_b22 at hf
    refine gx_iload_n C dJ16_getChars_22 0 rfl ?_
    refine gx_bipush (v := -100) C dJ16_getChars_23 rfl ?_
    replace hf := gx_ite hf
    rcases hf with ⟨c3, hf⟩ | ⟨c3, hf⟩
    · refine gx_icmp_gt_t (tgt := 72) C dJ16_getChars_25 rfl c3 ?_
      refine gx_sub [0, 1, 2, 3] rfl ?_
      exact w_J16_getChars_b72 hlt C hx hf
    · refine gx_icmp_gt_f (tgt := 72) C dJ16_getChars_25 rfl c3 ?_
      refine gx_iload_n C dJ16_getChars_28 0 rfl ?_
      refine gx_bipush (v := 100) C dJ16_getChars_29 rfl ?_
      refine gx_idiv C dJ16_getChars_31 (by decide) ?_
      refine gx_istn C dJ16_getChars_32 3 rfl (by decide) [0, 1, 2, 3]  rfl (gx_okn rfl rfl (gx_okr rfl gx_catv_r (gx_okn rfl rfl (gx_okn rfl rfl gx_ok0)))) ?_
      refine gx_iload_n C dJ16_getChars_33 0 rfl ?_
      refine gx_bipush (v := 100) C dJ16_getChars_34 rfl ?_
      refine gx_imul C dJ16_getChars_36 ?_
      refine gx_iload_n C dJ16_getChars_37 1 rfl ?_
      refine gx_isub C dJ16_getChars_38 ?_
      refine gx_ist C dJ16_getChars_39 (by decide) [0, 2, 3, 4]  rfl (gx_okr rfl gx_catv_i (gx_okn rfl rfl (gx_okn rfl rfl (gx_okn rfl rfl gx_ok0)))) ?_
      refine gx_iload_n C dJ16_getChars_41 1 rfl ?_
      refine gx_istn C dJ16_getChars_42 0 rfl (by decide) [0, 2, 3, 4]  rfl (gx_okn rfl rfl (gx_okn rfl rfl (gx_okn rfl rfl (gx_okn rfl rfl gx_ok0)))) ?_
      refine gx_aload_n C dJ16_getChars_43 2 rfl ?_
      refine gx_inc (v := -1) C dJ16_getChars_44 3 rfl rfl (by decide) [0, 1, 2, 4] rfl (gx_okn rfl rfl (gx_okr rfl gx_catv_i (gx_okn rfl rfl (gx_okn rfl rfl gx_ok0)))) ?_
      refine gx_iload C dJ16_getChars_47 0 rfl ?_
      refine gx_statk C 16 rfl q436 dJ16_getChars_49 ?_
      refine gx_iload C dJ16_getChars_52 2 rfl ?_
      replace hf := gx_bs hf
      obtain ⟨x18, g26, hf⟩ := hf
      refine gx_bald C g26 dJ16_getChars_54 ?_
      replace hf := gx_bs hf
      obtain ⟨a19, rfl, hf⟩ := hf
      replace hf := gx_bs hf
      obtain ⟨h20, g25, hf⟩ := hf
      refine gx_bast C g25 dJ16_getChars_55 ?_
      refine gx_aload_n C dJ16_getChars_56 3 rfl ?_
      refine gx_inc (v := -1) C dJ16_getChars_57 0 rfl rfl (by decide) [1, 2, 3, 4] rfl (gx_okn rfl rfl (gx_okr rfl gx_catv_i (gx_okn rfl rfl (gx_okn rfl rfl gx_ok0)))) ?_
      refine gx_iload C dJ16_getChars_60 0 rfl ?_
      refine gx_statk C 17 rfl q438 dJ16_getChars_62 ?_
      refine gx_iload C dJ16_getChars_65 2 rfl ?_
      replace hf := gx_bs hf
      obtain ⟨x21, g24, hf⟩ := hf
      refine gx_bald C g24 dJ16_getChars_67 ?_
      replace hf := gx_bs hf
      obtain ⟨h22, g23, hf⟩ := hf
      refine gx_bast C g23 dJ16_getChars_68 ?_
      refine gx_goto (tgt := 22) C dJ16_getChars_69 rfl ?_
      refine gx_sub [1, 3, 0, 4] rfl ?_
      exact wk22 hf
theorem le_J16_getChars_b22 {D : gx_D} {r : Int32} {hz : HX} : ∀ (n : Nat) ⦃h : HX⦄ ⦃v0 : Int32⦄ ⦃v2 : Option Nat⦄ ⦃v5 : Int32⦄ ⦃v6 : Bool⦄, f_J16_getChars_b22 D n h v0 v2 v5 v6 = some (r, hz) → gx_le h hz := by
  intro n
  induction n with
  | zero => intro h v0 v2 v5 v6 hf; unfold f_J16_getChars_b22 at hf; cases hf
  | succ n lek22 =>
    intro h v0 v2 v5 v6 hf
    unfold f_J16_getChars_b22 at hf
    replace hf := gx_ite hf
    rcases hf with ⟨c3, hf⟩ | ⟨c3, hf⟩
    · exact le_J16_getChars_b72 hf
    · replace hf := gx_bs hf
      obtain ⟨x18, g26, hf⟩ := hf
      replace hf := gx_bs hf
      obtain ⟨a19, rfl, hf⟩ := hf
      replace hf := gx_bs hf
      obtain ⟨h20, g25, hf⟩ := hf
      refine (hx_le_sb g25).tr ?_
      replace hf := gx_bs hf
      obtain ⟨x21, g24, hf⟩ := hf
      replace hf := gx_bs hf
      obtain ⟨h22, g23, hf⟩ := hf
      refine (hx_le_sb g23).tr ?_
      exact lek22 hf
def f_J16_getChars_b12 (D : gx_D) (h : HX) (v0 : Int32) (v2 : Option Nat) (v5 : Int32) (s0 : Bool) : Option ((Int32) × HX) :=
  if s0 = true then
  f_J16_getChars_b22 D gx_fuel h v0 v2 v5 s0
  else
  f_J16_getChars_b22 D gx_fuel h ((-v0)) v2 v5 s0
theorem w_J16_getChars_b12 {l : Launch} (hlt : l.stackTraces = false) {p : Program} {e : Env} {R : Room} {s : State} {m : MethodId} {args : Array Value} {below : List Frame} {meth : Method} {c : Code} {D : gx_D} {h0 : HX} {r : Int32} {hz : HX} (C : gx_Ctx p R s m args meth c "java/lang/Integer" cJ16_getChars 7 (some .int) 1 24 D h0 hz) (hx : meth.name = "getChars")  {h : HX} {v0 : Int32} {v2 : Option Nat} {v5 : Int32} {s0 : Bool} (hf : f_J16_getChars_b12 D h v0 v2 v5 s0 = some (r, hz)) : gx_G p l e R s m args below meth c D h0 hz 7 (gx_MQ below args s D h0 hz (some (.int r))) 12 [(0, (.int v0)), (2, (va_rf v2)), (5, (.int v5))] [(.int (b2i s0))] h := by
  unfold f_J16_getChars_b12 at hf
  refine gx_ist C dJ16_getChars_12 (by decide) [0, 1, 2]  rfl (gx_okn rfl rfl (gx_okn rfl rfl (gx_okr rfl gx_catv_i gx_ok0))) ?_
  refine gx_iload C dJ16_getChars_14 0 rfl ?_
  replace hf := gx_ite hf
  rcases hf with ⟨c2, hf⟩ | ⟨c2, hf⟩
  · refine gx_ifz_ne_t (tgt := 22) C dJ16_getChars_16 rfl c2 ?_
    refine gx_sub [1, 2, 3, 0] rfl ?_
    exact w_J16_getChars_b22 hlt C hx gx_fuel hf
  · refine gx_ifz_ne_f (tgt := 22) C dJ16_getChars_16 rfl c2 ?_
    refine gx_iload_n C dJ16_getChars_19 1 rfl ?_
    refine gx_ineg C dJ16_getChars_20 ?_
    refine gx_istn C dJ16_getChars_21 0 rfl (by decide) [0, 2, 3]  rfl (gx_okn rfl rfl (gx_okn rfl rfl (gx_okn rfl rfl gx_ok0))) ?_
    refine gx_sub [0, 2, 3, 1] rfl ?_
    exact w_J16_getChars_b22 hlt C hx gx_fuel hf
theorem le_J16_getChars_b12 {D : gx_D} {r : Int32} {hz : HX} {h : HX} {v0 : Int32} {v2 : Option Nat} {v5 : Int32} {s0 : Bool} (hf : f_J16_getChars_b12 D h v0 v2 v5 s0 = some (r, hz)) : gx_le h hz := by
  unfold f_J16_getChars_b12 at hf
  replace hf := gx_ite hf
  rcases hf with ⟨c2, hf⟩ | ⟨c2, hf⟩
  · exact le_J16_getChars_b22 gx_fuel hf
  · exact le_J16_getChars_b22 gx_fuel hf
def f_J16_getChars (D : gx_D) (h : HX) (p0 : Int32) (p1 : Int32) (p2 : Option Nat) : Option ((Int32) × HX) :=
  if 0 ≤ p0 then
  f_J16_getChars_b12 D h p0 p2 p1 false
  else
  f_J16_getChars_b12 D h p0 p2 p1 true
theorem w_J16_getChars_b {l : Launch} (hlt : l.stackTraces = false) {p : Program} {e : Env} {R : Room} {s : State} {m : MethodId} {args : Array Value} {below : List Frame} {meth : Method} {c : Code} {D : gx_D} {h0 : HX} {r : Int32} {hz : HX} (C : gx_Ctx p R s m args meth c "java/lang/Integer" cJ16_getChars 7 (some .int) 1 24 D h0 hz) (hx : meth.name = "getChars") {p0 : Int32} {p1 : Int32} {p2 : Option Nat} (hf : f_J16_getChars D h0 p0 p1 p2 = some (r, hz)) : gx_G p l e R s m args below meth c D h0 hz 7 (gx_MQ below args s D h0 hz (some (.int r))) 0 [(0, (.int p0)), (1, (.int p1)), (2, (va_rf p2))] [] h0 := by
  unfold f_J16_getChars at hf
  refine gx_iload_n C dJ16_getChars_0 1 rfl ?_
  refine gx_ist C dJ16_getChars_1 (by decide) [0, 2]  rfl (gx_okn rfl rfl (gx_okn rfl rfl gx_ok0)) ?_
  refine gx_iload_n C dJ16_getChars_3 1 rfl ?_
  replace hf := gx_ite hf
  rcases hf with ⟨c1, hf⟩ | ⟨c1, hf⟩
  · refine gx_if_ge_t (tgt := 11) C dJ16_getChars_4 rfl c1 ?_
    refine gx_iconst (v := 0) C dJ16_getChars_11 rfl ?_
    refine gx_sub [1, 2, 0] rfl ?_
    exact w_J16_getChars_b12 hlt C hx hf
  · refine gx_if_ge_f (tgt := 11) C dJ16_getChars_4 rfl c1 ?_
    refine gx_iconst (v := 1) C dJ16_getChars_7 rfl ?_
    refine gx_goto (tgt := 12) C dJ16_getChars_8 rfl ?_
    refine gx_sub [1, 2, 0] rfl ?_
    exact w_J16_getChars_b12 hlt C hx hf
theorem le_J16_getChars {D : gx_D} {r : Int32} {hz : HX} {h : HX} {p0 : Int32} {p1 : Int32} {p2 : Option Nat} (hf : f_J16_getChars D h p0 p1 p2 = some (r, hz)) : gx_le h hz := by
  unfold f_J16_getChars at hf
  replace hf := gx_ite hf
  rcases hf with ⟨c1, hf⟩ | ⟨c1, hf⟩
  · exact le_J16_getChars_b12 hf
  · exact le_J16_getChars_b12 hf
theorem w_J16_getChars {l : Launch} (hlt : l.stackTraces = false) {D : gx_D} {h : HX} {p0 : Int32} {p1 : Int32} {p2 : Option Nat} {r : Int32} {hz : HX} (hf : f_J16_getChars D h p0 p1 p2 = some (r, hz)) : gx_Met l yJ16_getChars cJ16_getChars 7 (some .int) 1 24 D [(.int p0), (.int p1), (va_rf p2)] h (some (.int r)) hz :=
  gx_ofG gz_174 (by simp only [gx_lsr, gx_lsi, gx_lsj, gx_ls0]; decide) (le_J16_getChars hf) (fun p e R s m args below meth c C hx => by
    simp only [gx_lar, gx_lai, gx_laj, gx_la0, Nat.reduceAdd]
    exact w_J16_getChars_b hlt C hx hf)
def f_J16_stringSize_b42 (D : gx_D) (h : HX) (v1 : Int32) : Option Int32 :=
  some (((10 : Int32) + v1))
theorem w_J16_stringSize_b42 {l : Launch} (hlt : l.stackTraces = false) {p : Program} {e : Env} {R : Room} {s : State} {m : MethodId} {args : Array Value} {below : List Frame} {meth : Method} {c : Code} {D : gx_D} {h0 : HX} {r : Int32} (C : gx_Ctx p R s m args meth c "java/lang/Integer" cJ16_stringSize 4 (some .int) 1 24 D h0 h0) (hx : meth.name = "stringSize")  {v1 : Int32} (hf : f_J16_stringSize_b42 D h0 v1 = some r) : gx_G p l e R s m args below meth c D h0 h0 4 (gx_MQ below args s D h0 h0 (some (.int r))) 42 [(1, (.int v1))] [] h0 := by
  unfold f_J16_stringSize_b42 at hf
  refine gx_bipush (v := 10) C dJ16_stringSize_42 rfl ?_
  refine gx_iload_n C dJ16_stringSize_44 0 rfl ?_
  refine gx_iadd C dJ16_stringSize_45 ?_
  obtain rfl := Option.some.inj hf
  exact gx_iret C dJ16_stringSize_46
def f_J16_stringSize_b27 (D : gx_D) (h : HX) (v1 : Int32) (v3 : Int32) : Option Int32 :=
  some ((v3 + v1))
theorem w_J16_stringSize_b27 {l : Launch} (hlt : l.stackTraces = false) {p : Program} {e : Env} {R : Room} {s : State} {m : MethodId} {args : Array Value} {below : List Frame} {meth : Method} {c : Code} {D : gx_D} {h0 : HX} {r : Int32} (C : gx_Ctx p R s m args meth c "java/lang/Integer" cJ16_stringSize 4 (some .int) 1 24 D h0 h0) (hx : meth.name = "stringSize")  {v1 : Int32} {v3 : Int32} (hf : f_J16_stringSize_b27 D h0 v1 v3 = some r) : gx_G p l e R s m args below meth c D h0 h0 4 (gx_MQ below args s D h0 h0 (some (.int r))) 27 [(1, (.int v1)), (3, (.int v3))] [] h0 := by
  unfold f_J16_stringSize_b27 at hf
  refine gx_iload_n C dJ16_stringSize_27 1 rfl ?_
  refine gx_iload_n C dJ16_stringSize_28 0 rfl ?_
  refine gx_iadd C dJ16_stringSize_29 ?_
  obtain rfl := Option.some.inj hf
  exact gx_iret C dJ16_stringSize_30
def f_J16_stringSize_b16 (D : gx_D) : Nat → HX → Int32 → Int32 → Int32 → Int32 → Option Int32
  | 0, _, _, _, _, _ => none
  | n + 1, h, v0, v1, v2, v3 =>
  if (10 : Int32) ≤ v3 then
  f_J16_stringSize_b42 D h v1
  else
  if v0 ≤ v2 then
  (f_J16_stringSize_b16 D n) h v0 v1 (((10 : Int32) * v2)) ((v3 + (1 : Int32)))
  else
  f_J16_stringSize_b27 D h v1 v3
theorem w_J16_stringSize_b16 {l : Launch} (hlt : l.stackTraces = false) {p : Program} {e : Env} {R : Room} {s : State} {m : MethodId} {args : Array Value} {below : List Frame} {meth : Method} {c : Code} {D : gx_D} {h0 : HX} {r : Int32} (C : gx_Ctx p R s m args meth c "java/lang/Integer" cJ16_stringSize 4 (some .int) 1 24 D h0 h0) (hx : meth.name = "stringSize")  : ∀ (n : Nat) ⦃v0 : Int32⦄ ⦃v1 : Int32⦄ ⦃v2 : Int32⦄ ⦃v3 : Int32⦄, f_J16_stringSize_b16 D n h0 v0 v1 v2 v3 = some r → gx_G p l e R s m args below meth c D h0 h0 4 (gx_MQ below args s D h0 h0 (some (.int r))) 16 [(0, (.int v0)), (1, (.int v1)), (2, (.int v2)), (3, (.int v3))] [] h0 := by
  intro n
  induction n with
  | zero => intro v0 v1 v2 v3 hf; unfold f_J16_stringSize_b16 at hf; cases hf
  | succ n wk16 =>
    intro v0 v1 v2 v3 hf
    unfold f_J16_stringSize_b16 at hf
    refine gx_iload_n C dJ16_stringSize_16 3 rfl ?_
    refine gx_bipush (v := 10) C dJ16_stringSize_17 rfl ?_
    replace hf := gx_ite hf
    rcases hf with ⟨c2, hf⟩ | ⟨c2, hf⟩
    · refine gx_icmp_ge_t (tgt := 42) C dJ16_stringSize_19 rfl c2 ?_
      refine gx_sub [1] rfl ?_
      exact w_J16_stringSize_b42 hlt C hx hf
    · refine gx_icmp_ge_f (tgt := 42) C dJ16_stringSize_19 rfl c2 ?_
      refine gx_iload_n C dJ16_stringSize_22 0 rfl ?_
      refine gx_iload_n C dJ16_stringSize_23 2 rfl ?_
      replace hf := gx_ite hf
      rcases hf with ⟨c3, hf⟩ | ⟨c3, hf⟩
      · refine gx_icmp_le_t (tgt := 31) C dJ16_stringSize_24 rfl c3 ?_
        refine gx_bipush (v := 10) C dJ16_stringSize_31 rfl ?_
        refine gx_iload_n C dJ16_stringSize_33 2 rfl ?_
        refine gx_imul C dJ16_stringSize_34 ?_
        refine gx_istn C dJ16_stringSize_35 2 rfl (by decide) [0, 1, 3]  rfl (gx_okn rfl rfl (gx_okr rfl gx_catv_i (gx_okn rfl rfl gx_ok0))) ?_
        refine gx_inc (v := 1) C dJ16_stringSize_36 3 rfl rfl (by decide) [0, 1, 2] rfl (gx_okr rfl gx_catv_i (gx_okn rfl rfl (gx_okn rfl rfl gx_ok0))) ?_
        refine gx_goto (tgt := 16) C dJ16_stringSize_39 rfl ?_
        refine gx_sub [2, 3, 1, 0] rfl ?_
        exact wk16 hf
      · refine gx_icmp_le_f (tgt := 31) C dJ16_stringSize_24 rfl c3 ?_
        refine gx_sub [1, 3] rfl ?_
        exact w_J16_stringSize_b27 hlt C hx hf
def f_J16_stringSize_b11 (D : gx_D) (h : HX) (v0 : Int32) (v1 : Int32) : Option Int32 :=
  f_J16_stringSize_b16 D gx_fuel h v0 v1 ((-10 : Int32)) ((1 : Int32))
theorem w_J16_stringSize_b11 {l : Launch} (hlt : l.stackTraces = false) {p : Program} {e : Env} {R : Room} {s : State} {m : MethodId} {args : Array Value} {below : List Frame} {meth : Method} {c : Code} {D : gx_D} {h0 : HX} {r : Int32} (C : gx_Ctx p R s m args meth c "java/lang/Integer" cJ16_stringSize 4 (some .int) 1 24 D h0 h0) (hx : meth.name = "stringSize")  {v0 : Int32} {v1 : Int32} (hf : f_J16_stringSize_b11 D h0 v0 v1 = some r) : gx_G p l e R s m args below meth c D h0 h0 4 (gx_MQ below args s D h0 h0 (some (.int r))) 11 [(0, (.int v0)), (1, (.int v1))] [] h0 := by
  unfold f_J16_stringSize_b11 at hf
  refine gx_bipush (v := -10) C dJ16_stringSize_11 rfl ?_
  refine gx_istn C dJ16_stringSize_13 2 rfl (by decide) [0, 1]  rfl (gx_okn rfl rfl (gx_okr rfl gx_catv_i gx_ok0)) ?_
  refine gx_iconst (v := 1) C dJ16_stringSize_14 rfl ?_
  refine gx_istn C dJ16_stringSize_15 3 rfl (by decide) [0, 1, 2]  rfl (gx_okr rfl gx_catv_i (gx_okn rfl rfl (gx_okn rfl rfl gx_ok0))) ?_
  refine gx_sub [2, 3, 1, 0] rfl ?_
  exact w_J16_stringSize_b16 hlt C hx gx_fuel hf
def f_J16_stringSize (D : gx_D) (h : HX) (p0 : Int32) : Option Int32 :=
  if p0 < 0 then
  f_J16_stringSize_b11 D h p0 ((1 : Int32))
  else
  f_J16_stringSize_b11 D h ((-p0)) ((0 : Int32))
theorem w_J16_stringSize_b {l : Launch} (hlt : l.stackTraces = false) {p : Program} {e : Env} {R : Room} {s : State} {m : MethodId} {args : Array Value} {below : List Frame} {meth : Method} {c : Code} {D : gx_D} {h0 : HX} {r : Int32} (C : gx_Ctx p R s m args meth c "java/lang/Integer" cJ16_stringSize 4 (some .int) 1 24 D h0 h0) (hx : meth.name = "stringSize") {p0 : Int32} (hf : f_J16_stringSize D h0 p0 = some r) : gx_G p l e R s m args below meth c D h0 h0 4 (gx_MQ below args s D h0 h0 (some (.int r))) 0 [(0, (.int p0))] [] h0 := by
  unfold f_J16_stringSize at hf
  refine gx_iconst (v := 1) C dJ16_stringSize_0 rfl ?_
  refine gx_istn C dJ16_stringSize_1 1 rfl (by decide) [0]  rfl (gx_okr rfl gx_catv_i gx_ok0) ?_
  refine gx_iload_n C dJ16_stringSize_2 1 rfl ?_
  replace hf := gx_ite hf
  rcases hf with ⟨c1, hf⟩ | ⟨c1, hf⟩
  · refine gx_if_lt_t (tgt := 11) C dJ16_stringSize_3 rfl c1 ?_
    refine gx_sub [1, 0] rfl ?_
    exact w_J16_stringSize_b11 hlt C hx hf
  · refine gx_if_lt_f (tgt := 11) C dJ16_stringSize_3 rfl c1 ?_
    refine gx_iconst (v := 0) C dJ16_stringSize_6 rfl ?_
    refine gx_istn C dJ16_stringSize_7 1 rfl (by decide) [1]  rfl (gx_okr rfl gx_catv_i gx_ok0) ?_
    refine gx_iload_n C dJ16_stringSize_8 1 rfl ?_
    refine gx_ineg C dJ16_stringSize_9 ?_
    refine gx_istn C dJ16_stringSize_10 0 rfl (by decide) [0]  rfl (gx_okn rfl rfl gx_ok0) ?_
    refine gx_sub [0, 1] rfl ?_
    exact w_J16_stringSize_b11 hlt C hx hf
theorem w_J16_stringSize {l : Launch} (hlt : l.stackTraces = false) {D : gx_D} {h : HX} {p0 : Int32} {r : Int32} (hf : f_J16_stringSize D h p0 = some r) : gx_Met l yJ16_stringSize cJ16_stringSize 4 (some .int) 1 24 D [(.int p0)] h (some (.int r)) h :=
  gx_ofG gz_174 (by simp only [gx_lsr, gx_lsi, gx_lsj, gx_ls0]; decide) gx_le.rf (fun p e R s m args below meth c C hx => by
    simp only [gx_lar, gx_lai, gx_laj, gx_la0, Nat.reduceAdd]
    exact w_J16_stringSize_b hlt C hx hf)
def f_J7_append_2 (D : gx_D) (h : HX) (a0 : Nat) (p1 : Int32) : Option ((Option Nat) × HX) :=
  (hx_is h a0 [1]).bind fun _ =>
  (hx_gi h a0 [1] 3).bind fun x1 =>
  (f_J16_stringSize D h p1).bind fun x3 =>
  (f_J7_ensureCapacityInternal D h a0 (x1 + x3)).bind fun h5 =>
  (f_J7_isLatin1 D h5 a0).bind fun b7 =>
  if b7 = true then
  (hx_gr h5 a0 [1] 0).bind fun r9 =>
  gx_b2 (f_J16_getChars D h5 p1 (x1 + x3) r9) fun x11 h12 =>
  (hx_pi h12 a0 [1] 3 (x1 + x3)).bind fun h13 =>
  some ((some a0), h13)
  else
  (hx_gr h5 a0 [1] 0).bind fun r16 =>
  none
theorem is_J7_append_2 {D : gx_D} {h : HX} {a0 : Nat} {p1 : Int32} {z} (hf : f_J7_append_2 D h a0 p1 = some z) : gx_isC h a0 [1] := by
  unfold f_J7_append_2 at hf
  obtain ⟨_, g, -⟩ := gx_bs hf
  exact hx_is_of g
theorem w_J7_append_2_b {l : Launch} (hlt : l.stackTraces = false) {p : Program} {e : Env} {R : Room} {s : State} {m : MethodId} {args : Array Value} {below : List Frame} {meth : Method} {c : Code} {D : gx_D} {h0 : HX} {r : Option Nat} {hz : HX} (C : gx_Ctx p R s m args meth c "java/lang/AbstractStringBuilder" cJ7_append_2 4 (some (.object "java/lang/AbstractStringBuilder")) 5 115 D h0 hz) (hx : meth.name = "append") {a0 : Nat} {p1 : Int32} (hf : f_J7_append_2 D h0 a0 p1 = some (r, hz)) : gx_G p l e R s m args below meth c D h0 hz 4 (gx_MQ below args s D h0 hz (some (va_rf r))) 0 [(0, (va_rf (some a0))), (1, (.int p1))] [] h0 := by
  unfold f_J7_append_2 at hf
  replace hf := gx_bs hf
  obtain ⟨_, -, hf⟩ := hf
  refine gx_aload_n C dJ7_append_2_0 0 rfl ?_
  replace hf := gx_bs hf
  obtain ⟨x1, g18, hf⟩ := hf
  refine gx_gi C g18 gz_140 q293 dJ7_append_2_1 ?_
  refine gx_istn C dJ7_append_2_4 2 rfl (by decide) [0, 1]  rfl (gx_okn rfl rfl (gx_okr rfl gx_catv_i gx_ok0)) ?_
  refine gx_iload_n C dJ7_append_2_5 0 rfl ?_
  refine gx_iload_n C dJ7_append_2_6 2 rfl ?_
  replace hf := gx_bs hf
  obtain ⟨x3, g2, hf⟩ := hf
  refine gx_callS (st := [(.int x1)]) C (w_J16_stringSize hlt g2) (lw_S q430 q431 q143 q432) gz_439 (by decide) rfl rfl (gx_catn (Nat.le_of_ble_eq_true rfl)) dJ7_append_2_7 ?_
  refine gx_iadd C dJ7_append_2_10 ?_
  refine gx_istn C dJ7_append_2_11 3 rfl (by decide) [0, 1, 2]  rfl (gx_okr rfl gx_catv_i (gx_okn rfl rfl (gx_okn rfl rfl gx_ok0))) ?_
  refine gx_aload_n C dJ7_append_2_12 2 rfl ?_
  refine gx_iload_n C dJ7_append_2_13 0 rfl ?_
  replace hf := gx_bs hf
  obtain ⟨h5, g4, hf⟩ := hf
  refine gx_callU (st := []) C (w_J7_ensureCapacityInternal hlt g4) (is_J7_ensureCapacityInternal g4) q316 q3264 (va_Decl.of (C.hts _ q318) (C.hts _ q319)) ⟨by decide, by decide⟩ (gx_cis1 gz_113 (gx_priv C 7 rfl) gx_cis0) q318 q132 q319 gz_141 (by decide) rfl rfl (gx_catn (Nat.le_of_ble_eq_true rfl)) dJ7_append_2_14 ?_
  refine gx_aload_n C dJ7_append_2_17 2 rfl ?_
  replace hf := gx_bs hf
  obtain ⟨b7, g6, hf⟩ := hf
  refine gx_callU (st := []) C (w_J7_isLatin1 hlt g6) (is_J7_isLatin1 g6) q349 q351 (va_Decl.of (C.hts _ q350) (C.hts _ q353)) ⟨by decide, by decide⟩ (gx_cis1 gz_113 (C.hts _ q352) gx_cis0) q350 q132 q353 gz_142 (by decide) rfl rfl (gx_catn (Nat.le_of_ble_eq_true rfl)) dJ7_append_2_18 ?_
  replace hf := gx_ite hf
  rcases hf with ⟨c8, hf⟩ | ⟨c8, hf⟩
  · refine gx_ifz_eq_f (tgt := 37) C dJ7_append_2_21 rfl c8 ?_
    refine gx_iload_n C dJ7_append_2_24 3 rfl ?_
    refine gx_iload_n C dJ7_append_2_25 0 rfl ?_
    refine gx_aload_n C dJ7_append_2_26 2 rfl ?_
    replace hf := gx_bs hf
    obtain ⟨r9, g15, hf⟩ := hf
    refine gx_gr C g15 gz_69 q289 dJ7_append_2_27 ?_
    replace hf := gx_b2s hf
    obtain ⟨x11, h12, g10, hf⟩ := hf
    refine gx_callS (st := []) C (w_J16_getChars hlt g10) (lw_S q433 q434 q143 q435) gz_438 (by decide) rfl rfl (gx_catn (Nat.le_of_ble_eq_true rfl)) dJ7_append_2_30 ?_
    refine gx_pop C dJ7_append_2_33 rfl ?_
    refine gx_goto (tgt := 48) C dJ7_append_2_34 rfl ?_
    refine gx_aload_n C dJ7_append_2_48 2 rfl ?_
    refine gx_iload_n C dJ7_append_2_49 0 rfl ?_
    replace hf := gx_bs hf
    obtain ⟨h13, g14, hf⟩ := hf
    refine gx_putv C g14 gz_140 gz_1 rfl rfl q293 dJ7_append_2_50 ?_
    refine gx_aload_n C dJ7_append_2_53 2 rfl ?_
    obtain ⟨rfl, rfl⟩ := Prod.mk.inj (Option.some.inj hf)
    exact gx_aret C rfl rfl dJ7_append_2_54
  · refine gx_ifz_eq_t (tgt := 37) C dJ7_append_2_21 rfl c8 ?_
    refine gx_iload_n C dJ7_append_2_37 3 rfl ?_
    refine gx_iload_n C dJ7_append_2_38 1 rfl ?_
    refine gx_iload_n C dJ7_append_2_39 0 rfl ?_
    refine gx_aload_n C dJ7_append_2_40 2 rfl ?_
    replace hf := gx_bs hf
    obtain ⟨r16, g17, hf⟩ := hf
    refine gx_gr C g17 gz_69 q289 dJ7_append_2_41 ?_
    cases hf
theorem le_J7_append_2 {D : gx_D} {r : Option Nat} {hz : HX} {h : HX} {a0 : Nat} {p1 : Int32} (hf : f_J7_append_2 D h a0 p1 = some (r, hz)) : gx_le h hz := by
  unfold f_J7_append_2 at hf
  replace hf := gx_bs hf
  obtain ⟨_, -, hf⟩ := hf
  replace hf := gx_bs hf
  obtain ⟨x1, g18, hf⟩ := hf
  replace hf := gx_bs hf
  obtain ⟨x3, g2, hf⟩ := hf
  replace hf := gx_bs hf
  obtain ⟨h5, g4, hf⟩ := hf
  refine (le_J7_ensureCapacityInternal g4).tr ?_
  replace hf := gx_bs hf
  obtain ⟨b7, g6, hf⟩ := hf
  replace hf := gx_ite hf
  rcases hf with ⟨c8, hf⟩ | ⟨c8, hf⟩
  · replace hf := gx_bs hf
    obtain ⟨r9, g15, hf⟩ := hf
    replace hf := gx_b2s hf
    obtain ⟨x11, h12, g10, hf⟩ := hf
    refine (le_J16_getChars g10).tr ?_
    replace hf := gx_bs hf
    obtain ⟨h13, g14, hf⟩ := hf
    refine (hx_le_pv g14).tr ?_
    obtain ⟨rfl, rfl⟩ := Prod.mk.inj (Option.some.inj hf)
    exact gx_le.rf
  · replace hf := gx_bs hf
    obtain ⟨r16, g17, hf⟩ := hf
    cases hf
theorem w_J7_append_2 {l : Launch} (hlt : l.stackTraces = false) {D : gx_D} {h : HX} {a0 : Nat} {p1 : Int32} {r : Option Nat} {hz : HX} (hf : f_J7_append_2 D h a0 p1 = some (r, hz)) : gx_Met l yJ7_append_2 cJ7_append_2 4 (some (.object "java/lang/AbstractStringBuilder")) 5 115 D [(va_rf (some a0)), (.int p1)] h (some (va_rf r)) hz :=
  gx_ofG gz_73 (by simp only [gx_lsr, gx_lsi, gx_lsj, gx_ls0]; decide) (le_J7_append_2 hf) (fun p e R s m args below meth c C hx => by
    simp only [gx_lar, gx_lai, gx_laj, gx_la0, Nat.reduceAdd]
    exact w_J7_append_2_b hlt C hx hf)
def f_J8_append_2 (D : gx_D) (h : HX) (a0 : Nat) (p1 : Int32) : Option ((Option Nat) × HX) :=
  (hx_is h a0 [1]).bind fun _ =>
  gx_b2 (f_J7_append_2 D h a0 p1) fun r2 h3 =>
  some ((some a0), h3)
theorem is_J8_append_2 {D : gx_D} {h : HX} {a0 : Nat} {p1 : Int32} {z} (hf : f_J8_append_2 D h a0 p1 = some z) : gx_isC h a0 [1] := by
  unfold f_J8_append_2 at hf
  obtain ⟨_, g, -⟩ := gx_bs hf
  exact hx_is_of g
theorem w_J8_append_2_b {l : Launch} (hlt : l.stackTraces = false) {p : Program} {e : Env} {R : Room} {s : State} {m : MethodId} {args : Array Value} {below : List Frame} {meth : Method} {c : Code} {D : gx_D} {h0 : HX} {r : Option Nat} {hz : HX} (C : gx_Ctx p R s m args meth c "java/lang/StringBuilder" cJ8_append_2 2 (some (.object "java/lang/StringBuilder")) 6 138 D h0 hz) (hx : meth.name = "append") {a0 : Nat} {p1 : Int32} (hf : f_J8_append_2 D h0 a0 p1 = some (r, hz)) : gx_G p l e R s m args below meth c D h0 hz 2 (gx_MQ below args s D h0 hz (some (va_rf r))) 0 [(0, (va_rf (some a0))), (1, (.int p1))] [] h0 := by
  unfold f_J8_append_2 at hf
  replace hf := gx_bs hf
  obtain ⟨_, -, hf⟩ := hf
  refine gx_aload_n C dJ8_append_2_0 0 rfl ?_
  refine gx_iload_n C dJ8_append_2_1 1 rfl ?_
  replace hf := gx_b2s hf
  obtain ⟨r2, h3, g1, hf⟩ := hf
  refine gx_callSU (st := []) C (w_J7_append_2 hlt g1) (is_J7_append_2 g1) q427 q3269 q302 q428 q132 q429 (by decide) gz_440 (by decide) rfl rfl (gx_catn (Nat.le_of_ble_eq_true rfl)) dJ8_append_2_2 ?_
  refine gx_pop C dJ8_append_2_5 (gx_rfcat _) ?_
  refine gx_aload_n C dJ8_append_2_6 0 rfl ?_
  obtain ⟨rfl, rfl⟩ := Prod.mk.inj (Option.some.inj hf)
  exact gx_aret C rfl rfl dJ8_append_2_7
theorem le_J8_append_2 {D : gx_D} {r : Option Nat} {hz : HX} {h : HX} {a0 : Nat} {p1 : Int32} (hf : f_J8_append_2 D h a0 p1 = some (r, hz)) : gx_le h hz := by
  unfold f_J8_append_2 at hf
  replace hf := gx_bs hf
  obtain ⟨_, -, hf⟩ := hf
  replace hf := gx_b2s hf
  obtain ⟨r2, h3, g1, hf⟩ := hf
  refine (le_J7_append_2 g1).tr ?_
  obtain ⟨rfl, rfl⟩ := Prod.mk.inj (Option.some.inj hf)
  exact gx_le.rf
theorem w_J8_append_2 {l : Launch} (hlt : l.stackTraces = false) {D : gx_D} {h : HX} {a0 : Nat} {p1 : Int32} {r : Option Nat} {hz : HX} (hf : f_J8_append_2 D h a0 p1 = some (r, hz)) : gx_Met l yJ8_append_2 cJ8_append_2 2 (some (.object "java/lang/StringBuilder")) 6 138 D [(va_rf (some a0)), (.int p1)] h (some (va_rf r)) hz :=
  gx_ofG gz_75 (by simp only [gx_lsr, gx_lsi, gx_lsj, gx_ls0]; decide) (le_J8_append_2 hf) (fun p e R s m args below meth c C hx => by
    simp only [gx_lar, gx_lai, gx_laj, gx_la0, Nat.reduceAdd]
    exact w_J8_append_2_b hlt C hx hf)
def f_J7_inflateIfNeededFor (D : gx_D) (h : HX) (a0 : Nat) (p1 : Option Nat) : Option Unit :=
  (hx_is h a0 [1]).bind fun _ =>
  (hx_gi h a0 [1] 1).bind fun x1 =>
  p1.bind fun a2 =>
  (f_J9_coder D h a2).bind fun x4 =>
  if x1 = x4 then
  some ()
  else
  none
theorem is_J7_inflateIfNeededFor {D : gx_D} {h : HX} {a0 : Nat} {p1 : Option Nat} {z} (hf : f_J7_inflateIfNeededFor D h a0 p1 = some z) : gx_isC h a0 [1] := by
  unfold f_J7_inflateIfNeededFor at hf
  obtain ⟨_, g, -⟩ := gx_bs hf
  exact hx_is_of g
theorem w_J7_inflateIfNeededFor_b {l : Launch} (hlt : l.stackTraces = false) {p : Program} {e : Env} {R : Room} {s : State} {m : MethodId} {args : Array Value} {below : List Frame} {meth : Method} {c : Code} {D : gx_D} {h0 : HX} {r : Unit} (C : gx_Ctx p R s m args meth c "java/lang/AbstractStringBuilder" cJ7_inflateIfNeededFor 2 none 2 44 D h0 h0) (hx : meth.name = "inflateIfNeededFor") {a0 : Nat} {p1 : Option Nat} (hf : f_J7_inflateIfNeededFor D h0 a0 p1 = some r) : gx_G p l e R s m args below meth c D h0 h0 2 (gx_MQ below args s D h0 h0 none) 0 [(0, (va_rf (some a0))), (1, (va_rf p1))] [] h0 := by
  unfold f_J7_inflateIfNeededFor at hf
  replace hf := gx_bs hf
  obtain ⟨_, -, hf⟩ := hf
  refine gx_stati C 20 rfl q280 dJ7_inflateIfNeededFor_0 ?_
  refine gx_if_eq_f (tgt := 21) C dJ7_inflateIfNeededFor_3 rfl (by decide) ?_
  refine gx_aload_n C dJ7_inflateIfNeededFor_6 0 rfl ?_
  replace hf := gx_bs hf
  obtain ⟨x1, g6, hf⟩ := hf
  refine gx_gi C g6 gz_71 q290 dJ7_inflateIfNeededFor_7 ?_
  refine gx_aload_n C dJ7_inflateIfNeededFor_10 1 rfl ?_
  replace hf := gx_bs hf
  obtain ⟨a2, rfl, hf⟩ := hf
  replace hf := gx_bs hf
  obtain ⟨x4, g3, hf⟩ := hf
  refine gx_callV (st := [(.int x1)]) C (w_J9_coder hlt g3) (is_J9_coder g3) gz_10 rfl (lw_V q397 q385 q386 q134 q387) gz_170 (by decide) rfl rfl (gx_catn (Nat.le_of_ble_eq_true rfl)) dJ7_inflateIfNeededFor_11 ?_
  replace hf := gx_ite hf
  rcases hf with ⟨c5, hf⟩ | ⟨c5, hf⟩
  · refine gx_icmp_eq_t (tgt := 21) C dJ7_inflateIfNeededFor_14 rfl c5 ?_
    obtain rfl := Option.some.inj hf
    exact gx_vret C dJ7_inflateIfNeededFor_21
  · refine gx_icmp_eq_f (tgt := 21) C dJ7_inflateIfNeededFor_14 rfl c5 ?_
    refine gx_aload_n C dJ7_inflateIfNeededFor_17 0 rfl ?_
    cases hf
theorem w_J7_inflateIfNeededFor {l : Launch} (hlt : l.stackTraces = false) {D : gx_D} {h : HX} {a0 : Nat} {p1 : Option Nat} {r : Unit} (hf : f_J7_inflateIfNeededFor D h a0 p1 = some r) : gx_Met l yJ7_inflateIfNeededFor cJ7_inflateIfNeededFor 2 none 2 44 D [(va_rf (some a0)), (va_rf p1)] h none h :=
  gx_ofG gz_73 (by simp only [gx_lsr, gx_lsi, gx_lsj, gx_ls0]; decide) gx_le.rf (fun p e R s m args below meth c C hx => by
    simp only [gx_lar, gx_lai, gx_laj, gx_la0, Nat.reduceAdd]
    exact w_J7_inflateIfNeededFor_b hlt C hx hf)
def f_J9_getBytes (D : gx_D) (h : HX) (a0 : Nat) (p1 : Option Nat) (p2 : Int32) (p3 : Int32) : Option HX :=
  (hx_is h a0 [2]).bind fun _ =>
  (f_J9_coder D h a0).bind fun x2 =>
  if x2 = p3 then
  (hx_gr h a0 [2] 0).bind fun r4 =>
  (hx_gr h a0 [2] 0).bind fun r5 =>
  r5.bind fun a6 =>
  (hx_len h a6).bind fun x7 =>
  r4.bind fun a8 =>
  p1.bind fun a9 =>
  (hx_cpy h a8 (0 : Int32) a9 (p2 <<< (p3 &&& 31)) x7).bind fun h10 =>
  some h10
  else
  (hx_gr h a0 [2] 0).bind fun r15 =>
  (hx_gr h a0 [2] 0).bind fun r16 =>
  r16.bind fun a17 =>
  (hx_len h a17).bind fun x18 =>
  none
theorem is_J9_getBytes {D : gx_D} {h : HX} {a0 : Nat} {p1 : Option Nat} {p2 : Int32} {p3 : Int32} {z} (hf : f_J9_getBytes D h a0 p1 p2 p3 = some z) : gx_isC h a0 [2] := by
  unfold f_J9_getBytes at hf
  obtain ⟨_, g, -⟩ := gx_bs hf
  exact hx_is_of g
theorem w_J9_getBytes_b {l : Launch} (hlt : l.stackTraces = false) {p : Program} {e : Env} {R : Room} {s : State} {m : MethodId} {args : Array Value} {below : List Frame} {meth : Method} {c : Code} {D : gx_D} {h0 : HX} {hz : HX} (C : gx_Ctx p R s m args meth c "java/lang/String" cJ9_getBytes 4 none 2 64 D h0 hz) (hx : meth.name = "getBytes") {a0 : Nat} {p1 : Option Nat} {p2 : Int32} {p3 : Int32} (hf : f_J9_getBytes D h0 a0 p1 p2 p3 = some hz) : gx_G p l e R s m args below meth c D h0 hz 4 (gx_MQ below args s D h0 hz none) 0 [(0, (va_rf (some a0))), (1, (va_rf p1)), (2, (.int p2)), (3, (.int p3))] [] h0 := by
  unfold f_J9_getBytes at hf
  replace hf := gx_bs hf
  obtain ⟨_, -, hf⟩ := hf
  refine gx_aload_n C dJ9_getBytes_0 0 rfl ?_
  replace hf := gx_bs hf
  obtain ⟨x2, g1, hf⟩ := hf
  refine gx_callV (st := []) C (w_J9_coder hlt g1) (is_J9_coder g1) gz_10 rfl (lw_V q384 q385 q386 q134 q387) gz_170 (by decide) rfl rfl (gx_catn (Nat.le_of_ble_eq_true rfl)) dJ9_getBytes_1 ?_
  refine gx_iload_n C dJ9_getBytes_4 3 rfl ?_
  replace hf := gx_ite hf
  rcases hf with ⟨c3, hf⟩ | ⟨c3, hf⟩
  · refine gx_icmp_ne_f (tgt := 28) C dJ9_getBytes_5 rfl c3 ?_
    refine gx_aload_n C dJ9_getBytes_8 0 rfl ?_
    replace hf := gx_bs hf
    obtain ⟨r4, g14, hf⟩ := hf
    refine gx_gr C g14 gz_150 q529 dJ9_getBytes_9 ?_
    refine gx_iconst (v := 0) C dJ9_getBytes_12 rfl ?_
    refine gx_aload_n C dJ9_getBytes_13 1 rfl ?_
    refine gx_iload_n C dJ9_getBytes_14 2 rfl ?_
    refine gx_iload_n C dJ9_getBytes_15 3 rfl ?_
    refine gx_ishl C dJ9_getBytes_16 ?_
    refine gx_aload_n C dJ9_getBytes_17 0 rfl ?_
    replace hf := gx_bs hf
    obtain ⟨r5, g13, hf⟩ := hf
    refine gx_gr C g13 gz_150 q529 dJ9_getBytes_18 ?_
    replace hf := gx_bs hf
    obtain ⟨a6, rfl, hf⟩ := hf
    replace hf := gx_bs hf
    obtain ⟨x7, g12, hf⟩ := hf
    refine gx_alen C g12 dJ9_getBytes_21 ?_
    replace hf := gx_bs hf
    obtain ⟨a8, rfl, hf⟩ := hf
    replace hf := gx_bs hf
    obtain ⟨a9, rfl, hf⟩ := hf
    replace hf := gx_bs hf
    obtain ⟨h10, g11, hf⟩ := hf
    refine gx_copy (st := []) C g11 q421 q348 q347 q139 (by decide) (by decide) dJ9_getBytes_22 ?_
    refine gx_goto (tgt := 43) C dJ9_getBytes_25 rfl ?_
    obtain rfl := Option.some.inj hf
    exact gx_vret C dJ9_getBytes_43
  · refine gx_icmp_ne_t (tgt := 28) C dJ9_getBytes_5 rfl c3 ?_
    refine gx_aload_n C dJ9_getBytes_28 0 rfl ?_
    replace hf := gx_bs hf
    obtain ⟨r15, g21, hf⟩ := hf
    refine gx_gr C g21 gz_150 q529 dJ9_getBytes_29 ?_
    refine gx_iconst (v := 0) C dJ9_getBytes_32 rfl ?_
    refine gx_aload_n C dJ9_getBytes_33 1 rfl ?_
    refine gx_iload_n C dJ9_getBytes_34 2 rfl ?_
    refine gx_aload_n C dJ9_getBytes_35 0 rfl ?_
    replace hf := gx_bs hf
    obtain ⟨r16, g20, hf⟩ := hf
    refine gx_gr C g20 gz_150 q529 dJ9_getBytes_36 ?_
    replace hf := gx_bs hf
    obtain ⟨a17, rfl, hf⟩ := hf
    replace hf := gx_bs hf
    obtain ⟨x18, g19, hf⟩ := hf
    refine gx_alen C g19 dJ9_getBytes_39 ?_
    cases hf
theorem le_J9_getBytes {D : gx_D} {hz : HX} {h : HX} {a0 : Nat} {p1 : Option Nat} {p2 : Int32} {p3 : Int32} (hf : f_J9_getBytes D h a0 p1 p2 p3 = some hz) : gx_le h hz := by
  unfold f_J9_getBytes at hf
  replace hf := gx_bs hf
  obtain ⟨_, -, hf⟩ := hf
  replace hf := gx_bs hf
  obtain ⟨x2, g1, hf⟩ := hf
  replace hf := gx_ite hf
  rcases hf with ⟨c3, hf⟩ | ⟨c3, hf⟩
  · replace hf := gx_bs hf
    obtain ⟨r4, g14, hf⟩ := hf
    replace hf := gx_bs hf
    obtain ⟨r5, g13, hf⟩ := hf
    replace hf := gx_bs hf
    obtain ⟨a6, rfl, hf⟩ := hf
    replace hf := gx_bs hf
    obtain ⟨x7, g12, hf⟩ := hf
    replace hf := gx_bs hf
    obtain ⟨a8, rfl, hf⟩ := hf
    replace hf := gx_bs hf
    obtain ⟨a9, rfl, hf⟩ := hf
    replace hf := gx_bs hf
    obtain ⟨h10, g11, hf⟩ := hf
    refine (hx_le_cpy g11).tr ?_
    obtain rfl := Option.some.inj hf
    exact gx_le.rf
  · replace hf := gx_bs hf
    obtain ⟨r15, g21, hf⟩ := hf
    replace hf := gx_bs hf
    obtain ⟨r16, g20, hf⟩ := hf
    replace hf := gx_bs hf
    obtain ⟨a17, rfl, hf⟩ := hf
    replace hf := gx_bs hf
    obtain ⟨x18, g19, hf⟩ := hf
    cases hf
theorem w_J9_getBytes {l : Launch} (hlt : l.stackTraces = false) {D : gx_D} {h : HX} {a0 : Nat} {p1 : Option Nat} {p2 : Int32} {p3 : Int32} {hz : HX} (hf : f_J9_getBytes D h a0 p1 p2 p3 = some hz) : gx_Met l yJ9_getBytes cJ9_getBytes 4 none 2 64 D [(va_rf (some a0)), (va_rf p1), (.int p2), (.int p3)] h none hz :=
  gx_ofG gz_153 (by simp only [gx_lsr, gx_lsi, gx_lsj, gx_ls0]; decide) (le_J9_getBytes hf) (fun p e R s m args below meth c C hx => by
    simp only [gx_lar, gx_lai, gx_laj, gx_la0, Nat.reduceAdd]
    exact w_J9_getBytes_b hlt C hx hf)
def f_J7_putStringAt (D : gx_D) (h : HX) (a0 : Nat) (p1 : Int32) (p2 : Option Nat) : Option HX :=
  (hx_is h a0 [1]).bind fun _ =>
  (f_J7_inflateIfNeededFor D h a0 p2).bind fun u9 =>
  (hx_gr h a0 [1] 0).bind fun r2 =>
  (hx_gi h a0 [1] 1).bind fun x3 =>
  p2.bind fun a4 =>
  (f_J9_getBytes D h a4 r2 p1 x3).bind fun h6 =>
  some h6
theorem is_J7_putStringAt {D : gx_D} {h : HX} {a0 : Nat} {p1 : Int32} {p2 : Option Nat} {z} (hf : f_J7_putStringAt D h a0 p1 p2 = some z) : gx_isC h a0 [1] := by
  unfold f_J7_putStringAt at hf
  obtain ⟨_, g, -⟩ := gx_bs hf
  exact hx_is_of g
theorem w_J7_putStringAt_b {l : Launch} (hlt : l.stackTraces = false) {p : Program} {e : Env} {R : Room} {s : State} {m : MethodId} {args : Array Value} {below : List Frame} {meth : Method} {c : Code} {D : gx_D} {h0 : HX} {hz : HX} (C : gx_Ctx p R s m args meth c "java/lang/AbstractStringBuilder" cJ7_putStringAt 3 none 3 87 D h0 hz) (hx : meth.name = "putStringAt") {a0 : Nat} {p1 : Int32} {p2 : Option Nat} (hf : f_J7_putStringAt D h0 a0 p1 p2 = some hz) : gx_G p l e R s m args below meth c D h0 hz 3 (gx_MQ below args s D h0 hz none) 0 [(0, (va_rf (some a0))), (1, (.int p1)), (2, (va_rf p2))] [] h0 := by
  unfold f_J7_putStringAt at hf
  replace hf := gx_bs hf
  obtain ⟨_, -, hf⟩ := hf
  refine gx_aload_n C dJ7_putStringAt_0 0 rfl ?_
  refine gx_aload_n C dJ7_putStringAt_1 2 rfl ?_
  replace hf := gx_bs hf
  obtain ⟨u9, g1, hf⟩ := hf
  refine gx_callU (st := []) C (w_J7_inflateIfNeededFor hlt g1) (is_J7_inflateIfNeededFor g1) q393 q3267 (va_Decl.of (C.hts _ q395) (C.hts _ q396)) ⟨by decide, by decide⟩ (gx_cis1 gz_113 (gx_priv C 10 rfl) gx_cis0) q395 q132 q396 gz_441 (by decide) rfl rfl (gx_catn (Nat.le_of_ble_eq_true rfl)) dJ7_putStringAt_2 ?_
  refine gx_aload_n C dJ7_putStringAt_5 2 rfl ?_
  refine gx_aload_n C dJ7_putStringAt_6 0 rfl ?_
  replace hf := gx_bs hf
  obtain ⟨r2, g8, hf⟩ := hf
  refine gx_gr C g8 gz_69 q289 dJ7_putStringAt_7 ?_
  refine gx_iload_n C dJ7_putStringAt_10 1 rfl ?_
  refine gx_aload_n C dJ7_putStringAt_11 0 rfl ?_
  replace hf := gx_bs hf
  obtain ⟨x3, g7, hf⟩ := hf
  refine gx_gi C g7 gz_71 q290 dJ7_putStringAt_12 ?_
  replace hf := gx_bs hf
  obtain ⟨a4, rfl, hf⟩ := hf
  replace hf := gx_bs hf
  obtain ⟨h6, g5, hf⟩ := hf
  refine gx_callV (st := []) C (w_J9_getBytes hlt g5) (is_J9_getBytes g5) gz_10 rfl (lw_V q417 q418 q419 q134 q420) gz_442 (by decide) rfl rfl (gx_catn (Nat.le_of_ble_eq_true rfl)) dJ7_putStringAt_15 ?_
  obtain rfl := Option.some.inj hf
  exact gx_vret C dJ7_putStringAt_18
theorem le_J7_putStringAt {D : gx_D} {hz : HX} {h : HX} {a0 : Nat} {p1 : Int32} {p2 : Option Nat} (hf : f_J7_putStringAt D h a0 p1 p2 = some hz) : gx_le h hz := by
  unfold f_J7_putStringAt at hf
  replace hf := gx_bs hf
  obtain ⟨_, -, hf⟩ := hf
  replace hf := gx_bs hf
  obtain ⟨u9, g1, hf⟩ := hf
  replace hf := gx_bs hf
  obtain ⟨r2, g8, hf⟩ := hf
  replace hf := gx_bs hf
  obtain ⟨x3, g7, hf⟩ := hf
  replace hf := gx_bs hf
  obtain ⟨a4, rfl, hf⟩ := hf
  replace hf := gx_bs hf
  obtain ⟨h6, g5, hf⟩ := hf
  refine (le_J9_getBytes g5).tr ?_
  obtain rfl := Option.some.inj hf
  exact gx_le.rf
theorem w_J7_putStringAt {l : Launch} (hlt : l.stackTraces = false) {D : gx_D} {h : HX} {a0 : Nat} {p1 : Int32} {p2 : Option Nat} {hz : HX} (hf : f_J7_putStringAt D h a0 p1 p2 = some hz) : gx_Met l yJ7_putStringAt cJ7_putStringAt 3 none 3 87 D [(va_rf (some a0)), (.int p1), (va_rf p2)] h none hz :=
  gx_ofG gz_73 (by simp only [gx_lsr, gx_lsi, gx_lsj, gx_ls0]; decide) (le_J7_putStringAt hf) (fun p e R s m args below meth c C hx => by
    simp only [gx_lar, gx_lai, gx_laj, gx_la0, Nat.reduceAdd]
    exact w_J7_putStringAt_b hlt C hx hf)
def f_J7_append (D : gx_D) (h : HX) (a0 : Nat) (p1 : Option Nat) : Option ((Option Nat) × HX) :=
  (hx_is h a0 [1]).bind fun _ =>
  gx_on p1 (
  none) fun a1 =>
  (f_J9_length D h a1).bind fun x3 =>
  (hx_gi h a0 [1] 3).bind fun x4 =>
  (f_J7_ensureCapacityInternal D h a0 (x4 + x3)).bind fun h6 =>
  (hx_gi h6 a0 [1] 3).bind fun x7 =>
  (f_J7_putStringAt D h6 a0 x7 (some a1)).bind fun h9 =>
  (hx_gi h9 a0 [1] 3).bind fun x10 =>
  (hx_pi h9 a0 [1] 3 (x10 + x3)).bind fun h11 =>
  some ((some a0), h11)
theorem is_J7_append {D : gx_D} {h : HX} {a0 : Nat} {p1 : Option Nat} {z} (hf : f_J7_append D h a0 p1 = some z) : gx_isC h a0 [1] := by
  unfold f_J7_append at hf
  obtain ⟨_, g, -⟩ := gx_bs hf
  exact hx_is_of g
theorem w_J7_append_b {l : Launch} (hlt : l.stackTraces = false) {p : Program} {e : Env} {R : Room} {s : State} {m : MethodId} {args : Array Value} {below : List Frame} {meth : Method} {c : Code} {D : gx_D} {h0 : HX} {r : Option Nat} {hz : HX} (C : gx_Ctx p R s m args meth c "java/lang/AbstractStringBuilder" cJ7_append 3 (some (.object "java/lang/AbstractStringBuilder")) 5 115 D h0 hz) (hx : meth.name = "append") {a0 : Nat} {p1 : Option Nat} (hf : f_J7_append D h0 a0 p1 = some (r, hz)) : gx_G p l e R s m args below meth c D h0 hz 3 (gx_MQ below args s D h0 hz (some (va_rf r))) 0 [(0, (va_rf (some a0))), (1, (va_rf p1))] [] h0 := by
  unfold f_J7_append at hf
  replace hf := gx_bs hf
  obtain ⟨_, -, hf⟩ := hf
  refine gx_aload_n C dJ7_append_0 1 rfl ?_
  rcases p1 with _ | a1
  · replace hf := gx_on_n hf
    refine gx_ifnonnull_f C dJ7_append_1 ?_
    refine gx_aload_n C dJ7_append_4 0 rfl ?_
    cases hf
  · replace hf := gx_on_s hf
    refine gx_ifnonnull_t (tgt := 9) C dJ7_append_1 rfl ?_
    refine gx_aload_n C dJ7_append_9 1 rfl ?_
    replace hf := gx_bs hf
    obtain ⟨x3, g2, hf⟩ := hf
    refine gx_callV (st := []) C (w_J9_length hlt g2) (is_J9_length g2) gz_10 rfl (lw_V q380 q381 q382 q134 q383) gz_171 (by decide) rfl rfl (gx_catn (Nat.le_of_ble_eq_true rfl)) dJ7_append_10 ?_
    refine gx_istn C dJ7_append_13 2 rfl (by decide) [0, 1]  rfl (gx_okn rfl rfl (gx_okr rfl gx_catv_r gx_ok0)) ?_
    refine gx_aload_n C dJ7_append_14 1 rfl ?_
    refine gx_aload_n C dJ7_append_15 1 rfl ?_
    replace hf := gx_bs hf
    obtain ⟨x4, g15, hf⟩ := hf
    refine gx_gi C g15 gz_140 q293 dJ7_append_16 ?_
    refine gx_iload_n C dJ7_append_19 0 rfl ?_
    refine gx_iadd C dJ7_append_20 ?_
    replace hf := gx_bs hf
    obtain ⟨h6, g5, hf⟩ := hf
    refine gx_callU (st := []) C (w_J7_ensureCapacityInternal hlt g5) (is_J7_ensureCapacityInternal g5) q316 q3264 (va_Decl.of (C.hts _ q318) (C.hts _ q319)) ⟨by decide, by decide⟩ (gx_cis1 gz_113 (gx_priv C 7 rfl) gx_cis0) q318 q132 q319 gz_141 (by decide) rfl rfl (gx_catn (Nat.le_of_ble_eq_true rfl)) dJ7_append_21 ?_
    refine gx_aload_n C dJ7_append_24 1 rfl ?_
    refine gx_aload_n C dJ7_append_25 1 rfl ?_
    replace hf := gx_bs hf
    obtain ⟨x7, g14, hf⟩ := hf
    refine gx_gi C g14 gz_140 q293 dJ7_append_26 ?_
    refine gx_aload_n C dJ7_append_29 2 rfl ?_
    replace hf := gx_bs hf
    obtain ⟨h9, g8, hf⟩ := hf
    refine gx_callU (st := []) C (w_J7_putStringAt hlt g8) (is_J7_putStringAt g8) q389 q3266 (va_Decl.of (C.hts _ q391) (C.hts _ q392)) ⟨by decide, by decide⟩ (gx_cis1 gz_113 (gx_priv C 9 rfl) gx_cis0) q391 q132 q392 gz_443 (by decide) rfl rfl (gx_catn (Nat.le_of_ble_eq_true rfl)) dJ7_append_30 ?_
    refine gx_aload_n C dJ7_append_33 1 rfl ?_
    refine gx_dup C dJ7_append_34 rfl ?_
    replace hf := gx_bs hf
    obtain ⟨x10, g13, hf⟩ := hf
    refine gx_gi C g13 gz_140 q293 dJ7_append_35 ?_
    refine gx_iload_n C dJ7_append_38 0 rfl ?_
    refine gx_iadd C dJ7_append_39 ?_
    replace hf := gx_bs hf
    obtain ⟨h11, g12, hf⟩ := hf
    refine gx_putv C g12 gz_140 gz_1 rfl rfl q293 dJ7_append_40 ?_
    refine gx_aload_n C dJ7_append_43 1 rfl ?_
    obtain ⟨rfl, rfl⟩ := Prod.mk.inj (Option.some.inj hf)
    exact gx_aret C rfl rfl dJ7_append_44
theorem le_J7_append {D : gx_D} {r : Option Nat} {hz : HX} {h : HX} {a0 : Nat} {p1 : Option Nat} (hf : f_J7_append D h a0 p1 = some (r, hz)) : gx_le h hz := by
  unfold f_J7_append at hf
  replace hf := gx_bs hf
  obtain ⟨_, -, hf⟩ := hf
  rcases p1 with _ | a1
  · replace hf := gx_on_n hf
    cases hf
  · replace hf := gx_on_s hf
    replace hf := gx_bs hf
    obtain ⟨x3, g2, hf⟩ := hf
    replace hf := gx_bs hf
    obtain ⟨x4, g15, hf⟩ := hf
    replace hf := gx_bs hf
    obtain ⟨h6, g5, hf⟩ := hf
    refine (le_J7_ensureCapacityInternal g5).tr ?_
    replace hf := gx_bs hf
    obtain ⟨x7, g14, hf⟩ := hf
    replace hf := gx_bs hf
    obtain ⟨h9, g8, hf⟩ := hf
    refine (le_J7_putStringAt g8).tr ?_
    replace hf := gx_bs hf
    obtain ⟨x10, g13, hf⟩ := hf
    replace hf := gx_bs hf
    obtain ⟨h11, g12, hf⟩ := hf
    refine (hx_le_pv g12).tr ?_
    obtain ⟨rfl, rfl⟩ := Prod.mk.inj (Option.some.inj hf)
    exact gx_le.rf
theorem w_J7_append {l : Launch} (hlt : l.stackTraces = false) {D : gx_D} {h : HX} {a0 : Nat} {p1 : Option Nat} {r : Option Nat} {hz : HX} (hf : f_J7_append D h a0 p1 = some (r, hz)) : gx_Met l yJ7_append cJ7_append 3 (some (.object "java/lang/AbstractStringBuilder")) 5 115 D [(va_rf (some a0)), (va_rf p1)] h (some (va_rf r)) hz :=
  gx_ofG gz_73 (by simp only [gx_lsr, gx_lsi, gx_lsj, gx_ls0]; decide) (le_J7_append hf) (fun p e R s m args below meth c C hx => by
    simp only [gx_lar, gx_lai, gx_laj, gx_la0, Nat.reduceAdd]
    exact w_J7_append_b hlt C hx hf)
def f_J8_append (D : gx_D) (h : HX) (a0 : Nat) (p1 : Option Nat) : Option ((Option Nat) × HX) :=
  (hx_is h a0 [1]).bind fun _ =>
  gx_b2 (f_J7_append D h a0 p1) fun r2 h3 =>
  some ((some a0), h3)
theorem is_J8_append {D : gx_D} {h : HX} {a0 : Nat} {p1 : Option Nat} {z} (hf : f_J8_append D h a0 p1 = some z) : gx_isC h a0 [1] := by
  unfold f_J8_append at hf
  obtain ⟨_, g, -⟩ := gx_bs hf
  exact hx_is_of g
theorem w_J8_append_b {l : Launch} (hlt : l.stackTraces = false) {p : Program} {e : Env} {R : Room} {s : State} {m : MethodId} {args : Array Value} {below : List Frame} {meth : Method} {c : Code} {D : gx_D} {h0 : HX} {r : Option Nat} {hz : HX} (C : gx_Ctx p R s m args meth c "java/lang/StringBuilder" cJ8_append 2 (some (.object "java/lang/StringBuilder")) 6 137 D h0 hz) (hx : meth.name = "append") {a0 : Nat} {p1 : Option Nat} (hf : f_J8_append D h0 a0 p1 = some (r, hz)) : gx_G p l e R s m args below meth c D h0 hz 2 (gx_MQ below args s D h0 hz (some (va_rf r))) 0 [(0, (va_rf (some a0))), (1, (va_rf p1))] [] h0 := by
  unfold f_J8_append at hf
  replace hf := gx_bs hf
  obtain ⟨_, -, hf⟩ := hf
  refine gx_aload_n C dJ8_append_0 0 rfl ?_
  refine gx_aload_n C dJ8_append_1 1 rfl ?_
  replace hf := gx_b2s hf
  obtain ⟨r2, h3, g1, hf⟩ := hf
  refine gx_callSU (st := []) C (w_J7_append hlt g1) (is_J7_append g1) q309 q3262 q302 q310 q132 q311 (by decide) gz_444 (by decide) rfl rfl (gx_catn (Nat.le_of_ble_eq_true rfl)) dJ8_append_2 ?_
  refine gx_pop C dJ8_append_5 (gx_rfcat _) ?_
  refine gx_aload_n C dJ8_append_6 0 rfl ?_
  obtain ⟨rfl, rfl⟩ := Prod.mk.inj (Option.some.inj hf)
  exact gx_aret C rfl rfl dJ8_append_7
theorem le_J8_append {D : gx_D} {r : Option Nat} {hz : HX} {h : HX} {a0 : Nat} {p1 : Option Nat} (hf : f_J8_append D h a0 p1 = some (r, hz)) : gx_le h hz := by
  unfold f_J8_append at hf
  replace hf := gx_bs hf
  obtain ⟨_, -, hf⟩ := hf
  replace hf := gx_b2s hf
  obtain ⟨r2, h3, g1, hf⟩ := hf
  refine (le_J7_append g1).tr ?_
  obtain ⟨rfl, rfl⟩ := Prod.mk.inj (Option.some.inj hf)
  exact gx_le.rf
theorem w_J8_append {l : Launch} (hlt : l.stackTraces = false) {D : gx_D} {h : HX} {a0 : Nat} {p1 : Option Nat} {r : Option Nat} {hz : HX} (hf : f_J8_append D h a0 p1 = some (r, hz)) : gx_Met l yJ8_append cJ8_append 2 (some (.object "java/lang/StringBuilder")) 6 137 D [(va_rf (some a0)), (va_rf p1)] h (some (va_rf r)) hz :=
  gx_ofG gz_75 (by simp only [gx_lsr, gx_lsi, gx_lsj, gx_ls0]; decide) (le_J8_append hf) (fun p e R s m args below meth c C hx => by
    simp only [gx_lar, gx_lai, gx_laj, gx_la0, Nat.reduceAdd]
    exact w_J8_append_b hlt C hx hf)
def f_J13_rangeCheck (D : gx_D) (h : HX) (p0 : Int32) (p1 : Int32) (p2 : Int32) : Option Unit :=
  if p1 ≤ p2 then
  if 0 ≤ p1 then
  if p2 ≤ p0 then
  some ()
  else
  none
  else
  none
  else
  none
theorem w_J13_rangeCheck_b {l : Launch} (hlt : l.stackTraces = false) {p : Program} {e : Env} {R : Room} {s : State} {m : MethodId} {args : Array Value} {below : List Frame} {meth : Method} {c : Code} {D : gx_D} {h0 : HX} {r : Unit} (C : gx_Ctx p R s m args meth c "java/util/Arrays" cJ13_rangeCheck 3 none 1 24 D h0 h0) (hx : meth.name = "rangeCheck") {p0 : Int32} {p1 : Int32} {p2 : Int32} (hf : f_J13_rangeCheck D h0 p0 p1 p2 = some r) : gx_G p l e R s m args below meth c D h0 h0 3 (gx_MQ below args s D h0 h0 none) 0 [(0, (.int p0)), (1, (.int p1)), (2, (.int p2))] [] h0 := by
  unfold f_J13_rangeCheck at hf
  refine gx_iload_n C dJ13_rangeCheck_0 1 rfl ?_
  refine gx_iload_n C dJ13_rangeCheck_1 2 rfl ?_
  replace hf := gx_ite hf
  rcases hf with ⟨c1, hf⟩ | ⟨c1, hf⟩
  · refine gx_icmp_le_t (tgt := 46) C dJ13_rangeCheck_2 rfl c1 ?_
    refine gx_iload_n C dJ13_rangeCheck_46 1 rfl ?_
    replace hf := gx_ite hf
    rcases hf with ⟨c2, hf⟩ | ⟨c2, hf⟩
    · refine gx_if_ge_t (tgt := 59) C dJ13_rangeCheck_47 rfl c2 ?_
      refine gx_iload_n C dJ13_rangeCheck_59 2 rfl ?_
      refine gx_iload_n C dJ13_rangeCheck_60 0 rfl ?_
      replace hf := gx_ite hf
      rcases hf with ⟨c3, hf⟩ | ⟨c3, hf⟩
      · refine gx_icmp_le_t (tgt := 73) C dJ13_rangeCheck_61 rfl c3 ?_
        obtain rfl := Option.some.inj hf
        exact gx_vret C dJ13_rangeCheck_73
      · refine gx_icmp_le_f (tgt := 73) C dJ13_rangeCheck_61 rfl c3 ?_
        cases hf
    · refine gx_if_ge_f (tgt := 59) C dJ13_rangeCheck_47 rfl c2 ?_
      cases hf
  · refine gx_icmp_le_f (tgt := 46) C dJ13_rangeCheck_2 rfl c1 ?_
    cases hf
theorem w_J13_rangeCheck {l : Launch} (hlt : l.stackTraces = false) {D : gx_D} {h : HX} {p0 : Int32} {p1 : Int32} {p2 : Int32} {r : Unit} (hf : f_J13_rangeCheck D h p0 p1 p2 = some r) : gx_Met l yJ13_rangeCheck cJ13_rangeCheck 3 none 1 24 D [(.int p0), (.int p1), (.int p2)] h none h :=
  gx_ofG gz_136 (by simp only [gx_lsr, gx_lsi, gx_lsj, gx_ls0]; decide) gx_le.rf (fun p e R s m args below meth c C hx => by
    simp only [gx_lar, gx_lai, gx_laj, gx_la0, Nat.reduceAdd]
    exact w_J13_rangeCheck_b hlt C hx hf)
def f_J13_fill_b10 (D : gx_D) : Nat → HX → Option Nat → Int32 → Int32 → Int32 → Option HX
  | 0, _, _, _, _, _ => none
  | n + 1, h, v0, v2, v3, v4 =>
  if v2 ≤ v4 then
  some h
  else
  v0.bind fun a5 =>
  (hx_sb h a5 v4 v3).bind fun h6 =>
  (f_J13_fill_b10 D n) h6 (some a5) v2 v3 ((v4 + (1 : Int32)))
theorem w_J13_fill_b10 {l : Launch} (hlt : l.stackTraces = false) {p : Program} {e : Env} {R : Room} {s : State} {m : MethodId} {args : Array Value} {below : List Frame} {meth : Method} {c : Code} {D : gx_D} {h0 : HX} {hz : HX} (C : gx_Ctx p R s m args meth c "java/util/Arrays" cJ13_fill 5 none 2 46 D h0 hz) (hx : meth.name = "fill")  : ∀ (n : Nat) ⦃h : HX⦄ ⦃v0 : Option Nat⦄ ⦃v2 : Int32⦄ ⦃v3 : Int32⦄ ⦃v4 : Int32⦄, f_J13_fill_b10 D n h v0 v2 v3 v4 = some hz → gx_G p l e R s m args below meth c D h0 hz 5 (gx_MQ below args s D h0 hz none) 10 [(0, (va_rf v0)), (2, (.int v2)), (3, (.int v3)), (4, (.int v4))] [] h := by
  intro n
  induction n with
  | zero => intro h v0 v2 v3 v4 hf; unfold f_J13_fill_b10 at hf; cases hf
  | succ n wk10 =>
    intro h v0 v2 v3 v4 hf
    unfold f_J13_fill_b10 at hf
    refine gx_iload C dJ13_fill_10 3 rfl ?_
    refine gx_iload_n C dJ13_fill_12 1 rfl ?_
    replace hf := gx_ite hf
    rcases hf with ⟨c4, hf⟩ | ⟨c4, hf⟩
    · refine gx_icmp_ge_t (tgt := 27) C dJ13_fill_13 rfl c4 ?_
      obtain rfl := Option.some.inj hf
      exact gx_vret C dJ13_fill_27
    · refine gx_icmp_ge_f (tgt := 27) C dJ13_fill_13 rfl c4 ?_
      refine gx_aload_n C dJ13_fill_16 0 rfl ?_
      refine gx_iload C dJ13_fill_17 3 rfl ?_
      refine gx_iload_n C dJ13_fill_19 2 rfl ?_
      replace hf := gx_bs hf
      obtain ⟨a5, rfl, hf⟩ := hf
      replace hf := gx_bs hf
      obtain ⟨h6, g7, hf⟩ := hf
      refine gx_bast C g7 dJ13_fill_20 ?_
      refine gx_inc (v := 1) C dJ13_fill_21 3 rfl rfl (by decide) [0, 1, 2] rfl (gx_okn rfl rfl (gx_okn rfl rfl (gx_okr rfl gx_catv_i gx_ok0))) ?_
      refine gx_goto (tgt := 10) C dJ13_fill_24 rfl ?_
      refine gx_sub [1, 2, 3, 0] rfl ?_
      exact wk10 hf
theorem le_J13_fill_b10 {D : gx_D} {hz : HX} : ∀ (n : Nat) ⦃h : HX⦄ ⦃v0 : Option Nat⦄ ⦃v2 : Int32⦄ ⦃v3 : Int32⦄ ⦃v4 : Int32⦄, f_J13_fill_b10 D n h v0 v2 v3 v4 = some hz → gx_le h hz := by
  intro n
  induction n with
  | zero => intro h v0 v2 v3 v4 hf; unfold f_J13_fill_b10 at hf; cases hf
  | succ n lek10 =>
    intro h v0 v2 v3 v4 hf
    unfold f_J13_fill_b10 at hf
    replace hf := gx_ite hf
    rcases hf with ⟨c4, hf⟩ | ⟨c4, hf⟩
    · obtain rfl := Option.some.inj hf
      exact gx_le.rf
    · replace hf := gx_bs hf
      obtain ⟨a5, rfl, hf⟩ := hf
      replace hf := gx_bs hf
      obtain ⟨h6, g7, hf⟩ := hf
      refine (hx_le_sb g7).tr ?_
      exact lek10 hf
def f_J13_fill (D : gx_D) (h : HX) (p0 : Option Nat) (p1 : Int32) (p2 : Int32) (p3 : Int32) : Option HX :=
  p0.bind fun a1 =>
  (hx_len h a1).bind fun x2 =>
  (f_J13_rangeCheck D h x2 p1 p2).bind fun u8 =>
  f_J13_fill_b10 D gx_fuel h (some a1) p2 p3 p1
theorem w_J13_fill_b {l : Launch} (hlt : l.stackTraces = false) {p : Program} {e : Env} {R : Room} {s : State} {m : MethodId} {args : Array Value} {below : List Frame} {meth : Method} {c : Code} {D : gx_D} {h0 : HX} {hz : HX} (C : gx_Ctx p R s m args meth c "java/util/Arrays" cJ13_fill 5 none 2 46 D h0 hz) (hx : meth.name = "fill") {p0 : Option Nat} {p1 : Int32} {p2 : Int32} {p3 : Int32} (hf : f_J13_fill D h0 p0 p1 p2 p3 = some hz) : gx_G p l e R s m args below meth c D h0 hz 5 (gx_MQ below args s D h0 hz none) 0 [(0, (va_rf p0)), (1, (.int p1)), (2, (.int p2)), (3, (.int p3))] [] h0 := by
  unfold f_J13_fill at hf
  refine gx_aload_n C dJ13_fill_0 0 rfl ?_
  replace hf := gx_bs hf
  obtain ⟨a1, rfl, hf⟩ := hf
  replace hf := gx_bs hf
  obtain ⟨x2, g9, hf⟩ := hf
  refine gx_alen C g9 dJ13_fill_1 ?_
  refine gx_iload_n C dJ13_fill_2 1 rfl ?_
  refine gx_iload_n C dJ13_fill_3 2 rfl ?_
  replace hf := gx_bs hf
  obtain ⟨u8, g3, hf⟩ := hf
  refine gx_callS (st := []) C (w_J13_rangeCheck hlt g3) (lw_S q2200 q2201 q138 q2202) gz_445 (by decide) rfl rfl (gx_catn (Nat.le_of_ble_eq_true rfl)) dJ13_fill_4 ?_
  refine gx_iload_n C dJ13_fill_7 1 rfl ?_
  refine gx_ist C dJ13_fill_8 (by decide) [0, 2, 3]  rfl (gx_okn rfl rfl (gx_okn rfl rfl (gx_okr rfl gx_catv_i gx_ok0))) ?_
  refine gx_sub [1, 2, 3, 0] rfl ?_
  exact w_J13_fill_b10 hlt C hx gx_fuel hf
theorem le_J13_fill {D : gx_D} {hz : HX} {h : HX} {p0 : Option Nat} {p1 : Int32} {p2 : Int32} {p3 : Int32} (hf : f_J13_fill D h p0 p1 p2 p3 = some hz) : gx_le h hz := by
  unfold f_J13_fill at hf
  replace hf := gx_bs hf
  obtain ⟨a1, rfl, hf⟩ := hf
  replace hf := gx_bs hf
  obtain ⟨x2, g9, hf⟩ := hf
  replace hf := gx_bs hf
  obtain ⟨u8, g3, hf⟩ := hf
  exact le_J13_fill_b10 gx_fuel hf
theorem w_J13_fill {l : Launch} (hlt : l.stackTraces = false) {D : gx_D} {h : HX} {p0 : Option Nat} {p1 : Int32} {p2 : Int32} {p3 : Int32} {hz : HX} (hf : f_J13_fill D h p0 p1 p2 p3 = some hz) : gx_Met l yJ13_fill cJ13_fill 5 none 2 46 D [(va_rf p0), (.int p1), (.int p2), (.int p3)] h none hz :=
  gx_ofG gz_136 (by simp only [gx_lsr, gx_lsi, gx_lsj, gx_ls0]; decide) (le_J13_fill hf) (fun p e R s m args below meth c C hx => by
    simp only [gx_lar, gx_lai, gx_laj, gx_la0, Nat.reduceAdd]
    exact w_J13_fill_b hlt C hx hf)
def f_J15_fillNull (D : gx_D) (h : HX) (p0 : Option Nat) (p1 : Int32) (p2 : Int32) : Option HX :=
  (f_J13_fill D h p0 p1 p2 (0 : Int32)).bind fun h2 =>
  some h2
theorem w_J15_fillNull_b {l : Launch} (hlt : l.stackTraces = false) {p : Program} {e : Env} {R : Room} {s : State} {m : MethodId} {args : Array Value} {below : List Frame} {meth : Method} {c : Code} {D : gx_D} {h0 : HX} {hz : HX} (C : gx_Ctx p R s m args meth c "java/lang/StringLatin1" cJ15_fillNull 3 none 3 70 D h0 hz) (hx : meth.name = "fillNull") {p0 : Option Nat} {p1 : Int32} {p2 : Int32} (hf : f_J15_fillNull D h0 p0 p1 p2 = some hz) : gx_G p l e R s m args below meth c D h0 hz 3 (gx_MQ below args s D h0 hz none) 0 [(0, (va_rf p0)), (1, (.int p1)), (2, (.int p2))] [] h0 := by
  unfold f_J15_fillNull at hf
  refine gx_aload_n C dJ15_fillNull_0 0 rfl ?_
  refine gx_iload_n C dJ15_fillNull_1 1 rfl ?_
  refine gx_iload_n C dJ15_fillNull_2 2 rfl ?_
  refine gx_iconst (v := 0) C dJ15_fillNull_3 rfl ?_
  replace hf := gx_bs hf
  obtain ⟨h2, g1, hf⟩ := hf
  refine gx_callS (st := []) C (w_J13_fill hlt g1) (lw_S q2197 q2198 q138 q2199) gz_446 (by decide) rfl rfl (gx_catn (Nat.le_of_ble_eq_true rfl)) dJ15_fillNull_4 ?_
  obtain rfl := Option.some.inj hf
  exact gx_vret C dJ15_fillNull_7
theorem le_J15_fillNull {D : gx_D} {hz : HX} {h : HX} {p0 : Option Nat} {p1 : Int32} {p2 : Int32} (hf : f_J15_fillNull D h p0 p1 p2 = some hz) : gx_le h hz := by
  unfold f_J15_fillNull at hf
  replace hf := gx_bs hf
  obtain ⟨h2, g1, hf⟩ := hf
  refine (le_J13_fill g1).tr ?_
  obtain rfl := Option.some.inj hf
  exact gx_le.rf
theorem w_J15_fillNull {l : Launch} (hlt : l.stackTraces = false) {D : gx_D} {h : HX} {p0 : Option Nat} {p1 : Int32} {p2 : Int32} {hz : HX} (hf : f_J15_fillNull D h p0 p1 p2 = some hz) : gx_Met l yJ15_fillNull cJ15_fillNull 3 none 3 70 D [(va_rf p0), (.int p1), (.int p2)] h none hz :=
  gx_ofG gz_139 (by simp only [gx_lsr, gx_lsi, gx_lsj, gx_ls0]; decide) (le_J15_fillNull hf) (fun p e R s m args below meth c C hx => by
    simp only [gx_lar, gx_lai, gx_laj, gx_la0, Nat.reduceAdd]
    exact w_J15_fillNull_b hlt C hx hf)
def f_J7_setLength_b76 (D : gx_D) (h : HX) (v0 : Nat) (v1 : Int32) : Option HX :=
  (hx_pi h v0 [1] 3 v1).bind fun h8 =>
  some h8
theorem w_J7_setLength_b76 {l : Launch} (hlt : l.stackTraces = false) {p : Program} {e : Env} {R : Room} {s : State} {m : MethodId} {args : Array Value} {below : List Frame} {meth : Method} {c : Code} {D : gx_D} {h0 : HX} {hz : HX} (C : gx_Ctx p R s m args meth c "java/lang/AbstractStringBuilder" cJ7_setLength 2 none 5 115 D h0 hz) (hx : meth.name = "setLength")  {h : HX} {v0 : Nat} {v1 : Int32} (hf : f_J7_setLength_b76 D h v0 v1 = some hz) : gx_G p l e R s m args below meth c D h0 hz 2 (gx_MQ below args s D h0 hz none) 76 [(0, (va_rf (some v0))), (1, (.int v1))] [] h := by
  unfold f_J7_setLength_b76 at hf
  refine gx_aload_n C dJ7_setLength_76 0 rfl ?_
  refine gx_iload_n C dJ7_setLength_77 1 rfl ?_
  replace hf := gx_bs hf
  obtain ⟨h8, g9, hf⟩ := hf
  refine gx_putv C g9 gz_140 gz_1 rfl rfl q293 dJ7_setLength_78 ?_
  obtain rfl := Option.some.inj hf
  exact gx_vret C dJ7_setLength_81
theorem le_J7_setLength_b76 {D : gx_D} {hz : HX} {h : HX} {v0 : Nat} {v1 : Int32} (hf : f_J7_setLength_b76 D h v0 v1 = some hz) : gx_le h hz := by
  unfold f_J7_setLength_b76 at hf
  replace hf := gx_bs hf
  obtain ⟨h8, g9, hf⟩ := hf
  refine (hx_le_pv g9).tr ?_
  obtain rfl := Option.some.inj hf
  exact gx_le.rf
def f_J7_setLength (D : gx_D) (h : HX) (a0 : Nat) (p1 : Int32) : Option HX :=
  (hx_is h a0 [1]).bind fun _ =>
  if 0 ≤ p1 then
  (f_J7_ensureCapacityInternal D h a0 p1).bind fun h3 =>
  (hx_gi h3 a0 [1] 3).bind fun x4 =>
  if p1 ≤ x4 then
  (hx_gi h3 a0 [1] 3).bind fun x6 =>
  if x6 ≤ p1 then
  f_J7_setLength_b76 D h3 a0 p1
  else
  (hx_pi h3 a0 [1] 2 (1 : Int32)).bind fun h10 =>
  f_J7_setLength_b76 D h10 a0 p1
  else
  (f_J7_isLatin1 D h3 a0).bind fun b14 =>
  if b14 = true then
  (hx_gr h3 a0 [1] 0).bind fun r16 =>
  (hx_gi h3 a0 [1] 3).bind fun x17 =>
  (f_J15_fillNull D h3 r16 x17 p1).bind fun h19 =>
  f_J7_setLength_b76 D h19 a0 p1
  else
  (hx_gr h3 a0 [1] 0).bind fun r22 =>
  (hx_gi h3 a0 [1] 3).bind fun x23 =>
  none
  else
  none
theorem is_J7_setLength {D : gx_D} {h : HX} {a0 : Nat} {p1 : Int32} {z} (hf : f_J7_setLength D h a0 p1 = some z) : gx_isC h a0 [1] := by
  unfold f_J7_setLength at hf
  obtain ⟨_, g, -⟩ := gx_bs hf
  exact hx_is_of g
theorem w_J7_setLength_b {l : Launch} (hlt : l.stackTraces = false) {p : Program} {e : Env} {R : Room} {s : State} {m : MethodId} {args : Array Value} {below : List Frame} {meth : Method} {c : Code} {D : gx_D} {h0 : HX} {hz : HX} (C : gx_Ctx p R s m args meth c "java/lang/AbstractStringBuilder" cJ7_setLength 2 none 5 115 D h0 hz) (hx : meth.name = "setLength") {a0 : Nat} {p1 : Int32} (hf : f_J7_setLength D h0 a0 p1 = some hz) : gx_G p l e R s m args below meth c D h0 hz 2 (gx_MQ below args s D h0 hz none) 0 [(0, (va_rf (some a0))), (1, (.int p1))] [] h0 := by
  unfold f_J7_setLength at hf
  replace hf := gx_bs hf
  obtain ⟨_, -, hf⟩ := hf
  refine gx_iload_n C dJ7_setLength_0 1 rfl ?_
  replace hf := gx_ite hf
  rcases hf with ⟨c1, hf⟩ | ⟨c1, hf⟩
  · refine gx_if_ge_t (tgt := 13) C dJ7_setLength_1 rfl c1 ?_
    refine gx_aload_n C dJ7_setLength_13 0 rfl ?_
    refine gx_iload_n C dJ7_setLength_14 1 rfl ?_
    replace hf := gx_bs hf
    obtain ⟨h3, g2, hf⟩ := hf
    refine gx_callU (st := []) C (w_J7_ensureCapacityInternal hlt g2) (is_J7_ensureCapacityInternal g2) q316 q3264 (va_Decl.of (C.hts _ q318) (C.hts _ q319)) ⟨by decide, by decide⟩ (gx_cis1 gz_113 (gx_priv C 7 rfl) gx_cis0) q318 q132 q319 gz_141 (by decide) rfl rfl (gx_catn (Nat.le_of_ble_eq_true rfl)) dJ7_setLength_15 ?_
    refine gx_aload_n C dJ7_setLength_18 0 rfl ?_
    replace hf := gx_bs hf
    obtain ⟨x4, g26, hf⟩ := hf
    refine gx_gi C g26 gz_140 q293 dJ7_setLength_19 ?_
    refine gx_iload_n C dJ7_setLength_22 1 rfl ?_
    replace hf := gx_ite hf
    rcases hf with ⟨c5, hf⟩ | ⟨c5, hf⟩
    · refine gx_icmp_ge_t (tgt := 63) C dJ7_setLength_23 rfl c5 ?_
      refine gx_aload_n C dJ7_setLength_63 0 rfl ?_
      replace hf := gx_bs hf
      obtain ⟨x6, g12, hf⟩ := hf
      refine gx_gi C g12 gz_140 q293 dJ7_setLength_64 ?_
      refine gx_iload_n C dJ7_setLength_67 1 rfl ?_
      replace hf := gx_ite hf
      rcases hf with ⟨c7, hf⟩ | ⟨c7, hf⟩
      · refine gx_icmp_le_t (tgt := 76) C dJ7_setLength_68 rfl c7 ?_
        refine gx_sub [0, 1] rfl ?_
        exact w_J7_setLength_b76 hlt C hx hf
      · refine gx_icmp_le_f (tgt := 76) C dJ7_setLength_68 rfl c7 ?_
        refine gx_aload_n C dJ7_setLength_71 0 rfl ?_
        refine gx_iconst (v := 1) C dJ7_setLength_72 rfl ?_
        replace hf := gx_bs hf
        obtain ⟨h10, g11, hf⟩ := hf
        refine gx_putv C g11 gz_152 gz_248 rfl rfl q291 dJ7_setLength_73 ?_
        refine gx_sub [0, 1] rfl ?_
        exact w_J7_setLength_b76 hlt C hx hf
    · refine gx_icmp_ge_f (tgt := 63) C dJ7_setLength_23 rfl c5 ?_
      refine gx_aload_n C dJ7_setLength_26 0 rfl ?_
      replace hf := gx_bs hf
      obtain ⟨b14, g13, hf⟩ := hf
      refine gx_callU (st := []) C (w_J7_isLatin1 hlt g13) (is_J7_isLatin1 g13) q349 q351 (va_Decl.of (C.hts _ q350) (C.hts _ q353)) ⟨by decide, by decide⟩ (gx_cis1 gz_113 (C.hts _ q352) gx_cis0) q350 q132 q353 gz_142 (by decide) rfl rfl (gx_catn (Nat.le_of_ble_eq_true rfl)) dJ7_setLength_27 ?_
      replace hf := gx_ite hf
      rcases hf with ⟨c15, hf⟩ | ⟨c15, hf⟩
      · refine gx_ifz_eq_f (tgt := 48) C dJ7_setLength_30 rfl c15 ?_
        refine gx_aload_n C dJ7_setLength_33 0 rfl ?_
        replace hf := gx_bs hf
        obtain ⟨r16, g21, hf⟩ := hf
        refine gx_gr C g21 gz_69 q289 dJ7_setLength_34 ?_
        refine gx_aload_n C dJ7_setLength_37 0 rfl ?_
        replace hf := gx_bs hf
        obtain ⟨x17, g20, hf⟩ := hf
        refine gx_gi C g20 gz_140 q293 dJ7_setLength_38 ?_
        refine gx_iload_n C dJ7_setLength_41 1 rfl ?_
        replace hf := gx_bs hf
        obtain ⟨h19, g18, hf⟩ := hf
        refine gx_callS (st := []) C (w_J15_fillNull hlt g18) (lw_S q2194 q2195 q141 q2196) gz_447 (by decide) rfl rfl (gx_catn (Nat.le_of_ble_eq_true rfl)) dJ7_setLength_42 ?_
        refine gx_goto (tgt := 76) C dJ7_setLength_45 rfl ?_
        refine gx_sub [0, 1] rfl ?_
        exact w_J7_setLength_b76 hlt C hx hf
      · refine gx_ifz_eq_t (tgt := 48) C dJ7_setLength_30 rfl c15 ?_
        refine gx_aload_n C dJ7_setLength_48 0 rfl ?_
        replace hf := gx_bs hf
        obtain ⟨r22, g25, hf⟩ := hf
        refine gx_gr C g25 gz_69 q289 dJ7_setLength_49 ?_
        refine gx_aload_n C dJ7_setLength_52 0 rfl ?_
        replace hf := gx_bs hf
        obtain ⟨x23, g24, hf⟩ := hf
        refine gx_gi C g24 gz_140 q293 dJ7_setLength_53 ?_
        refine gx_iload_n C dJ7_setLength_56 1 rfl ?_
        cases hf
  · refine gx_if_ge_f (tgt := 13) C dJ7_setLength_1 rfl c1 ?_
    cases hf
theorem le_J7_setLength {D : gx_D} {hz : HX} {h : HX} {a0 : Nat} {p1 : Int32} (hf : f_J7_setLength D h a0 p1 = some hz) : gx_le h hz := by
  unfold f_J7_setLength at hf
  replace hf := gx_bs hf
  obtain ⟨_, -, hf⟩ := hf
  replace hf := gx_ite hf
  rcases hf with ⟨c1, hf⟩ | ⟨c1, hf⟩
  · replace hf := gx_bs hf
    obtain ⟨h3, g2, hf⟩ := hf
    refine (le_J7_ensureCapacityInternal g2).tr ?_
    replace hf := gx_bs hf
    obtain ⟨x4, g26, hf⟩ := hf
    replace hf := gx_ite hf
    rcases hf with ⟨c5, hf⟩ | ⟨c5, hf⟩
    · replace hf := gx_bs hf
      obtain ⟨x6, g12, hf⟩ := hf
      replace hf := gx_ite hf
      rcases hf with ⟨c7, hf⟩ | ⟨c7, hf⟩
      · exact le_J7_setLength_b76 hf
      · replace hf := gx_bs hf
        obtain ⟨h10, g11, hf⟩ := hf
        refine (hx_le_pv g11).tr ?_
        exact le_J7_setLength_b76 hf
    · replace hf := gx_bs hf
      obtain ⟨b14, g13, hf⟩ := hf
      replace hf := gx_ite hf
      rcases hf with ⟨c15, hf⟩ | ⟨c15, hf⟩
      · replace hf := gx_bs hf
        obtain ⟨r16, g21, hf⟩ := hf
        replace hf := gx_bs hf
        obtain ⟨x17, g20, hf⟩ := hf
        replace hf := gx_bs hf
        obtain ⟨h19, g18, hf⟩ := hf
        refine (le_J15_fillNull g18).tr ?_
        exact le_J7_setLength_b76 hf
      · replace hf := gx_bs hf
        obtain ⟨r22, g25, hf⟩ := hf
        replace hf := gx_bs hf
        obtain ⟨x23, g24, hf⟩ := hf
        cases hf
  · cases hf
theorem w_J7_setLength {l : Launch} (hlt : l.stackTraces = false) {D : gx_D} {h : HX} {a0 : Nat} {p1 : Int32} {hz : HX} (hf : f_J7_setLength D h a0 p1 = some hz) : gx_Met l yJ7_setLength cJ7_setLength 2 none 5 115 D [(va_rf (some a0)), (.int p1)] h none hz :=
  gx_ofG gz_73 (by simp only [gx_lsr, gx_lsi, gx_lsj, gx_ls0]; decide) (le_J7_setLength hf) (fun p e R s m args below meth c C hx => by
    simp only [gx_lar, gx_lai, gx_laj, gx_la0, Nat.reduceAdd]
    exact w_J7_setLength_b hlt C hx hf)
def f_J8_setLength (D : gx_D) (h : HX) (a0 : Nat) (p1 : Int32) : Option HX :=
  (hx_is h a0 [1]).bind fun _ =>
  (f_J7_setLength D h a0 p1).bind fun h2 =>
  some h2
theorem is_J8_setLength {D : gx_D} {h : HX} {a0 : Nat} {p1 : Int32} {z} (hf : f_J8_setLength D h a0 p1 = some z) : gx_isC h a0 [1] := by
  unfold f_J8_setLength at hf
  obtain ⟨_, g, -⟩ := gx_bs hf
  exact hx_is_of g
theorem w_J8_setLength_b {l : Launch} (hlt : l.stackTraces = false) {p : Program} {e : Env} {R : Room} {s : State} {m : MethodId} {args : Array Value} {below : List Frame} {meth : Method} {c : Code} {D : gx_D} {h0 : HX} {hz : HX} (C : gx_Ctx p R s m args meth c "java/lang/StringBuilder" cJ8_setLength 2 none 6 136 D h0 hz) (hx : meth.name = "setLength") {a0 : Nat} {p1 : Int32} (hf : f_J8_setLength D h0 a0 p1 = some hz) : gx_G p l e R s m args below meth c D h0 hz 2 (gx_MQ below args s D h0 hz none) 0 [(0, (va_rf (some a0))), (1, (.int p1))] [] h0 := by
  unfold f_J8_setLength at hf
  replace hf := gx_bs hf
  obtain ⟨_, -, hf⟩ := hf
  refine gx_aload_n C dJ8_setLength_0 0 rfl ?_
  refine gx_iload_n C dJ8_setLength_1 1 rfl ?_
  replace hf := gx_bs hf
  obtain ⟨h2, g1, hf⟩ := hf
  refine gx_callSU (st := []) C (w_J7_setLength hlt g1) (is_J7_setLength g1) q2169 q3277 q302 q2170 q132 q2171 (by decide) gz_448 (by decide) rfl rfl (gx_catn (Nat.le_of_ble_eq_true rfl)) dJ8_setLength_2 ?_
  obtain rfl := Option.some.inj hf
  exact gx_vret C dJ8_setLength_5
theorem le_J8_setLength {D : gx_D} {hz : HX} {h : HX} {a0 : Nat} {p1 : Int32} (hf : f_J8_setLength D h a0 p1 = some hz) : gx_le h hz := by
  unfold f_J8_setLength at hf
  replace hf := gx_bs hf
  obtain ⟨_, -, hf⟩ := hf
  replace hf := gx_bs hf
  obtain ⟨h2, g1, hf⟩ := hf
  refine (le_J7_setLength g1).tr ?_
  obtain rfl := Option.some.inj hf
  exact gx_le.rf
theorem w_J8_setLength {l : Launch} (hlt : l.stackTraces = false) {D : gx_D} {h : HX} {a0 : Nat} {p1 : Int32} {hz : HX} (hf : f_J8_setLength D h a0 p1 = some hz) : gx_Met l yJ8_setLength cJ8_setLength 2 none 6 136 D [(va_rf (some a0)), (.int p1)] h none hz :=
  gx_ofG gz_75 (by simp only [gx_lsr, gx_lsi, gx_lsj, gx_ls0]; decide) (le_J8_setLength hf) (fun p e R s m args below meth c C hx => by
    simp only [gx_lar, gx_lai, gx_laj, gx_la0, Nat.reduceAdd]
    exact w_J8_setLength_b hlt C hx hf)
def f_J7_charAt (D : gx_D) (h : HX) (a0 : Nat) (p1 : Int32) : Option Int32 :=
  (hx_is h a0 [1]).bind fun _ =>
  (hx_gi h a0 [1] 1).bind fun x1 =>
  (hx_gr h a0 [1] 0).bind fun r2 =>
  (hx_gi h a0 [1] 3).bind fun x3 =>
  r2.bind fun a4 =>
  (hx_len h a4).bind fun x5 =>
  (f_J12_min D h x3 (x5 >>> (x1 &&& 31))).bind fun x7 =>
  (f_J9_checkIndex D h p1 x7).bind fun u13 =>
  if x1 = 0 then
  (hx_ai h a4 1 p1).bind fun x10 =>
  if 0 ≤ ((Int32.toUInt32 (x10 &&& (255 : Int32)) % 65536).toInt32) ∧ ((Int32.toUInt32 (x10 &&& (255 : Int32)) % 65536).toInt32) ≤ 65535 then
  some (((Int32.toUInt32 (x10 &&& (255 : Int32)) % 65536).toInt32))
  else none
  else
  none
theorem is_J7_charAt {D : gx_D} {h : HX} {a0 : Nat} {p1 : Int32} {z} (hf : f_J7_charAt D h a0 p1 = some z) : gx_isC h a0 [1] := by
  unfold f_J7_charAt at hf
  obtain ⟨_, g, -⟩ := gx_bs hf
  exact hx_is_of g
theorem w_J7_charAt_b {l : Launch} (hlt : l.stackTraces = false) {p : Program} {e : Env} {R : Room} {s : State} {m : MethodId} {args : Array Value} {below : List Frame} {meth : Method} {c : Code} {D : gx_D} {h0 : HX} {r : Int32} (C : gx_Ctx p R s m args meth c "java/lang/AbstractStringBuilder" cJ7_charAt 5 (some .char) 3 67 D h0 h0) (hx : meth.name = "charAt") {a0 : Nat} {p1 : Int32} (hf : f_J7_charAt D h0 a0 p1 = some r) : gx_G p l e R s m args below meth c D h0 h0 5 (gx_MQ below args s D h0 h0 (some (.int r))) 0 [(0, (va_rf (some a0))), (1, (.int p1))] [] h0 := by
  unfold f_J7_charAt at hf
  replace hf := gx_bs hf
  obtain ⟨_, -, hf⟩ := hf
  refine gx_aload_n C dJ7_charAt_0 0 rfl ?_
  replace hf := gx_bs hf
  obtain ⟨x1, g17, hf⟩ := hf
  refine gx_gi C g17 gz_71 q290 dJ7_charAt_1 ?_
  refine gx_istn C dJ7_charAt_4 2 rfl (by decide) [0, 1]  rfl (gx_okn rfl rfl (gx_okr rfl gx_catv_i gx_ok0)) ?_
  refine gx_aload_n C dJ7_charAt_5 1 rfl ?_
  replace hf := gx_bs hf
  obtain ⟨r2, g16, hf⟩ := hf
  refine gx_gr C g16 gz_69 q289 dJ7_charAt_6 ?_
  refine gx_astn C dJ7_charAt_9 3 rfl (by decide) [0, 1, 2]  rfl (gx_okr rfl gx_catv_i (gx_okn rfl rfl (gx_okn rfl rfl gx_ok0))) ?_
  refine gx_aload_n C dJ7_charAt_10 2 rfl ?_
  replace hf := gx_bs hf
  obtain ⟨x3, g15, hf⟩ := hf
  refine gx_gi C g15 gz_140 q293 dJ7_charAt_11 ?_
  refine gx_aload_n C dJ7_charAt_14 0 rfl ?_
  replace hf := gx_bs hf
  obtain ⟨a4, rfl, hf⟩ := hf
  replace hf := gx_bs hf
  obtain ⟨x5, g14, hf⟩ := hf
  refine gx_alen C g14 dJ7_charAt_15 ?_
  refine gx_iload_n C dJ7_charAt_16 1 rfl ?_
  refine gx_ishr C dJ7_charAt_17 ?_
  replace hf := gx_bs hf
  obtain ⟨x7, g6, hf⟩ := hf
  refine gx_callS (st := []) C (w_J12_min hlt g6) (lw_S q2248 q344 q137 q345) gz_135 (by decide) rfl rfl (gx_catn (Nat.le_of_ble_eq_true rfl)) dJ7_charAt_18 ?_
  refine gx_ist C dJ7_charAt_21 (by decide) [0, 1, 3]  rfl (gx_okr rfl gx_catv_r (gx_okn rfl rfl (gx_okn rfl rfl gx_ok0))) ?_
  refine gx_iload_n C dJ7_charAt_23 3 rfl ?_
  refine gx_iload C dJ7_charAt_24 0 rfl ?_
  replace hf := gx_bs hf
  obtain ⟨u13, g8, hf⟩ := hf
  refine gx_callS (st := []) C (w_J9_checkIndex hlt g8) (lw_S q2249 q1022 q134 q1023) gz_167 (by decide) rfl rfl (gx_catn (Nat.le_of_ble_eq_true rfl)) dJ7_charAt_26 ?_
  refine gx_iload_n C dJ7_charAt_29 2 rfl ?_
  replace hf := gx_ite hf
  rcases hf with ⟨c9, hf⟩ | ⟨c9, hf⟩
  · refine gx_if_ne_f (tgt := 42) C dJ7_charAt_30 rfl c9 ?_
    refine gx_aload_n C dJ7_charAt_33 1 rfl ?_
    refine gx_iload_n C dJ7_charAt_34 3 rfl ?_
    replace hf := gx_bs hf
    obtain ⟨x10, g12, hf⟩ := hf
    refine gx_bald C g12 dJ7_charAt_35 ?_
    refine gx_sipush (v := 255) C dJ7_charAt_36 rfl ?_
    refine gx_iand C dJ7_charAt_39 ?_
    refine gx_i2c C dJ7_charAt_40 ?_
    replace hf := gx_ite hf
    rcases hf with ⟨c11, hf⟩ | ⟨c11, hf⟩
    rotate_left
    · cases hf
    obtain rfl := Option.some.inj hf
    exact gx_nret C rfl (gx_ncr c11) dJ7_charAt_41
  · refine gx_if_ne_t (tgt := 42) C dJ7_charAt_30 rfl c9 ?_
    refine gx_aload_n C dJ7_charAt_42 1 rfl ?_
    refine gx_iload_n C dJ7_charAt_43 3 rfl ?_
    cases hf
theorem w_J7_charAt {l : Launch} (hlt : l.stackTraces = false) {D : gx_D} {h : HX} {a0 : Nat} {p1 : Int32} {r : Int32} (hf : f_J7_charAt D h a0 p1 = some r) : gx_Met l yJ7_charAt cJ7_charAt 5 (some .char) 3 67 D [(va_rf (some a0)), (.int p1)] h (some (.int r)) h :=
  gx_ofG gz_73 (by simp only [gx_lsr, gx_lsi, gx_lsj, gx_ls0]; decide) gx_le.rf (fun p e R s m args below meth c C hx => by
    simp only [gx_lar, gx_lai, gx_laj, gx_la0, Nat.reduceAdd]
    exact w_J7_charAt_b hlt C hx hf)
def f_J8_charAt (D : gx_D) (h : HX) (a0 : Nat) (p1 : Int32) : Option Int32 :=
  (hx_is h a0 [1]).bind fun _ =>
  (f_J7_charAt D h a0 p1).bind fun x2 =>
  if 0 ≤ x2 ∧ x2 ≤ 65535 then
  some x2
  else none
theorem is_J8_charAt {D : gx_D} {h : HX} {a0 : Nat} {p1 : Int32} {z} (hf : f_J8_charAt D h a0 p1 = some z) : gx_isC h a0 [1] := by
  unfold f_J8_charAt at hf
  obtain ⟨_, g, -⟩ := gx_bs hf
  exact hx_is_of g
theorem w_J8_charAt_b {l : Launch} (hlt : l.stackTraces = false) {p : Program} {e : Env} {R : Room} {s : State} {m : MethodId} {args : Array Value} {below : List Frame} {meth : Method} {c : Code} {D : gx_D} {h0 : HX} {r : Int32} (C : gx_Ctx p R s m args meth c "java/lang/StringBuilder" cJ8_charAt 2 (some .char) 4 91 D h0 h0) (hx : meth.name = "charAt") {a0 : Nat} {p1 : Int32} (hf : f_J8_charAt D h0 a0 p1 = some r) : gx_G p l e R s m args below meth c D h0 h0 2 (gx_MQ below args s D h0 h0 (some (.int r))) 0 [(0, (va_rf (some a0))), (1, (.int p1))] [] h0 := by
  unfold f_J8_charAt at hf
  replace hf := gx_bs hf
  obtain ⟨_, -, hf⟩ := hf
  refine gx_aload_n C dJ8_charAt_0 0 rfl ?_
  refine gx_iload_n C dJ8_charAt_1 1 rfl ?_
  replace hf := gx_bs hf
  obtain ⟨x2, g1, hf⟩ := hf
  refine gx_callSU (st := []) C (w_J7_charAt hlt g1) (is_J7_charAt g1) q2245 q3279 q302 q2246 q132 q2247 (by decide) gz_453 (by decide) rfl rfl (gx_catn (Nat.le_of_ble_eq_true rfl)) dJ8_charAt_2 ?_
  replace hf := gx_ite hf
  rcases hf with ⟨c3, hf⟩ | ⟨c3, hf⟩
  rotate_left
  · cases hf
  obtain rfl := Option.some.inj hf
  exact gx_nret C rfl (gx_ncr c3) dJ8_charAt_5
theorem w_J8_charAt {l : Launch} (hlt : l.stackTraces = false) {D : gx_D} {h : HX} {a0 : Nat} {p1 : Int32} {r : Int32} (hf : f_J8_charAt D h a0 p1 = some r) : gx_Met l yJ8_charAt cJ8_charAt 2 (some .char) 4 91 D [(va_rf (some a0)), (.int p1)] h (some (.int r)) h :=
  gx_ofG gz_75 (by simp only [gx_lsr, gx_lsi, gx_lsj, gx_ls0]; decide) gx_le.rf (fun p e R s m args below meth c C hx => by
    simp only [gx_lar, gx_lai, gx_laj, gx_la0, Nat.reduceAdd]
    exact w_J8_charAt_b hlt C hx hf)
def f_J3_init (D : gx_D) (h : HX) (a0 : Nat) : Option HX :=
  (hx_pr h a0 [5, 6, 7, 8, 17] 0 (some a0)).bind fun h1 =>
  (hx_pr h1 a0 [5, 6, 7, 8, 17] 1 (D.2.2.2 0)).bind fun h2 =>
  (hx_pr h2 a0 [5, 6, 7, 8, 17] 2 (D.2.2.2 1)).bind fun h3 =>
  none
theorem w_J3_init_b {l : Launch} (hlt : l.stackTraces = false) {p : Program} {e : Env} {R : Room} {s : State} {m : MethodId} {args : Array Value} {below : List Frame} {meth : Method} {c : Code} {D : gx_D} {h0 : HX} {hz : HX} (C : gx_Ctx p R s m args meth c "java/lang/Throwable" cJ3_init 1 none 1 24 D h0 hz) (hx : meth.name = "<init>") {a0 : Nat} (hf : f_J3_init D h0 a0 = some hz) : gx_G p l e R s m args below meth c D h0 hz 1 (gx_MQ below args s D h0 hz none) 0 [(0, (va_rf (some a0)))] [] h0 := by
  unfold f_J3_init at hf
  refine gx_aload_n C dJ3_init_0 0 rfl ?_
  refine gx_objInit (st := []) C q250 q188 q189 (by decide) (by decide) dJ3_init_1 ?_
  refine gx_aload_n C dJ3_init_4 0 rfl ?_
  refine gx_aload_n C dJ3_init_5 0 rfl ?_
  replace hf := gx_bs hf
  obtain ⟨h1, g6, hf⟩ := hf
  refine gx_putv C g6 gz_195 gz_196 (gx_narrow_r rfl _).1 (gx_narrow_r rfl _).2 q505 dJ3_init_6 ?_
  refine gx_aload_n C dJ3_init_9 0 rfl ?_
  refine gx_statq C 21 rfl q251 dJ3_init_10 ?_
  replace hf := gx_bs hf
  obtain ⟨h2, g5, hf⟩ := hf
  refine gx_putv C g5 gz_197 gz_198 (gx_narrow_r rfl _).1 (gx_narrow_r rfl _).2 q506 dJ3_init_13 ?_
  refine gx_aload_n C dJ3_init_16 0 rfl ?_
  refine gx_statq C 22 rfl q253 dJ3_init_17 ?_
  replace hf := gx_bs hf
  obtain ⟨h3, g4, hf⟩ := hf
  refine gx_putv C g4 gz_199 gz_45 (gx_narrow_r rfl _).1 (gx_narrow_r rfl _).2 q507 dJ3_init_20 ?_
  refine gx_aload_n C dJ3_init_23 0 rfl ?_
  cases hf
theorem le_J3_init {D : gx_D} {hz : HX} {h : HX} {a0 : Nat} (hf : f_J3_init D h a0 = some hz) : gx_le h hz := by
  unfold f_J3_init at hf
  replace hf := gx_bs hf
  obtain ⟨h1, g6, hf⟩ := hf
  refine (hx_le_pv g6).tr ?_
  replace hf := gx_bs hf
  obtain ⟨h2, g5, hf⟩ := hf
  refine (hx_le_pv g5).tr ?_
  replace hf := gx_bs hf
  obtain ⟨h3, g4, hf⟩ := hf
  refine (hx_le_pv g4).tr ?_
  cases hf
theorem w_J3_init {l : Launch} (hlt : l.stackTraces = false) {D : gx_D} {h : HX} {a0 : Nat} {hz : HX} (hf : f_J3_init D h a0 = some hz) : gx_Met l yJ3_init cJ3_init 1 none 1 24 D [(va_rf (some a0))] h none hz :=
  gx_ofG gz_201 (by simp only [gx_lsr, gx_lsi, gx_lsj, gx_ls0]; decide) (le_J3_init hf) (fun p e R s m args below meth c C hx => by
    simp only [gx_lar, gx_lai, gx_laj, gx_la0, Nat.reduceAdd]
    exact w_J3_init_b hlt C hx hf)
def f_J4_init_3 (D : gx_D) (h : HX) (a0 : Nat) : Option HX :=
  (f_J3_init D h a0).bind fun h2 =>
  some h2
theorem w_J4_init_3_b {l : Launch} (hlt : l.stackTraces = false) {p : Program} {e : Env} {R : Room} {s : State} {m : MethodId} {args : Array Value} {below : List Frame} {meth : Method} {c : Code} {D : gx_D} {h0 : HX} {hz : HX} (C : gx_Ctx p R s m args meth c "java/lang/Exception" cJ4_init_3 1 none 2 44 D h0 hz) (hx : meth.name = "<init>") {a0 : Nat} (hf : f_J4_init_3 D h0 a0 = some hz) : gx_G p l e R s m args below meth c D h0 hz 1 (gx_MQ below args s D h0 hz none) 0 [(0, (va_rf (some a0)))] [] h0 := by
  unfold f_J4_init_3 at hf
  refine gx_aload_n C dJ4_init_3_0 0 rfl ?_
  replace hf := gx_bs hf
  obtain ⟨h2, g1, hf⟩ := hf
  refine gx_callI (st := []) C (w_J3_init hlt g1) q1674 q248 q128 q249 rfl gz_455 (by decide) rfl rfl (gx_catn (Nat.le_of_ble_eq_true rfl)) dJ4_init_3_1 ?_
  obtain rfl := Option.some.inj hf
  exact gx_vret C dJ4_init_3_4
theorem le_J4_init_3 {D : gx_D} {hz : HX} {h : HX} {a0 : Nat} (hf : f_J4_init_3 D h a0 = some hz) : gx_le h hz := by
  unfold f_J4_init_3 at hf
  replace hf := gx_bs hf
  obtain ⟨h2, g1, hf⟩ := hf
  refine (le_J3_init g1).tr ?_
  obtain rfl := Option.some.inj hf
  exact gx_le.rf
theorem w_J4_init_3 {l : Launch} (hlt : l.stackTraces = false) {D : gx_D} {h : HX} {a0 : Nat} {hz : HX} (hf : f_J4_init_3 D h a0 = some hz) : gx_Met l yJ4_init_3 cJ4_init_3 1 none 2 44 D [(va_rf (some a0))] h none hz :=
  gx_ofG gz_203 (by simp only [gx_lsr, gx_lsi, gx_lsj, gx_ls0]; decide) (le_J4_init_3 hf) (fun p e R s m args below meth c C hx => by
    simp only [gx_lar, gx_lai, gx_laj, gx_la0, Nat.reduceAdd]
    exact w_J4_init_3_b hlt C hx hf)
def f_J5_init_2 (D : gx_D) (h : HX) (a0 : Nat) : Option HX :=
  (f_J4_init_3 D h a0).bind fun h2 =>
  some h2
theorem w_J5_init_2_b {l : Launch} (hlt : l.stackTraces = false) {p : Program} {e : Env} {R : Room} {s : State} {m : MethodId} {args : Array Value} {below : List Frame} {meth : Method} {c : Code} {D : gx_D} {h0 : HX} {hz : HX} (C : gx_Ctx p R s m args meth c "java/lang/RuntimeException" cJ5_init_2 1 none 3 64 D h0 hz) (hx : meth.name = "<init>") {a0 : Nat} (hf : f_J5_init_2 D h0 a0 = some hz) : gx_G p l e R s m args below meth c D h0 hz 1 (gx_MQ below args s D h0 hz none) 0 [(0, (va_rf (some a0)))] [] h0 := by
  unfold f_J5_init_2 at hf
  refine gx_aload_n C dJ5_init_2_0 0 rfl ?_
  replace hf := gx_bs hf
  obtain ⟨h2, g1, hf⟩ := hf
  refine gx_callI (st := []) C (w_J4_init_3 hlt g1) q1671 q1672 q129 q1673 rfl gz_456 (by decide) rfl rfl (gx_catn (Nat.le_of_ble_eq_true rfl)) dJ5_init_2_1 ?_
  obtain rfl := Option.some.inj hf
  exact gx_vret C dJ5_init_2_4
theorem le_J5_init_2 {D : gx_D} {hz : HX} {h : HX} {a0 : Nat} (hf : f_J5_init_2 D h a0 = some hz) : gx_le h hz := by
  unfold f_J5_init_2 at hf
  replace hf := gx_bs hf
  obtain ⟨h2, g1, hf⟩ := hf
  refine (le_J4_init_3 g1).tr ?_
  obtain rfl := Option.some.inj hf
  exact gx_le.rf
theorem w_J5_init_2 {l : Launch} (hlt : l.stackTraces = false) {D : gx_D} {h : HX} {a0 : Nat} {hz : HX} (hf : f_J5_init_2 D h a0 = some hz) : gx_Met l yJ5_init_2 cJ5_init_2 1 none 3 64 D [(va_rf (some a0))] h none hz :=
  gx_ofG gz_457 (by simp only [gx_lsr, gx_lsi, gx_lsj, gx_ls0]; decide) (le_J5_init_2 hf) (fun p e R s m args below meth c C hx => by
    simp only [gx_lar, gx_lai, gx_laj, gx_la0, Nat.reduceAdd]
    exact w_J5_init_2_b hlt C hx hf)
def f_J26_init_2 (D : gx_D) (h : HX) (a0 : Nat) : Option HX :=
  (f_J5_init_2 D h a0).bind fun h2 =>
  some h2
theorem w_J26_init_2_b {l : Launch} (hlt : l.stackTraces = false) {p : Program} {e : Env} {R : Room} {s : State} {m : MethodId} {args : Array Value} {below : List Frame} {meth : Method} {c : Code} {D : gx_D} {h0 : HX} {hz : HX} (C : gx_Ctx p R s m args meth c "java/lang/IndexOutOfBoundsException" cJ26_init_2 1 none 4 84 D h0 hz) (hx : meth.name = "<init>") {a0 : Nat} (hf : f_J26_init_2 D h0 a0 = some hz) : gx_G p l e R s m args below meth c D h0 hz 1 (gx_MQ below args s D h0 hz none) 0 [(0, (va_rf (some a0)))] [] h0 := by
  unfold f_J26_init_2 at hf
  refine gx_aload_n C dJ26_init_2_0 0 rfl ?_
  replace hf := gx_bs hf
  obtain ⟨h2, g1, hf⟩ := hf
  refine gx_callI (st := []) C (w_J5_init_2 hlt g1) q2286 q1669 q130 q1670 rfl gz_458 (by decide) rfl rfl (gx_catn (Nat.le_of_ble_eq_true rfl)) dJ26_init_2_1 ?_
  obtain rfl := Option.some.inj hf
  exact gx_vret C dJ26_init_2_4
theorem le_J26_init_2 {D : gx_D} {hz : HX} {h : HX} {a0 : Nat} (hf : f_J26_init_2 D h a0 = some hz) : gx_le h hz := by
  unfold f_J26_init_2 at hf
  replace hf := gx_bs hf
  obtain ⟨h2, g1, hf⟩ := hf
  refine (le_J5_init_2 g1).tr ?_
  obtain rfl := Option.some.inj hf
  exact gx_le.rf
theorem w_J26_init_2 {l : Launch} (hlt : l.stackTraces = false) {D : gx_D} {h : HX} {a0 : Nat} {hz : HX} (hf : f_J26_init_2 D h a0 = some hz) : gx_Met l yJ26_init_2 cJ26_init_2 1 none 4 84 D [(va_rf (some a0))] h none hz :=
  gx_ofG gz_459 (by simp only [gx_lsr, gx_lsi, gx_lsj, gx_ls0]; decide) (le_J26_init_2 hf) (fun p e R s m args below meth c C hx => by
    simp only [gx_lar, gx_lai, gx_laj, gx_la0, Nat.reduceAdd]
    exact w_J26_init_2_b hlt C hx hf)
def f_J6_init_2 (D : gx_D) (h : HX) (a0 : Nat) : Option HX :=
  (f_J5_init_2 D h a0).bind fun h2 =>
  some h2
theorem w_J6_init_2_b {l : Launch} (hlt : l.stackTraces = false) {p : Program} {e : Env} {R : Room} {s : State} {m : MethodId} {args : Array Value} {below : List Frame} {meth : Method} {c : Code} {D : gx_D} {h0 : HX} {hz : HX} (C : gx_Ctx p R s m args meth c "java/lang/IllegalArgumentException" cJ6_init_2 1 none 4 84 D h0 hz) (hx : meth.name = "<init>") {a0 : Nat} (hf : f_J6_init_2 D h0 a0 = some hz) : gx_G p l e R s m args below meth c D h0 hz 1 (gx_MQ below args s D h0 hz none) 0 [(0, (va_rf (some a0)))] [] h0 := by
  unfold f_J6_init_2 at hf
  refine gx_aload_n C dJ6_init_2_0 0 rfl ?_
  replace hf := gx_bs hf
  obtain ⟨h2, g1, hf⟩ := hf
  refine gx_callI (st := []) C (w_J5_init_2 hlt g1) q2441 q1669 q130 q1670 rfl gz_458 (by decide) rfl rfl (gx_catn (Nat.le_of_ble_eq_true rfl)) dJ6_init_2_1 ?_
  obtain rfl := Option.some.inj hf
  exact gx_vret C dJ6_init_2_4
theorem le_J6_init_2 {D : gx_D} {hz : HX} {h : HX} {a0 : Nat} (hf : f_J6_init_2 D h a0 = some hz) : gx_le h hz := by
  unfold f_J6_init_2 at hf
  replace hf := gx_bs hf
  obtain ⟨h2, g1, hf⟩ := hf
  refine (le_J5_init_2 g1).tr ?_
  obtain rfl := Option.some.inj hf
  exact gx_le.rf
theorem w_J6_init_2 {l : Launch} (hlt : l.stackTraces = false) {D : gx_D} {h : HX} {a0 : Nat} {hz : HX} (hf : f_J6_init_2 D h a0 = some hz) : gx_Met l yJ6_init_2 cJ6_init_2 1 none 4 84 D [(va_rf (some a0))] h none hz :=
  gx_ofG gz_469 (by simp only [gx_lsr, gx_lsi, gx_lsj, gx_ls0]; decide) (le_J6_init_2 hf) (fun p e R s m args below meth c C hx => by
    simp only [gx_lar, gx_lai, gx_laj, gx_la0, Nat.reduceAdd]
    exact w_J6_init_2_b hlt C hx hf)
def f_J24_init_2 (D : gx_D) (h : HX) (a0 : Nat) : Option HX :=
  (f_J5_init_2 D h a0).bind fun h2 =>
  some h2
theorem w_J24_init_2_b {l : Launch} (hlt : l.stackTraces = false) {p : Program} {e : Env} {R : Room} {s : State} {m : MethodId} {args : Array Value} {below : List Frame} {meth : Method} {c : Code} {D : gx_D} {h0 : HX} {hz : HX} (C : gx_Ctx p R s m args meth c "java/lang/IllegalStateException" cJ24_init_2 1 none 4 84 D h0 hz) (hx : meth.name = "<init>") {a0 : Nat} (hf : f_J24_init_2 D h0 a0 = some hz) : gx_G p l e R s m args below meth c D h0 hz 1 (gx_MQ below args s D h0 hz none) 0 [(0, (va_rf (some a0)))] [] h0 := by
  unfold f_J24_init_2 at hf
  refine gx_aload_n C dJ24_init_2_0 0 rfl ?_
  replace hf := gx_bs hf
  obtain ⟨h2, g1, hf⟩ := hf
  refine gx_callI (st := []) C (w_J5_init_2 hlt g1) q2546 q1669 q130 q1670 rfl gz_458 (by decide) rfl rfl (gx_catn (Nat.le_of_ble_eq_true rfl)) dJ24_init_2_1 ?_
  obtain rfl := Option.some.inj hf
  exact gx_vret C dJ24_init_2_4
theorem le_J24_init_2 {D : gx_D} {hz : HX} {h : HX} {a0 : Nat} (hf : f_J24_init_2 D h a0 = some hz) : gx_le h hz := by
  unfold f_J24_init_2 at hf
  replace hf := gx_bs hf
  obtain ⟨h2, g1, hf⟩ := hf
  refine (le_J5_init_2 g1).tr ?_
  obtain rfl := Option.some.inj hf
  exact gx_le.rf
theorem w_J24_init_2 {l : Launch} (hlt : l.stackTraces = false) {D : gx_D} {h : HX} {a0 : Nat} {hz : HX} (hf : f_J24_init_2 D h a0 = some hz) : gx_Met l yJ24_init_2 cJ24_init_2 1 none 4 84 D [(va_rf (some a0))] h none hz :=
  gx_ofG gz_482 (by simp only [gx_lsr, gx_lsi, gx_lsj, gx_ls0]; decide) (le_J24_init_2 hf) (fun p e R s m args below meth c C hx => by
    simp only [gx_lar, gx_lai, gx_laj, gx_la0, Nat.reduceAdd]
    exact w_J24_init_2_b hlt C hx hf)
def f_J23_init (D : gx_D) (h : HX) (a0 : Nat) : Option HX :=
  (f_J5_init_2 D h a0).bind fun h2 =>
  some h2
theorem w_J23_init_b {l : Launch} (hlt : l.stackTraces = false) {p : Program} {e : Env} {R : Room} {s : State} {m : MethodId} {args : Array Value} {below : List Frame} {meth : Method} {c : Code} {D : gx_D} {h0 : HX} {hz : HX} (C : gx_Ctx p R s m args meth c "java/util/NoSuchElementException" cJ23_init 1 none 4 84 D h0 hz) (hx : meth.name = "<init>") {a0 : Nat} (hf : f_J23_init D h0 a0 = some hz) : gx_G p l e R s m args below meth c D h0 hz 1 (gx_MQ below args s D h0 hz none) 0 [(0, (va_rf (some a0)))] [] h0 := by
  unfold f_J23_init at hf
  refine gx_aload_n C dJ23_init_0 0 rfl ?_
  replace hf := gx_bs hf
  obtain ⟨h2, g1, hf⟩ := hf
  refine gx_callI (st := []) C (w_J5_init_2 hlt g1) q1668 q1669 q130 q1670 rfl gz_458 (by decide) rfl rfl (gx_catn (Nat.le_of_ble_eq_true rfl)) dJ23_init_1 ?_
  obtain rfl := Option.some.inj hf
  exact gx_vret C dJ23_init_4
theorem le_J23_init {D : gx_D} {hz : HX} {h : HX} {a0 : Nat} (hf : f_J23_init D h a0 = some hz) : gx_le h hz := by
  unfold f_J23_init at hf
  replace hf := gx_bs hf
  obtain ⟨h2, g1, hf⟩ := hf
  refine (le_J5_init_2 g1).tr ?_
  obtain rfl := Option.some.inj hf
  exact gx_le.rf
theorem w_J23_init {l : Launch} (hlt : l.stackTraces = false) {D : gx_D} {h : HX} {a0 : Nat} {hz : HX} (hf : f_J23_init D h a0 = some hz) : gx_Met l yJ23_init cJ23_init 1 none 4 84 D [(va_rf (some a0))] h none hz :=
  gx_ofG gz_486 (by simp only [gx_lsr, gx_lsi, gx_lsj, gx_ls0]; decide) (le_J23_init hf) (fun p e R s m args below meth c C hx => by
    simp only [gx_lar, gx_lai, gx_laj, gx_la0, Nat.reduceAdd]
    exact w_J23_init_b hlt C hx hf)
def f_J17_isEmpty (D : gx_D) (h : HX) (a0 : Nat) : Option Bool :=
  (hx_is h a0 [3]).bind fun _ =>
  (hx_gi h a0 [3] 1).bind fun x1 =>
  (hx_gi h a0 [3] 2).bind fun x2 =>
  if x1 = x2 then
  some true
  else
  some false
theorem is_J17_isEmpty {D : gx_D} {h : HX} {a0 : Nat} {z} (hf : f_J17_isEmpty D h a0 = some z) : gx_isC h a0 [3] := by
  unfold f_J17_isEmpty at hf
  obtain ⟨_, g, -⟩ := gx_bs hf
  exact hx_is_of g
theorem w_J17_isEmpty_b {l : Launch} (hlt : l.stackTraces = false) {p : Program} {e : Env} {R : Room} {s : State} {m : MethodId} {args : Array Value} {below : List Frame} {meth : Method} {c : Code} {D : gx_D} {h0 : HX} {r : Bool} (C : gx_Ctx p R s m args meth c "java/util/ArrayDeque" cJ17_isEmpty 1 (some .boolean) 1 24 D h0 h0) (hx : meth.name = "isEmpty") {a0 : Nat} (hf : f_J17_isEmpty D h0 a0 = some r) : gx_G p l e R s m args below meth c D h0 h0 1 (gx_MQ below args s D h0 h0 (some (.int (b2i r)))) 0 [(0, (va_rf (some a0)))] [] h0 := by
  unfold f_J17_isEmpty at hf
  replace hf := gx_bs hf
  obtain ⟨_, -, hf⟩ := hf
  refine gx_aload_n C dJ17_isEmpty_0 0 rfl ?_
  replace hf := gx_bs hf
  obtain ⟨x1, g5, hf⟩ := hf
  refine gx_gi C g5 gz_261 q649 dJ17_isEmpty_1 ?_
  refine gx_aload_n C dJ17_isEmpty_4 0 rfl ?_
  replace hf := gx_bs hf
  obtain ⟨x2, g4, hf⟩ := hf
  refine gx_gi C g4 gz_262 q650 dJ17_isEmpty_5 ?_
  replace hf := gx_ite hf
  rcases hf with ⟨c3, hf⟩ | ⟨c3, hf⟩
  · refine gx_icmp_ne_f (tgt := 15) C dJ17_isEmpty_8 rfl c3 ?_
    refine gx_iconst (v := 1) C dJ17_isEmpty_11 rfl ?_
    refine gx_goto (tgt := 16) C dJ17_isEmpty_12 rfl ?_
    obtain rfl := Option.some.inj hf
    exact gx_zret (b := true) C dJ17_isEmpty_16
  · refine gx_icmp_ne_t (tgt := 15) C dJ17_isEmpty_8 rfl c3 ?_
    refine gx_iconst (v := 0) C dJ17_isEmpty_15 rfl ?_
    obtain rfl := Option.some.inj hf
    exact gx_zret (b := false) C dJ17_isEmpty_16
theorem w_J17_isEmpty {l : Launch} (hlt : l.stackTraces = false) {D : gx_D} {h : HX} {a0 : Nat} {r : Bool} (hf : f_J17_isEmpty D h a0 = some r) : gx_Met l yJ17_isEmpty cJ17_isEmpty 1 (some .boolean) 1 24 D [(va_rf (some a0))] h (some (.int (b2i r))) h :=
  gx_ofG gz_77 (by simp only [gx_lsr, gx_lsi, gx_lsj, gx_ls0]; decide) gx_le.rf (fun p e R s m args below meth c C hx => by
    simp only [gx_lar, gx_lai, gx_laj, gx_la0, Nat.reduceAdd]
    exact w_J17_isEmpty_b hlt C hx hf)
def f_J17_dec (D : gx_D) (h : HX) (p0 : Int32) (p1 : Int32) : Option Int32 :=
  if 0 ≤ (p0 + (-1 : Int32)) then
  some ((p0 + (-1 : Int32)))
  else
  some ((p1 - (1 : Int32)))
theorem w_J17_dec_b {l : Launch} (hlt : l.stackTraces = false) {p : Program} {e : Env} {R : Room} {s : State} {m : MethodId} {args : Array Value} {below : List Frame} {meth : Method} {c : Code} {D : gx_D} {h0 : HX} {r : Int32} (C : gx_Ctx p R s m args meth c "java/util/ArrayDeque" cJ17_dec 2 (some .int) 1 24 D h0 h0) (hx : meth.name = "dec") {p0 : Int32} {p1 : Int32} (hf : f_J17_dec D h0 p0 p1 = some r) : gx_G p l e R s m args below meth c D h0 h0 2 (gx_MQ below args s D h0 h0 (some (.int r))) 0 [(0, (.int p0)), (1, (.int p1))] [] h0 := by
  unfold f_J17_dec at hf
  refine gx_inc (v := -1) C dJ17_dec_0 0 rfl rfl (by decide) [1] rfl (gx_okn rfl rfl gx_ok0) ?_
  refine gx_iload_n C dJ17_dec_3 0 rfl ?_
  replace hf := gx_ite hf
  rcases hf with ⟨c1, hf⟩ | ⟨c1, hf⟩
  · refine gx_if_ge_t (tgt := 11) C dJ17_dec_4 rfl c1 ?_
    refine gx_iload_n C dJ17_dec_11 0 rfl ?_
    obtain rfl := Option.some.inj hf
    exact gx_iret C dJ17_dec_12
  · refine gx_if_ge_f (tgt := 11) C dJ17_dec_4 rfl c1 ?_
    refine gx_iload_n C dJ17_dec_7 1 rfl ?_
    refine gx_iconst (v := 1) C dJ17_dec_8 rfl ?_
    refine gx_isub C dJ17_dec_9 ?_
    refine gx_istn C dJ17_dec_10 0 rfl (by decide) []  rfl gx_ok0 ?_
    refine gx_iload_n C dJ17_dec_11 0 rfl ?_
    obtain rfl := Option.some.inj hf
    exact gx_iret C dJ17_dec_12
theorem w_J17_dec {l : Launch} (hlt : l.stackTraces = false) {D : gx_D} {h : HX} {p0 : Int32} {p1 : Int32} {r : Int32} (hf : f_J17_dec D h p0 p1 = some r) : gx_Met l yJ17_dec cJ17_dec 2 (some .int) 1 24 D [(.int p0), (.int p1)] h (some (.int r)) h :=
  gx_ofG gz_77 (by simp only [gx_lsr, gx_lsi, gx_lsj, gx_ls0]; decide) gx_le.rf (fun p e R s m args below meth c C hx => by
    simp only [gx_lar, gx_lai, gx_laj, gx_la0, Nat.reduceAdd]
    exact w_J17_dec_b hlt C hx hf)
def f_J17_pollLast (D : gx_D) (h : HX) (a0 : Nat) : Option ((Option Nat) × HX) :=
  (hx_is h a0 [3]).bind fun _ =>
  (hx_gr h a0 [3] 0).bind fun r1 =>
  (hx_gi h a0 [3] 2).bind fun x2 =>
  r1.bind fun a3 =>
  (hx_len h a3).bind fun x4 =>
  (f_J17_dec D h x2 x4).bind fun x6 =>
  (f_J17_elementAt D h (some a3) x6).bind fun r8 =>
  gx_on r8 (
  some (none, h)) fun a9 =>
  (hx_pi h a0 [3] 2 x6).bind fun h10 =>
  (hx_sr h10 a3 4 [11, 13, 15, 2] x6 none).bind fun h11 =>
  some ((some a9), h11)
theorem is_J17_pollLast {D : gx_D} {h : HX} {a0 : Nat} {z} (hf : f_J17_pollLast D h a0 = some z) : gx_isC h a0 [3] := by
  unfold f_J17_pollLast at hf
  obtain ⟨_, g, -⟩ := gx_bs hf
  exact hx_is_of g
theorem w_J17_pollLast_b {l : Launch} (hlt : l.stackTraces = false) {p : Program} {e : Env} {R : Room} {s : State} {m : MethodId} {args : Array Value} {below : List Frame} {meth : Method} {c : Code} {D : gx_D} {h0 : HX} {r : Option Nat} {hz : HX} (C : gx_Ctx p R s m args meth c "java/util/ArrayDeque" cJ17_pollLast 4 (some (.object "java/lang/Object")) 2 45 D h0 hz) (hx : meth.name = "pollLast") {a0 : Nat} (hf : f_J17_pollLast D h0 a0 = some (r, hz)) : gx_G p l e R s m args below meth c D h0 hz 4 (gx_MQ below args s D h0 hz (some (va_rf r))) 0 [(0, (va_rf (some a0)))] [] h0 := by
  unfold f_J17_pollLast at hf
  replace hf := gx_bs hf
  obtain ⟨_, -, hf⟩ := hf
  refine gx_aload_n C dJ17_pollLast_0 0 rfl ?_
  replace hf := gx_bs hf
  obtain ⟨r1, g16, hf⟩ := hf
  refine gx_gr C g16 gz_76 q648 dJ17_pollLast_1 ?_
  refine gx_dup C dJ17_pollLast_4 (gx_rfcat _) ?_
  refine gx_astn C dJ17_pollLast_5 1 rfl (by decide) [0]  rfl (gx_okr rfl gx_catv_r gx_ok0) ?_
  refine gx_aload_n C dJ17_pollLast_6 1 rfl ?_
  replace hf := gx_bs hf
  obtain ⟨x2, g15, hf⟩ := hf
  refine gx_gi C g15 gz_262 q650 dJ17_pollLast_7 ?_
  refine gx_aload_n C dJ17_pollLast_10 0 rfl ?_
  replace hf := gx_bs hf
  obtain ⟨a3, rfl, hf⟩ := hf
  replace hf := gx_bs hf
  obtain ⟨x4, g14, hf⟩ := hf
  refine gx_alen C g14 dJ17_pollLast_11 ?_
  replace hf := gx_bs hf
  obtain ⟨x6, g5, hf⟩ := hf
  refine gx_callS (st := [(va_rf (some a3))]) C (w_J17_dec hlt g5) (lw_S q2586 q2587 q145 q2588) gz_488 (by decide) rfl rfl (gx_catn (Nat.le_of_ble_eq_true rfl)) dJ17_pollLast_12 ?_
  refine gx_dup C dJ17_pollLast_15 rfl ?_
  refine gx_istn C dJ17_pollLast_16 2 rfl (by decide) [0, 1]  rfl (gx_okr rfl gx_catv_r (gx_okn rfl rfl gx_ok0)) ?_
  replace hf := gx_bs hf
  obtain ⟨r8, g7, hf⟩ := hf
  refine gx_callS (st := []) C (w_J17_elementAt hlt g7) (lw_S q1650 q1651 q145 q1652) gz_288 (by decide) rfl rfl (gx_catn (Nat.le_of_ble_eq_true rfl)) dJ17_pollLast_17 ?_
  refine gx_astn C dJ17_pollLast_20 3 rfl (by decide) [0, 1, 2]  rfl (gx_okr rfl gx_catv_i (gx_okn rfl rfl (gx_okn rfl rfl gx_ok0))) ?_
  refine gx_aload_n C dJ17_pollLast_21 0 rfl ?_
  rcases r8 with _ | a9
  · replace hf := gx_on_n hf
    refine gx_ifnull_t (tgt := 34) C dJ17_pollLast_22 rfl ?_
    refine gx_aload_n C dJ17_pollLast_34 0 rfl ?_
    obtain ⟨rfl, rfl⟩ := Prod.mk.inj (Option.some.inj hf)
    exact gx_aret C rfl rfl dJ17_pollLast_35
  · replace hf := gx_on_s hf
    refine gx_ifnull_f C dJ17_pollLast_22 ?_
    refine gx_aload_n C dJ17_pollLast_25 2 rfl ?_
    refine gx_aload_n C dJ17_pollLast_26 3 rfl ?_
    refine gx_iload_n C dJ17_pollLast_27 1 rfl ?_
    refine gx_dup_x1 C dJ17_pollLast_28 rfl rfl ?_
    replace hf := gx_bs hf
    obtain ⟨h10, g13, hf⟩ := hf
    refine gx_putv C g13 gz_262 gz_1 rfl rfl q650 dJ17_pollLast_29 ?_
    refine gx_null C dJ17_pollLast_32 ?_
    replace hf := gx_bs hf
    obtain ⟨h11, g12, hf⟩ := hf
    refine gx_aast C gz_9 (t := 4) rfl g12 dJ17_pollLast_33 ?_
    refine gx_aload_n C dJ17_pollLast_34 0 rfl ?_
    obtain ⟨rfl, rfl⟩ := Prod.mk.inj (Option.some.inj hf)
    exact gx_aret C rfl rfl dJ17_pollLast_35
theorem le_J17_pollLast {D : gx_D} {r : Option Nat} {hz : HX} {h : HX} {a0 : Nat} (hf : f_J17_pollLast D h a0 = some (r, hz)) : gx_le h hz := by
  unfold f_J17_pollLast at hf
  replace hf := gx_bs hf
  obtain ⟨_, -, hf⟩ := hf
  replace hf := gx_bs hf
  obtain ⟨r1, g16, hf⟩ := hf
  replace hf := gx_bs hf
  obtain ⟨x2, g15, hf⟩ := hf
  replace hf := gx_bs hf
  obtain ⟨a3, rfl, hf⟩ := hf
  replace hf := gx_bs hf
  obtain ⟨x4, g14, hf⟩ := hf
  replace hf := gx_bs hf
  obtain ⟨x6, g5, hf⟩ := hf
  replace hf := gx_bs hf
  obtain ⟨r8, g7, hf⟩ := hf
  rcases r8 with _ | a9
  · replace hf := gx_on_n hf
    obtain ⟨rfl, rfl⟩ := Prod.mk.inj (Option.some.inj hf)
    exact gx_le.rf
  · replace hf := gx_on_s hf
    replace hf := gx_bs hf
    obtain ⟨h10, g13, hf⟩ := hf
    refine (hx_le_pv g13).tr ?_
    replace hf := gx_bs hf
    obtain ⟨h11, g12, hf⟩ := hf
    refine (hx_le_sr g12).tr ?_
    obtain ⟨rfl, rfl⟩ := Prod.mk.inj (Option.some.inj hf)
    exact gx_le.rf
theorem w_J17_pollLast {l : Launch} (hlt : l.stackTraces = false) {D : gx_D} {h : HX} {a0 : Nat} {r : Option Nat} {hz : HX} (hf : f_J17_pollLast D h a0 = some (r, hz)) : gx_Met l yJ17_pollLast cJ17_pollLast 4 (some (.object "java/lang/Object")) 2 45 D [(va_rf (some a0))] h (some (va_rf r)) hz :=
  gx_ofG gz_77 (by simp only [gx_lsr, gx_lsi, gx_lsj, gx_ls0]; decide) (le_J17_pollLast hf) (fun p e R s m args below meth c C hx => by
    simp only [gx_lar, gx_lai, gx_laj, gx_la0, Nat.reduceAdd]
    exact w_J17_pollLast_b hlt C hx hf)
def f_J17_removeLast (D : gx_D) (h : HX) (a0 : Nat) : Option ((Option Nat) × HX) :=
  (hx_is h a0 [3]).bind fun _ =>
  gx_b2 (f_J17_pollLast D h a0) fun r2 h3 =>
  gx_on r2 (
  none) fun a4 =>
  some ((some a4), h3)
theorem is_J17_removeLast {D : gx_D} {h : HX} {a0 : Nat} {z} (hf : f_J17_removeLast D h a0 = some z) : gx_isC h a0 [3] := by
  unfold f_J17_removeLast at hf
  obtain ⟨_, g, -⟩ := gx_bs hf
  exact hx_is_of g
theorem w_J17_removeLast_b {l : Launch} (hlt : l.stackTraces = false) {p : Program} {e : Env} {R : Room} {s : State} {m : MethodId} {args : Array Value} {below : List Frame} {meth : Method} {c : Code} {D : gx_D} {h0 : HX} {r : Option Nat} {hz : HX} (C : gx_Ctx p R s m args meth c "java/util/ArrayDeque" cJ17_removeLast 2 (some (.object "java/lang/Object")) 3 68 D h0 hz) (hx : meth.name = "removeLast") {a0 : Nat} (hf : f_J17_removeLast D h0 a0 = some (r, hz)) : gx_G p l e R s m args below meth c D h0 hz 2 (gx_MQ below args s D h0 hz (some (va_rf r))) 0 [(0, (va_rf (some a0)))] [] h0 := by
  unfold f_J17_removeLast at hf
  replace hf := gx_bs hf
  obtain ⟨_, -, hf⟩ := hf
  refine gx_aload_n C dJ17_removeLast_0 0 rfl ?_
  replace hf := gx_b2s hf
  obtain ⟨r2, h3, g1, hf⟩ := hf
  refine gx_callV (st := []) C (w_J17_pollLast hlt g1) (is_J17_pollLast g1) gz_115 rfl (lw_V q2582 q2583 q2584 q145 q2585) gz_489 (by decide) rfl rfl (gx_catn (Nat.le_of_ble_eq_true rfl)) dJ17_removeLast_1 ?_
  refine gx_astn C dJ17_removeLast_4 1 rfl (by decide) []  rfl gx_ok0 ?_
  refine gx_aload_n C dJ17_removeLast_5 0 rfl ?_
  rcases r2 with _ | a4
  · replace hf := gx_on_n hf
    refine gx_ifnonnull_f C dJ17_removeLast_6 ?_
    cases hf
  · replace hf := gx_on_s hf
    refine gx_ifnonnull_t (tgt := 17) C dJ17_removeLast_6 rfl ?_
    refine gx_aload_n C dJ17_removeLast_17 0 rfl ?_
    obtain ⟨rfl, rfl⟩ := Prod.mk.inj (Option.some.inj hf)
    exact gx_aret C rfl rfl dJ17_removeLast_18
theorem le_J17_removeLast {D : gx_D} {r : Option Nat} {hz : HX} {h : HX} {a0 : Nat} (hf : f_J17_removeLast D h a0 = some (r, hz)) : gx_le h hz := by
  unfold f_J17_removeLast at hf
  replace hf := gx_bs hf
  obtain ⟨_, -, hf⟩ := hf
  replace hf := gx_b2s hf
  obtain ⟨r2, h3, g1, hf⟩ := hf
  refine (le_J17_pollLast g1).tr ?_
  rcases r2 with _ | a4
  · replace hf := gx_on_n hf
    cases hf
  · replace hf := gx_on_s hf
    obtain ⟨rfl, rfl⟩ := Prod.mk.inj (Option.some.inj hf)
    exact gx_le.rf
theorem w_J17_removeLast {l : Launch} (hlt : l.stackTraces = false) {D : gx_D} {h : HX} {a0 : Nat} {r : Option Nat} {hz : HX} (hf : f_J17_removeLast D h a0 = some (r, hz)) : gx_Met l yJ17_removeLast cJ17_removeLast 2 (some (.object "java/lang/Object")) 3 68 D [(va_rf (some a0))] h (some (va_rf r)) hz :=
  gx_ofG gz_77 (by simp only [gx_lsr, gx_lsi, gx_lsj, gx_ls0]; decide) (le_J17_removeLast hf) (fun p e R s m args below meth c C hx => by
    simp only [gx_lar, gx_lai, gx_laj, gx_la0, Nat.reduceAdd]
    exact w_J17_removeLast_b hlt C hx hf)
