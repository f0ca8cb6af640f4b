/-! more rows for the printed walks -/
set_option maxRecDepth 100000
def hx_isb (h : HX) (a : Nat) (cis : List Nat) : Bool := (hx_is h a cis).isSome
/-- an array of type t -/
def hx_isA (h : HX) (a t : Nat) : Option Unit := match h.2.2 a with
  | some (_, .inl (t', _, _)) => if t' = t then some () else none
  | _ => none
def hx_new (h : HX) (n ci : Nat) (fs : List Value) : Option (Nat × HX) := some (h.1, hx_push h n (.inr (ci, fs)))
def hx_fz1 (h : HX) (a : Nat) : HX := hx_frz h fun q => decide (q = a)
def gx_on {α : Type} (r : Option Nat) (x : α) (f : Nat → α) : α := match r with
  | none => x
  | some a => f a
theorem gx_on_n {α : Type} {x z : α} {f : Nat → α} (h : gx_on none x f = z) : x = z := h
theorem gx_on_s {α : Type} {x z : α} {f : Nat → α} {a : Nat} (h : gx_on (some a) x f = z) : f a = z := h
/-- the word of an operator, by its address -/
def gx_ow (D : gx_D) (a : Nat) : Option Nat := (gx_ofs.find? fun z => decide (D.2.2.1 z.2.2.2.1 = a)).map fun z => D.2.2.1 z.2.2.2.2
theorem hx_le_new {h h1 : HX} {n ci a : Nat} {fs : List Value} (g : hx_new h n ci fs = some (a, h1)) : gx_le h h1 := by
  cases g
  exact gx_le.push
theorem gx_le.frz1 {h : HX} {a : Nat} : gx_le h (hx_fz1 h a) := gx_le.frz
theorem gx_ite {α : Type} {P : Prop} [Decidable P] {a b z : α} (h : (if P then a else b) = z) : (P ∧ a = z) ∨ (¬ P ∧ b = z) := by
  by_cases c : P
  · rw [if_pos c] at h; exact Or.inl ⟨c, h⟩
  · rw [if_neg c] at h; exact Or.inr ⟨c, h⟩
theorem gx_cok0 {E : String} : gx_castOk [] E := fun ci h => nomatch h
theorem gx_cok1 {E : String} {a : Nat} {cis : List Nat} {q : vw_C} (hq : gx_cl[a]? = some q) (h : q.1 = E ∨ Cond.castable q.1 E ∈ lw_tbl) (t : gx_castOk cis E) : gx_castOk (a :: cis) E := fun ci hc => by
  rcases List.mem_cons.mp hc with rfl | hc
  · exact ⟨q, hq, h⟩
  · exact t ci hc
theorem gx_cis0 {P : vw_C → Prop} : ∀ ci ∈ ([] : List Nat), ∀ q, gx_cl[ci]? = some q → P q := fun ci h => nomatch h
theorem gx_cis1 {P : vw_C → Prop} {a : Nat} {cis : List Nat} {q0 : vw_C} (hq : gx_cl[a]? = some q0) (h : P q0) (t : ∀ ci ∈ cis, ∀ q, gx_cl[ci]? = some q → P q) : ∀ ci ∈ a :: cis, ∀ q, gx_cl[ci]? = some q → P q := fun ci hc q hq2 => by
  rcases List.mem_cons.mp hc with rfl | hc
  · cases hq.symm.trans hq2
    exact h
  · exact t ci hc q hq2
theorem gx_nz (b : Bool) : narrow .boolean (.int (b2i b)) = .int (b2i b) ∧ fits .boolean (.int (b2i b)) = true := by cases b <;> exact ⟨by decide, by decide⟩
theorem gx_nb {x : Int32} (h : (Int32.toInt8 x).toInt32 = x) : narrow .byte (.int x) = .int x ∧ fits .byte (.int x) = true := by
  have e : narrow .byte (.int x) = .int x := by show Value.int _ = _; rw [show x.toInt8.toInt32 = x from h]
  have h2 := congrArg Int32.toInt h
  rw [Int8.toInt_toInt32] at h2
  have h3 := Int8.le_toInt x.toInt8
  have h4 := Int8.toInt_lt x.toInt8
  refine ⟨e, ?_⟩
  simp only [fits, decide_eq_true_eq]
  simp only [Int32.le_iff_toInt_le]
  have h5 : (-128 : Int32).toInt = -128 := by decide
  have h6 : (127 : Int32).toInt = 127 := by decide
  simp
  omega
theorem gx_nnI {x : Int32} (h : 0 ≤ x) : x = nI x.toNatClampNeg := by
  have h1 := gx_nn h
  have h2 : x.toNatClampNeg < 2 ^ 31 := by
    have := Int32.toInt_lt x
    omega
  exact Int32.toInt_inj.mp (by rw [nI_toInt h2, h1])
theorem gx_ncr {x : Int32} (h : 0 ≤ x ∧ x ≤ 65535) : narrow .char (.int x) = .int x := by
  have h1 := gx_nnI h.1
  have h2 := gx_nn h.1
  have h3 := Int32.le_iff_toInt_le.mp h.2
  have h4 : (65535 : Int32).toInt = 65535 := by decide
  rw [h4] at h3
  rw [h1]
  exact (pk_charN (by omega)).1
theorem gx_tout {x : Int32} {a b : Int32} (h : x < a ∨ b < x) : x.toInt < a.toInt ∨ b.toInt < x.toInt := h.imp Int32.lt_iff_toInt_lt.mp Int32.lt_iff_toInt_lt.mp
theorem gx_lswd {ps : List (Int × Int)} {d k : Int} (h : ∀ q ∈ ps, q.1 ≠ k) : Op.lookupswitch.offset ps d k = d := by
  induction ps with
  | nil => rfl
  | cons q t ih =>
    obtain ⟨a, o⟩ := q
    rw [Op.lookupswitch.offset_cons, if_neg (h (a, o) List.mem_cons_self)]
    exact ih fun q hq => h q (List.mem_cons_of_mem _ hq)
theorem gx_lsn {x k : Int32} (h : ¬ x = k) : k.toInt ≠ x.toInt := fun e => h (Int32.toInt_inj.mp e.symm)
theorem gx_lsn2 {x k : Int32} {n : Int} (hk : k.toInt = n) (h : ¬ x = k) : n ≠ x.toInt := by
  subst hk
  exact gx_lsn h
theorem gx_lq0 {k : Int} : ∀ q ∈ ([] : List (Int × Int)), q.1 ≠ k := fun q h => nomatch h
theorem gx_lq1 {k a o : Int} {t : List (Int × Int)} (h : a ≠ k) (ht : ∀ q ∈ t, q.1 ≠ k) : ∀ q ∈ (a, o) :: t, q.1 ≠ k := fun q hq => by
  rcases List.mem_cons.mp hq with rfl | hq
  · exact h
  · exact ht q hq
theorem gx_catv_i {x : Int32} : (Value.int x).category = 1 := rfl
theorem gx_catv_r {r : Option Nat} : (va_rf r).category = 1 := gx_rfcat r
theorem gx_ok0 {i : Nat} : gx_ok i [] := trivial
theorem gx_okn {i k : Nat} {v : Value} {L : List (Nat × Value)} (h : Nat.beq k i = false) (h2 : Nat.beq (k + 1) i = false) (t : gx_ok i L) : gx_ok i ((k, v) :: L) := by
  refine ⟨?_, t⟩
  show (match Nat.beq k i with
    | true => False
    | false => match Nat.beq (k + 1) i with
      | true => v.category = 1
      | false => True)
  rw [h, h2]
  exact trivial
theorem gx_okr {i k : Nat} {v : Value} {L : List (Nat × Value)} (h : Nat.beq k i = false) (hc : v.category = 1) (t : gx_ok i L) : gx_ok i ((k, v) :: L) := by
  refine ⟨?_, t⟩
  show (match Nat.beq k i with
    | true => False
    | false => match Nat.beq (k + 1) i with
      | true => v.category = 1
      | false => True)
  rw [h]
  cases Nat.beq (k + 1) i with
  | true => exact hc
  | false => exact trivial
theorem gx_cati {x : Int32} : (Value.int x).category = 1 := rfl
section GXM
variable {p : Program} {l : Launch} {e : Env} {R : Room} {s : State} {m : MethodId} {args : Array Value} {below : List Frame} {meth : Method} {c : Code} {Q : State → Prop}
variable {own : String} {cc : ByteArray} {nL : Nat} {rt : Option FieldType} {fr lo : Nat} {D : gx_D} {h0 hz h h1 : HX} {pc : Nat} {L L1 : List (Nat × Value)} {st : List Value}
theorem gx_decl (C : gx_Ctx p R s m args meth c own cc nL rt fr lo D h0 hz) {x : MethodName} (h : Cond.declares x ∈ lw_tbl) : va_Decl s x := va_Decl.abs (C.K.2.2.1 _ h rfl)
theorem gx_priv (C : gx_Ctx p R s m args meth c own cc nL rt fr lo D h0 hz) {z : String × MethodName} (i : Nat) (h : gx_privs[i]? = some z) : (Cond.selects z.1 z.2 z.2).before args s = true := va_tabs rfl rfl (C.K.2.2.2.2.2.2.1 z (List.mem_of_getElem? h))
theorem gx_newN (C : gx_Ctx p R s m args meth c own cc nL rt fr lo D h0 hz) {i ci a n : Nat} {q : vw_C} {fs : List Value} {ty : Nat → FieldType} (hg : hx_new h n ci fs = some (a, h1)) (hq : gx_cl[ci]? = some q) (hty : ∀ k, k < n → parseFieldDescriptor (q.2.1 k).2.2.1 = some (ty k)) (hfs : fs = (List.range n).map fun k => defaultValue (ty k)) (hcl : Cond.classLink own i q.1 ∈ lw_all) (hin : Cond.instantiable q.1 n ∈ lw_all) (hini : Cond.initialized q.1 ∈ lw_all) (d : decode cc pc = .ok (.new i, 3)) (hqn : q.2.2 = n := by rfl)
    (k1 : gx_G p l e R s m args below meth c D h0 hz nL Q (pc + 3) L (va_rf (some a) :: st) h1) : gx_G p l e R s m args below meth c D h0 hz nL Q pc L st h := by
  subst hqn
  cases hg
  exact gx_new C hq hty hfs hcl hin hini d k1
theorem gx_ldcwS (C : gx_Ctx p R s m args meth c own cc nL rt fr lo D h0 hz) {i : Nat} {tx : String} (j : Nat) (hj : gx_strs[j]? = some (own, i, tx)) (d : decode cc pc = .ok (.ldc_w i, 3))
    (k1 : gx_G p l e R s m args below meth c D h0 hz nL Q (pc + 3) L (va_rf (some (D.2.2.1 j)) :: st) h) : gx_G p l e R s m args below meth c D h0 hz nL Q pc L st h :=
  gx_lift (fun _ _ ls _ w => by
    intro T hT X
    obtain ⟨t, a1, b1⟩ := w T hT X
    exact ⟨t, X.ldcStringW C.exec C.hown (text := tx) (a := D.2.2.1 j) (C.K.2.2.2.2.2.1 j _ hj).1 (C.K.2.2.2.2.2.1 j _ hj).2 (g := F0 m pc ls st) rfl (by rw [C.bytes]; exact d) t a1, b1⟩) k1
theorem gx_castAL (C : gx_Ctx p R s m args meth c own cc nL rt fr lo D h0 hz) {a i t : Nat} {E nm : String} {u : Unit} (hM : hx_isA h a t = some u) (ht : gx_tys[t]? = some (.object E)) (hnm : nm = "[" ++ (FieldType.object E).toString) (hcl : Cond.classLink own i nm ∈ lw_all) (d : decode cc pc = .ok (.checkcast i, 3))
    (k1 : gx_G p l e R s m args below meth c D h0 hz nL Q (pc + 3) L (va_rf (some a) :: st) h) : gx_G p l e R s m args below meth c D h0 hz nL Q pc L (va_rf (some a) :: st) h := by
  unfold hx_isA at hM
  split at hM
  · rename_i b t' n x hx
    by_cases ht' : t' = t
    · subst ht'
      exact gx_castA C hx ht hnm hcl d k1
    · rw [if_neg ht'] at hM; cases hM
  · cases hM
theorem gx_castAB (C : gx_Ctx p R s m args meth c own cc nL rt fr lo D h0 hz) {a i : Nat} {u : Unit} (hM : hx_isA h a 1 = some u) (hcl : Cond.classLink own i "[B" ∈ lw_all) (d : decode cc pc = .ok (.checkcast i, 3))
    (k1 : gx_G p l e R s m args below meth c D h0 hz nL Q (pc + 3) L (va_rf (some a) :: st) h) : gx_G p l e R s m args below meth c D h0 hz nL Q pc L (va_rf (some a) :: st) h := by
  unfold hx_isA at hM
  split at hM
  · rename_i b t' n x hx
    by_cases ht' : t' = 1
    · subst ht'
      refine ⟨k1.1, fun H locs ls hl hc => ?_⟩
      have e4 : s.vm.findClass "[B" = some (D.2.1 1) := (C.K.2.1 1 .byte rfl).2
      exact va_castA (D := D.1) (cl := gx_cl) C.exec C.bytes C.hown (C.hts _ hcl) (gx_P1 hc.1 hx) 0 rfl e4 d (k1.2 H locs ls hl hc)
    · rw [if_neg ht'] at hM; cases hM
  · cases hM
theorem gx_newarr_int (C : gx_Ctx p R s m args meth c own cc nL rt fr lo D h0 hz) {x : Int32} {a : Nat} (hg : hx_newa h 0 x (fun _ => .inl fun _ => 0) = some (a, h1)) (hq : Cond.arrayClass .int ∈ lw_all) (d : decode cc pc = .ok (.newarray .int, 2))
    (k1 : gx_G p l e R s m args below meth c D h0 hz nL Q (pc + 2) L (va_rf (some a) :: st) h1) : gx_G p l e R s m args below meth c D h0 hz nL Q pc L (.int x :: st) h := gx_newarr C (aty := .int) hg rfl (by decide) (fun h => h) (fun _ _ => rfl) hq d k1
theorem gx_newarr_byte (C : gx_Ctx p R s m args meth c own cc nL rt fr lo D h0 hz) {x : Int32} {a : Nat} (hg : hx_newa h 1 x (fun _ => .inl fun _ => 0) = some (a, h1)) (hq : Cond.arrayClass .byte ∈ lw_all) (d : decode cc pc = .ok (.newarray .byte, 2))
    (k1 : gx_G p l e R s m args below meth c D h0 hz nL Q (pc + 2) L (va_rf (some a) :: st) h1) : gx_G p l e R s m args below meth c D h0 hz nL Q pc L (.int x :: st) h := gx_newarr C (aty := .byte) hg rfl (by decide) (fun h => h) (fun _ _ => rfl) hq d k1
theorem gx_newarr_boolean (C : gx_Ctx p R s m args meth c own cc nL rt fr lo D h0 hz) {x : Int32} {a : Nat} (hg : hx_newa h 3 x (fun _ => .inl fun _ => 0) = some (a, h1)) (hq : Cond.arrayClass .boolean ∈ lw_all) (d : decode cc pc = .ok (.newarray .boolean, 2))
    (k1 : gx_G p l e R s m args below meth c D h0 hz nL Q (pc + 2) L (va_rf (some a) :: st) h1) : gx_G p l e R s m args below meth c D h0 hz nL Q pc L (.int x :: st) h := gx_newarr C (aty := .boolean) hg rfl (by decide) (fun h => h) (fun _ _ => rfl) hq d k1
theorem gx_newarr_long (C : gx_Ctx p R s m args meth c own cc nL rt fr lo D h0 hz) {x : Int32} {a : Nat} (hg : hx_newa h 2 x (fun _ => .inr (.inl fun _ => 0)) = some (a, h1)) (hq : Cond.arrayClass .long ∈ lw_all) (d : decode cc pc = .ok (.newarray .long, 2))
    (k1 : gx_G p l e R s m args below meth c D h0 hz nL Q (pc + 2) L (va_rf (some a) :: st) h1) : gx_G p l e R s m args below meth c D h0 hz nL Q pc L (.int x :: st) h := gx_newarr C (aty := .long) hg rfl (by decide) (fun h => h) (fun _ _ => rfl) hq d k1
theorem gx_getOW (C : gx_Ctx p R s m args meth c own cc nL rt fr lo D h0 hz) {a r i : Nat} {host : String} (hg : gx_ow D a = some r) (hq : Cond.fieldLinkNest own i "ContractMachine$Operator" "word" "Ljava/lang/String;" host ∈ lw_tbl) (d : decode cc pc = .ok (.getfield i, 3))
    (k1 : gx_G p l e R s m args below meth c D h0 hz nL Q (pc + 3) L (va_rf (some r) :: st) h) : gx_G p l e R s m args below meth c D h0 hz nL Q pc L (va_rf (some a) :: st) h := by
  unfold gx_ow at hg
  cases hf : gx_ofs.find? (fun z => decide (D.2.2.1 z.2.2.2.1 = a)) with
  | none => rw [hf] at hg; cases hg
  | some z =>
    rw [hf] at hg
    cases hg
    have h1 := List.find?_some hf
    have h2 := List.mem_of_find?_eq_some hf
    have h3 : D.2.2.1 z.2.2.2.1 = a := of_decide_eq_true h1
    subst h3
    obtain ⟨j, hj⟩ := List.getElem?_of_mem h2
    have h4 : z.1 = "ContractMachine$Operator" ∧ z.2.1 = "word" ∧ z.2.2.1 = "Ljava/lang/String;" := (show ∀ z ∈ gx_ofs, z.1 = "ContractMachine$Operator" ∧ z.2.1 = "word" ∧ z.2.2.1 = "Ljava/lang/String;" by decide +kernel) z h2
    exact gx_getO C j hj (host := host) (by rw [h4.1, h4.2.1, h4.2.2]; exact hq) d k1
theorem gx_statk (C : gx_Ctx p R s m args meth c own cc nL rt fr lo D h0 hz) {i : Nat} {n : Nat} {zc zn zd : String} (j : Nat) (hj : gx_stats[j]? = some (zc, zn, zd, .inr (.inl n))) (hq : Cond.fieldLink own i zc zn zd ∈ lw_all) (d : decode cc pc = .ok (.getstatic i, 3))
    (k1 : gx_G p l e R s m args below meth c D h0 hz nL Q (pc + 3) L (va_rf (some (D.2.2.1 n)) :: st) h) : gx_G p l e R s m args below meth c D h0 hz nL Q pc L st h := gx_stat C j hj hq d k1
theorem gx_statq (C : gx_Ctx p R s m args meth c own cc nL rt fr lo D h0 hz) {i : Nat} {n : Nat} {zc zn zd : String} (j : Nat) (hj : gx_stats[j]? = some (zc, zn, zd, .inr (.inr n))) (hq : Cond.fieldLink own i zc zn zd ∈ lw_all) (d : decode cc pc = .ok (.getstatic i, 3))
    (k1 : gx_G p l e R s m args below meth c D h0 hz nL Q (pc + 3) L (va_rf (D.2.2.2 n) :: st) h) : gx_G p l e R s m args below meth c D h0 hz nL Q pc L st h := gx_stat C j hj hq d k1
theorem gx_stati (C : gx_Ctx p R s m args meth c own cc nL rt fr lo D h0 hz) {i : Nat} {n : Int32} {zc zn zd : String} (j : Nat) (hj : gx_stats[j]? = some (zc, zn, zd, .inl n)) (hq : Cond.fieldLink own i zc zn zd ∈ lw_all) (d : decode cc pc = .ok (.getstatic i, 3))
    (k1 : gx_G p l e R s m args below meth c D h0 hz nL Q (pc + 3) L (.int n :: st) h) : gx_G p l e R s m args below meth c D h0 hz nL Q pc L st h := gx_stat C j hj hq d k1
theorem gx_statNk (C : gx_Ctx p R s m args meth c own cc nL rt fr lo D h0 hz) {i : Nat} {n : Nat} {host : String} {zc zn zd : String} (j : Nat) (hj : gx_stats[j]? = some (zc, zn, zd, .inr (.inl n))) (hq : Cond.fieldLinkNest own i zc zn zd host ∈ lw_tbl) (d : decode cc pc = .ok (.getstatic i, 3))
    (k1 : gx_G p l e R s m args below meth c D h0 hz nL Q (pc + 3) L (va_rf (some (D.2.2.1 n)) :: st) h) : gx_G p l e R s m args below meth c D h0 hz nL Q pc L st h := gx_statN C j hj hq d k1
theorem gx_statNq (C : gx_Ctx p R s m args meth c own cc nL rt fr lo D h0 hz) {i : Nat} {n : Nat} {host : String} {zc zn zd : String} (j : Nat) (hj : gx_stats[j]? = some (zc, zn, zd, .inr (.inr n))) (hq : Cond.fieldLinkNest own i zc zn zd host ∈ lw_tbl) (d : decode cc pc = .ok (.getstatic i, 3))
    (k1 : gx_G p l e R s m args below meth c D h0 hz nL Q (pc + 3) L (va_rf (D.2.2.2 n) :: st) h) : gx_G p l e R s m args below meth c D h0 hz nL Q pc L st h := gx_statN C j hj hq d k1
theorem gx_statNi (C : gx_Ctx p R s m args meth c own cc nL rt fr lo D h0 hz) {i : Nat} {n : Int32} {host : String} {zc zn zd : String} (j : Nat) (hj : gx_stats[j]? = some (zc, zn, zd, .inl n)) (hq : Cond.fieldLinkNest own i zc zn zd host ∈ lw_tbl) (d : decode cc pc = .ok (.getstatic i, 3))
    (k1 : gx_G p l e R s m args below meth c D h0 hz nL Q (pc + 3) L (.int n :: st) h) : gx_G p l e R s m args below meth c D h0 hz nL Q pc L st h := gx_statN C j hj hq d k1
theorem gx_frz1 {a : Nat} (k1 : gx_G p l e R s m args below meth c D h0 hz nL Q pc L st (hx_fz1 h a)) : gx_G p l e R s m args below meth c D h0 hz nL Q pc L st h := gx_frz k1
theorem gx_putvS (C : gx_Ctx p R s m args meth c own cc nL rt fr lo D h0 hz) {a k i : Nat} {cis : List Nat} {v : Value} {ow ref nm ds : String} (hg : hx_pv h a cis k v = some h1) (hf : gx_fld cis k ow nm ds false = true) {ty : FieldType} (hd : parseFieldDescriptor ds = some ty) (hn : narrow ty v = v) (hfit : fits ty v = true) (hsm : Cond.sameField ref ow nm ds ∈ lw_all) (hq : Cond.fieldLink own i ref nm ds ∈ lw_all) (d : decode cc pc = .ok (.putfield i, 3))
    (k1 : gx_G p l e R s m args below meth c D h0 hz nL Q (pc + 3) L st h1) : gx_G p l e R s m args below meth c D h0 hz nL Q pc L (v :: va_rf (some a) :: st) h := by
  obtain ⟨c1, fs, hM, hci, hkl, rfl⟩ := hx_pv_of hg
  obtain ⟨q, hq1, hk, hT⟩ := gx_fld_of hf hci
  refine ⟨(gx_le.set hM (fun ci fs' e => by cases e; exact ⟨_, rfl⟩)).tr k1.1, fun H locs ls hl hc => ?_⟩
  obtain ⟨r, hr, hlen, cell, q1, q2, q3, q4⟩ := hc.1.2 a _ _ hM
  cases hq1.symm.trans hr
  have hap := gx_apart C.hts C.K hq1
  obtain ⟨hS, hfc, kC, hkC, hkind⟩ := C.K.1 c1 q hq1
  obtain ⟨cf, kf, fi, f, hi, hsl⟩ := hS k hk
  have hlay := C.hts _ (gx_cl_in c1 q hq1 _ (u_in_lay hk))
  have hst := (u_facts hfc hkC (u_lays C.hts (gx_cl_in c1 q hq1) hk) hi).1
  unfold u_lay at hlay
  rw [hT] at hi hlay
  rw [if_neg (by simp)] at hlay
  have h6 := u_store hfc hkC hkind hlay hi hd hn hfit
  have hi2 := gx_same_of C.hts hsm _ hi
  refine W.putK C.exec C.bytes (f := f) ⟨C.hown, C.hts _ hq, ⟨_, _, _, hi2⟩, hst⟩ (by rw [q2]; exact h6) q1 q3 (by rw [hsl]; exact k2_hasslot (q4 k hk)) rfl rfl d fun H' e1 e2 e3 => ?_
  rw [hsl] at e1 ⊢
  exact k1.2 H' _ ls hl (hc.put hM ⟨q, hq1, by simp [hlen], t_OB.to (V := updV (vp_V fs) k v) ⟨_, e1, q2, q3, t_set q4 hap hk v⟩ (fun j _ => vp_updV_set hkl v j)⟩ (fun ci fs' e => by cases e; exact ⟨_, rfl⟩) e2 e3)
end GXM
/-- the same of a class of which the machine runs some members itself -/
theorem gx_ofGF {l : Launch} {y : MethodName} {cc : ByteArray} {nL : Nat} {rt : Option FieldType} {fr lo : Nat} {D : gx_D} {av : List Value} {h0 hz : HX} {rv : Option Value} (hy : plainFor y = true) (hav : (lg_sl av).length ≤ nL) (hle : gx_le h0 hz)
    (body : ∀ (p : Program) (e : Env) (R : Room) (s : State) (m : MethodId) (args : Array Value) (below : List Frame) (meth : Method) (c : Code), gx_Ctx p R s m args meth c y.cls cc nL rt fr lo D h0 hz → meth.name = y.name → gx_G p l e R s m args below meth c D h0 hz nL (gx_MQ below args s D h0 hz rv) 0 (lv_args 0 av) [] h0) : gx_Met l y cc nL rt fr lo D av h0 rv hz := by
  refine ⟨hle, va_MetF (cc := cc) (maxL := nL) (ret := rt) hy rfl ?_⟩
  intro p e s m args below meth c s₁ B hml hv
  obtain ⟨rfl, hH, hK, hZ⟩ := hv
  have hts := atoms_spec (ws := ws_ y cc nL rt) B.pre
  have hts : ∀ w ∈ lw_all, w.before _ s = true := fun w h => hts w (List.mem_cons_of_mem _ h)
  have hown : s.vm.findClass y.cls = some m.cls := findClass_of_methodNamed B.named
  have hin : meth.name = y.name := (name_of_methodNamed B.named B.method).1
  have hl := lv_entry av (n := nL) hav
  rw [lg_entry_eq]
  have C : gx_Ctx p (headSpec (ws_ y cc nL rt) (gx_rm fr lo h0 hz)).room s m av.toArray meth c y.cls cc nL rt fr lo D h0 hz := ⟨⟨B.exec, B.bytes, hml, hown, hts⟩, hK, hZ, B.notSynchronized, hH.1.symm, B.returns, Nat.le_refl _, Nat.le_refl _, Nat.le_refl _, Nat.le_refl _, hH⟩
  have k := (body p e _ s m av.toArray below meth c C hin).2 s.heap [] _ hl ⟨hH, va_S.rf, fun a x hx => Or.inl ⟨x, hx⟩, gx_le.rf⟩
  rw [Nat.sub_self, Nat.sub_self] at k
  exact k
section GXD
variable {p : Program} {l : Launch} {e : Env} {R : Room} {s : State} {m : MethodId} {args : Array Value} {below : List Frame} {meth : Method} {c : Code} {Q : State → Prop} {H : Heap} {locs : List Loc} {cells slots : Nat}
theorem gx_runFD {x y : MethodName} {bytes cc : ByteArray} {maxL nL mc ms n index count : Nat} {ret : Option FieldType} {ws : List Cond} {rm : Room} {Pc : Array Value → State → Prop} {Qc : Array Value → State → Outcome → State → Prop} {free : Addr → Prop} {Ts : List Cond} {own C : String} {cC : ClassId} {b : Addr} {As rest : List Value} {g : JFrame}
    (hat : ClassAt s C cC) (S : CallFix p m c cc nL s args Ts own) (hM : Met l y ws rm Pc Qc mc ms free) (hrc : rm.cells = mc) (hrs : rm.slots = ms) (hfr : rm.frames + 1 ≤ R.frames) (hlo : 8 + (maxL + 11) + rm.locals ≤ R.locals) (hws : ∀ w ∈ ws, ∀ (a' : Array Value) (U : State), s.WarmedH U.vm → w.before a' U = true) (hcw : Cond.code y bytes maxL ret ∈ ws) (hini : (Cond.initialized y.cls).before args s = true) (hlink : (Cond.methodLink own index x).before args s = true) (hinst : (Cond.instanceMethod y).before args s = true) (hD : gx_Dw C x y s) (hnm : x.cls ≠ "java/lang/invoke/MethodHandle" ∧ x.cls ≠ "java/lang/invoke/VarHandle") (hlen : ∀ sig, parseMethodDescriptor x.desc = some sig → n = sig.parameters.length) (hp : PreV s H C b Pc As)
    (hg : g.method = m) (hn : As.length = n) (hsize : g.locals.size = nL) (hstack : g.stack = As.reverse ++ .ref b :: rest) (hW : 2 * g.monitorRoom + (rest.map fun v => v.category).sum ≤ 8) (hdg : decode cc g.pc = .ok (.invokeinterface index count, 5)) (hf : cells + mc ≤ R.cells ∧ slots + ms ≤ R.slots) :
    va_Run5 p l e R s m args below meth c H locs cells slots mc ms g rest (Qc (Value.ref b :: As).toArray) (free) := by
  have hK : Back l R p e below s args y 5 8 (PreOf R mc ms Pc) (PostOf Qc mc ms free) := back_of (bytes := bytes) (maxL := maxL) (ret := ret) hM hp.1 hrc hrs hfr hlo hws hcw (fun a' U hW => word_at hW (Or.inl (by first | rfl | simp [Cond.onTables, Cond.keeps, Cond.steady])) hini)
  obtain ⟨hx, hb, hml, ho, -⟩ := S
  obtain ⟨-, ⟨cellB, hcB, hoB, hclB⟩, hPc⟩ := hp
  obtain ⟨hfc, kB, hkB, -⟩ := hat
  cases hfc.symm.trans hclB
  intro T hT X
  obtain ⟨v, vm₁, ⟨U', l2, c2, s2⟩, hW₁, X', ⟨g', mk, t, L, e1, e2, hq, h1, hL, h2, h3⟩, st⟩ := X.interfaceBackD hx (C := C) ho hlink (va_tabs rfl rfl hD.1) (va_tabs rfl rfl hD.2.1) (gx_lands (u := s) hD.2.2.2.1) hinst (va_tabs rfl rfl hD.2.2.1) (va_tabs rfl rfl hD.2.2.2.2) hnm hK hclB hkB ⟨cellB, by rw [hT]; exact hcB, rfl, hoB⟩ hg (hsize.trans hml.symm) (Steps.refl _) (argsL := As) (rest := rest) (fun sig h => hn.trans (hlen sig h)) hstack hW (by rw [hb]; exact hdg)
    (fun vm₁ hW₁ => ⟨hf.1, hf.2, hPc (T.setVm vm₁) hT hW₁⟩)
  dsimp only [Pt.U, Pt.locs, Pt.cells, Pt.slots] at X' e1 e2 h1 h2 h3 st
  subst h1; subst h2; subst h3
  exact ⟨v, (T.setVm vm₁).calling g' mk (Value.ref b :: As).toArray, t, U', L, hT, X', hL, e1, e2, hq, fun target hh => st.trans hh⟩
end GXD
section GXE
variable {p : Program} {l : Launch} {e : Env} {R : Room} {s : State} {m : MethodId} {args : Array Value} {below : List Frame} {meth : Method} {c : Code} {Q : State → Prop}
variable {own : String} {cc : ByteArray} {nL : Nat} {rt : Option FieldType} {fr lo : Nat} {D : gx_D} {h0 hz h h1 : HX} {pc : Nat} {L L1 : List (Nat × Value)} {st : List Value}
theorem gx_callFD (C : gx_Ctx p R s m args meth c own cc nL rt fr lo D h0 hz) {i n cnt b : Nat} {cis : List Nat} {x y : MethodName} {cc' : ByteArray} {nL' fr' lo' : Nat} {rt' : Option FieldType} {As st0 : List Value} {rv : Option Value} (hM : gx_Met l y cc' nL' rt' fr' lo' D (va_rf (some b) :: As) h rv h1) (hi : gx_isC h b cis) (hlink : Cond.methodLink own i x ∈ lw_all) (hF : ∀ ci ∈ cis, ∀ q, gx_cl[ci]? = some q → (q.1, x, y) ∈ gx_dfl) (hnm : x.cls ≠ "java/lang/invoke/MethodHandle" ∧ x.cls ≠ "java/lang/invoke/VarHandle") (hinst : Cond.instanceMethod y ∈ lw_all) (hini : Cond.initialized y.cls ∈ lw_all) (hcode : Cond.code y cc' nL' rt' ∈ lw_all) (hm : gx_mok x n) (hR : fr' + 1 ≤ fr ∧ 8 + (nL' + 11) + lo' ≤ lo) (hn : As.length = n) (hs : st0 = As.reverse ++ va_rf (some b) :: st) (hcat : (st.map fun v => v.category).sum ≤ 8) (d : decode cc pc = .ok (.invokeinterface i cnt, 5))
    (k1 : gx_G p l e R s m args below meth c D h0 hz nL Q (pc + 5) L (rv.toList ++ st) h1) : gx_G p l e R s m args below meth c D h0 hz nL Q pc L st0 h := by
  refine ⟨hM.1.tr k1.1, fun H locs ls hl hc => ?_⟩
  have hR1 := C.hfr
  have hR2 := C.hlo
  obtain ⟨ci, q, hci, hq, cell, f1, f2, f3, -⟩ := gx_recv C.K hc.1 hi
  have hFa := hF ci hci q hq
  refine gx_run (a := (Value.ref b :: As).toArray) C hM.1 hl hc ?_ k1
  exact gx_runFD (C := q.1) (x := x) (b := b) (As := As) (n := n) (C.K.1 ci q hq).2 C.fix hM.2 rfl rfl (by show fr' + 1 ≤ _; omega) (by show _ + lo' ≤ _; omega) (pay_in C.hts (lw_meth hcode)) List.mem_cons_self (C.hts _ hini) (C.hts _ hlink) (C.hts _ hinst) (C.K.2.2.2.2.2.2.2.2 _ hFa) hnm (fun sig hh => by
    have h2 := hm.2.2
    rw [hh] at h2
    exact (Option.some.inj h2).symm) ⟨gx_Pc.blind, ⟨cell, f1, f2, f3⟩, gx_Pc.start C.K C.Z C.size hc⟩ rfl hn hl.1 hs (lv_room hcat) d (gx_room C hc hM.1 k1.1)
end GXE
