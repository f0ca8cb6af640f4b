/-! methods that throw: an answer, or an object thrown (its class, its address); handlers -/
set_option maxRecDepth 100000
abbrev gx_Rs : Type := Option Value ⊕ (String × Nat)
def gx_XC (D : gx_D) (h0 hz : HX) (E0 : String) (q0 : Nat) : Addr → String → State → State → Prop := fun q E st t => q = q0 ∧ E = E0 ∧ gx_H D hz t.heap ∧ va_F (gx_A h0) st t ∧ ∀ (a : Nat) (x : gx_E), hz.2.2 a = some (true, x) → gx_A h0 a
def gx_Qx (D : gx_D) (h0 hz : HX) (res : gx_Rs) : Array Value → State → Outcome → State → Prop := match res with
  | .inl rv => gx_Q D h0 hz rv
  | .inr _ => fun _ _ _ _ => False
def gx_Xx (D : gx_D) (h0 hz : HX) (res : gx_Rs) : Addr → String → State → State → Prop := match res with
  | .inl _ => fun _ _ _ _ => False
  | .inr z => gx_XC D h0 hz z.1 z.2
/-- a contract: answers, or throws; ws: the method's words -/
def gx_MetX (l : Launch) (y : MethodName) (ws : List Cond) (fr lo : Nat) (D : gx_D) (av : List Value) (h0 : HX) (res : gx_Rs) (hz : HX) : Prop :=
  gx_le h0 hz ∧ vx_Met l y ws (gx_rm fr lo h0 hz) (gx_Pc D h0 av) (gx_Qx D h0 hz res) (gx_Xx D h0 hz res) (hz.1 - h0.1) (hz.2.1 - h0.2.1) (gx_A h0)
abbrev gx_MQX (below : List Frame) (args : Array Value) (s : State) (D : gx_D) (h0 hz : HX) (res : gx_Rs) : State → Prop := vx_MQ below (gx_Qx D h0 hz res) (gx_Xx D h0 hz res) args s (hz.1 - h0.1) (hz.2.1 - h0.2.1) (gx_A h0)
/-- the machine throws the object at q, of class E, at pc -/
def gx_T (p : Program) (l : Launch) (e : Env) (R : Room) (s : State) (m : MethodId) (args : Array Value) (below : List Frame) (meth : Method) (c : Code) (D : gx_D) (h0 hz : HX) (nL : Nat) (Q : State → Prop) (E : String) (q pc : Nat) (L : List (Nat × Value)) (h : HX) : Prop :=
  gx_le h hz ∧ ∀ (H : Heap) (locs : List Loc) (ls : Array Slot) (rest : List Value), lv_has ls nL L → gx_Cur D h0 h s H locs → (∃ ce : Cell, H[q]? = some ce ∧ ce.vm = .none ∧ s.vm.findClass E = some ce.cls) → vx_W p l e R s m args below meth c H locs (h.1 - h0.1) (h.2.1 - h0.2.1) Q (F0 m pc ls rest) q
/-- a new cell of which nothing is said -/
def hx_skip (h : HX) (k n : Nat) : HX := (h.1 + k, h.2.1 + n, fun a => if a < h.1 then h.2.2 a else none)
theorem gx_le.skip {h : HX} {k n : Nat} : gx_le h (hx_skip h k n) := ⟨Nat.le_add_right _ _, Nat.le_add_right _ _, fun a b ci fs ha he => ⟨b, fs, by simp only [hx_skip, if_pos ha]; exact he⟩, fun a x ha he => by simp only [hx_skip, if_pos ha]; exact he, fun a ha he => by simp only [hx_skip, if_pos ha]; exact he⟩
theorem gx_Cur.skip {D : gx_D} {h0 h : HX} {s : State} {H H1 : Heap} {locs : List Loc} {k n : Nat} (hc : gx_Cur D h0 h s H locs) (z : H1.size = H.size + k) (oq : ∀ q, q < H.size → H1[q]? = H[q]?) : gx_Cur D h0 (hx_skip h k n) s H1 locs := by
  obtain ⟨c1, c2, c3, c4⟩ := hc
  refine ⟨⟨by rw [z, c1.1]; rfl, fun a b x hx => ?_⟩, ⟨by rw [z]; exact Nat.le_trans c2.1 (Nat.le_add_right _ _), fun q h1 h2 => (oq q (Nat.lt_of_lt_of_le h1 c2.1)).trans (c2.2.1 q h1 h2), c2.2.2⟩, fun a x hx => ?_, c4.tr gx_le.skip⟩
  · simp only [hx_skip] at hx
    split at hx
    · rename_i ha
      exact (c1.2 a b x hx).kept (oq a (by rw [c1.1]; exact ha))
    · cases hx
  · simp only [hx_skip] at hx
    split at hx
    · exact c3 a x hx
    · cases hx
section GXX
variable {p : Program} {l : Launch} {e : Env} {R : Room} {s : State} {m : MethodId} {args : Array Value} {below : List Frame} {meth : Method} {c : Code} {Q : State → Prop}
variable {own : String} {cc : ByteArray} {nL : Nat} {rt : Option FieldType} {fr lo : Nat} {D : gx_D} {h0 hz h h1 : HX} {pc : Nat} {L : List (Nat × Value)} {st : List Value}
theorem gx_ret {rv : Option Value} (k : gx_G p l e R s m args below meth c D h0 hz nL (gx_MQ below args s D h0 hz rv) pc L st h) : gx_G p l e R s m args below meth c D h0 hz nL (gx_MQX below args s D h0 hz (.inl rv)) pc L st h := ⟨k.1, fun H locs ls hl hc => vx_ret (k.2 H locs ls hl hc)⟩
/-- out of the method -/
theorem gx_out (C : gx_Ctx p R s m args meth c own cc nL rt fr lo D h0 h) {E : String} {q : Nat} (hnt : ∀ x ∈ c.exceptionTable.toList, False) : gx_T p l e R s m args below meth c D h0 h nL (gx_MQX below args s D h0 h (.inr (E, q))) E q pc L h :=
  ⟨gx_le.rf, fun H locs ls rest hl hc ⟨ce, e1, e2, e3⟩ => vx_out (fun x hx => (hnt x hx).elim) C.locks e1 e2 e3 (fun t ht _ => ⟨rfl, rfl, by rw [ht]; exact hc.1, hc.2.1.F ht, hc.2.2.1⟩) hc.2.1.2.2 (Nat.le_refl _) (Nat.le_refl _)⟩
/-- throw x -/
theorem gx_athrow (C : gx_Ctx p R s m args meth c own cc nL rt fr lo D h0 hz) {q ci : Nat} {r : vw_C} {u : Unit} (hg : hx_is h q [ci] = some u) (hr : gx_cl[ci]? = some r) (d : decode cc pc = .ok (.athrow, 1)) (k : gx_T p l e R s m args below meth c D h0 hz nL Q r.1 q pc L h) : gx_G p l e R s m args below meth c D h0 hz nL Q pc L (va_rf (some q) :: st) h := by
  refine ⟨k.1, fun H locs ls hl hc => vx_athrow C.exec C.bytes d (k.2 H locs ls st hl hc ?_)⟩
  obtain ⟨b, ci', fs, e1, m1⟩ := hx_is_of hg
  cases List.mem_singleton.mp m1
  obtain ⟨r', hr', hlen, cell, f1, f2, f3, -⟩ := hc.1.2 q _ _ e1
  cases hr.symm.trans hr'
  exact ⟨cell, f1, f3, by rw [f2]; exact (C.K.1 ci r hr).2.1⟩
/-- caught -/
theorem gx_catch (C : gx_Ctx p R s m args meth c own cc nL rt fr lo D h0 hz) {E name : String} {q : Nat} (pre : List ExceptionTableEntry) (x : ExceptionTableEntry) (suf : List ExceptionTableEntry) (hsplit : c.exceptionTable.toList = pre ++ x :: suf) (hpass : ∀ z ∈ pre, covers z pc = false ∨ (z.catchType ≠ 0 ∧ ∃ nm : String, Cond.classLink own z.catchType nm ∈ lw_all ∧ (E, nm) ∈ gx_ncs)) (hx : covers x pc = true) (hx0 : x.catchType ≠ 0) (hlink : Cond.classLink own x.catchType name ∈ lw_all) (hcast : Cond.castable E name ∈ lw_tbl) {tgt : Nat} (ht : x.handlerPc = tgt)
    (k : gx_G p l e R s m args below meth c D h0 hz nL Q tgt L [va_rf (some q)] h) : gx_T p l e R s m args below meth c D h0 hz nL Q E q pc L h := by
  subst ht
  exact ⟨k.1, fun H locs ls rest hl hc ⟨ce, e1, e2, e3⟩ => vx_catch C.hown pre x suf hsplit (fun z hz => (hpass z hz).imp id (fun ⟨a, nm, b1, b2⟩ => ⟨a, nm, C.hts _ b1, C.K.2.2.2.2.2.2.2.1 _ b2⟩)) hx hx0 (C.hts _ hlink) (gx_nest C hcast rfl) e1 e2 e3 (k.2 H locs ls hl hc)⟩
/-- throw new X() of the JDK -/
theorem gx_throw0 (C : gx_Ctx p R s m args meth c own cc nL rt fr lo D h0 hz) (hlt : l.stackTraces = false) {cls : String} {names : List String} {ik ic : Nat} (hcls : Bundle.fit cls = true) (hnames : ∀ n ∈ names, Bundle.fit n = true) (hk : Cond.classLink own ik cls ∈ lw_all) (hini : Cond.initialized cls ∈ lw_all) (hat : ∀ w ∈ vx_at0 own ic cls names, w ∈ lw_tbl) (hgd : (vx_at0 own ic cls names).all (fun w => goodWord w || gx_okN w) = true) (d0 : decode cc pc = .ok (.new ik, 3)) (d3 : decode cc (pc + 3) = .ok (.dup, 1)) (d4 : decode cc (pc + 4) = .ok (.invokespecial ic, 3)) (d7 : decode cc (pc + 7) = .ok (.athrow, 1))
    (hRf : names.length + 3 < fr) (hRl : (st.map fun v => v.category).sum + (13 * (names.length + 1) + 42) ≤ lo)
    (k : gx_T p l e R s m args below meth c D h0 hz nL Q cls h.1 (pc + 7) L (hx_skip h 1 6)) : gx_G p l e R s m args below meth c D h0 hz nL Q pc L st h := by
  refine ⟨gx_le.skip.tr k.1, fun H locs ls hl hc => ?_⟩
  have hw0 : ∀ w ∈ vx_at0 own ic cls names, w.before args s = true := fun w hw => by
    have h1 := List.all_eq_true.mp hgd w hw
    rcases Bool.or_eq_true_iff.mp h1 with h2 | h2
    · exact C.hts _ (lw_g (hat w hw) h2)
    · exact gx_nest C (hat w hw) h2
  have hgood : ∀ w ∈ Cond.classLink own ik cls :: Cond.initialized cls :: vx_at0 own ic cls names, vx_ot w = true := fun w hw => by
    rcases List.mem_cons.mp hw with rfl | hw
    · rfl
    · rcases List.mem_cons.mp hw with rfl | hw
      · rfl
      · have h1 := List.all_eq_true.mp hgd w hw
        rcases Bool.or_eq_true_iff.mp h1 with h2 | h2
        · simp [vx_ot, h2]
        · simp [vx_ot, gx_okN_tab h2]
  have z1 := k.1.1
  have z2 := k.1.2.1
  have c4 := hc.2.2.2
  have hc1 := C.ce
  have hc2 := C.sl
  have hR1 := C.hfr
  have hR2 := C.hlo
  have w1 : h.1 - h0.1 + 1 = (hx_skip h 1 6).1 - h0.1 := by have := c4.1; simp only [hx_skip]; omega
  have w2 : h.2.1 - h0.2.1 + 6 = (hx_skip h 1 6).2.1 - h0.2.1 := by have := c4.2.1; simp only [hx_skip]; omega
  have hexec := C.exec
  have hb := C.bytes
  have hU := C.Z.1.1
  have hN := C.Z.1.2
  have hS := hc.2.1
  intro T hT X
  subst hT
  have htr : e.platform.stackTraces = false := (show e.platform.stackTraces = l.stackTraces by rw [X.admits.platform]).trans hlt
  have Y := vx_rebase X (R' := { frames := R.frames, locals := R.locals, cells := 1, slots := 6 }) (Nat.le_refl _) (Nat.le_refl _) (by rw [w1]; omega) (by rw [w2]; omega)
  obtain ⟨s', hA'⟩ : ∃ z, z = (T.setVm s.vm).setFrames (.invoking m args :: below) := ⟨_, rfl⟩
  rw [← hA'] at Y
  have hvm : s'.vm = s.vm := by rw [hA']; rfl
  have hhp : s'.heap = T.heap := by rw [hA']; rfl
  have hW0 : s.WarmedH s'.vm := by rw [hvm]; exact State.WarmedH.refl s
  have hat' : ∀ w ∈ vx_at0 own ic cls names, w.before args s' = true := fun w hw => vx_ot_at hW0 hvm.symm (hgood w (List.mem_cons_of_mem _ (List.mem_cons_of_mem _ hw))) (hw0 w hw)
  have hk' : (Cond.classLink own ik cls).before args s' = true := vx_ot_at hW0 hvm.symm (hgood _ List.mem_cons_self) (C.hts _ hk)
  have hini' : (Cond.initialized cls).before args s' = true := vx_ot_at hW0 hvm.symm (hgood _ (List.mem_cons_of_mem _ List.mem_cons_self)) (C.hts _ hini)
  have hU' : vx_Zq Bundle.tN "UNASSIGNED_STACK" Bundle.steD (gx_A h0) s' s'.heap := by rw [hhp]; exact vx_Zq.moved hW0.alike (hU.kept hS.2.1)
  have hN' : vx_Zq Bundle.tN "SUPPRESSED_SENTINEL" Bundle.listD (gx_A h0) s' s'.heap := by rw [hhp]; exact vx_Zq.moved hW0.alike (hN.kept hS.2.1)
  have hown0 : ∀ w ∈ Bundle.ownAtoms0 own ic cls names, w.before args s' = true := vx_own hat' (vx_isRefq hU'.1) (vx_isRefq hN'.1) hU'.2.word hN'.2.word
  have hown' : s'.vm.findClass own = some m.cls := by rw [hvm]; exact C.hown
  have hins : (Cond.instantiable cls 6).before args s' = true := hown0 _ (by simp [Bundle.ownAtoms0])
  obtain ⟨vm₁, cX, kX, hfX, hkX, -, -, X₁, st1⟩ := Y.newCold hexec (own := own) (C := cls) (index := ik) (n := 6) hown' hk' hins hini'
    (g := F0 m pc ls st) rfl (by rw [hb]; exact d0) (Nat.le_refl _) (Nat.le_refl _)
  generalize hT1 : (T.setVm vm₁).pushCell { cls := cX, slots := kX.instanceTypes.map defaultValue, vm := .none } = T1 at X₁ st1
  have hcat : (Value.ref T.heap.size).category = 1 := rfl
  have hcellA : T1.heap[T.heap.size]? = some (freshCell cX kX) := by rw [← hT1]; exact State.heap_pushCell_size _ _
  have d3' : decode c.code (pc + 3) = .ok (.dup, 1) := by rw [hb]; exact d3
  obtain ⟨V, ce, L1, Z, hL, hlt1, hcl9, hvm9, go⟩ := vx_ctorMade0 X₁ hexec htr (own := own) (cls := cls) (names := names) (ic := ic) hown' hcls hnames hown0 (fun x hx => nomatch hx) hfX hkX hcellA (by rw [hhp]; exact Nat.le_refl _)
    (g := { method := m, pc := pc + 4, locals := ls, stack := .ref T.heap.size :: .ref T.heap.size :: st, locked := none }) rfl (by show ls.size = _; rw [C.maxl]; exact hl.1) (rest := st) rfl
    (by rw [hb]; exact d4) (by show names.length + 3 < R.frames; omega) (by show 2 * 0 + _ + _ ≤ R.locals; simp only [List.map_cons, List.sum_cons, hcat]; omega)
  have Z0 := Stand.forget (locs := []) Z (fun y hy => by rw [hL y hy, hhp]; exact Nat.le_refl _)
  obtain ⟨f1, f2⟩ := vx_frame Z0.same
  obtain ⟨-, -, f3, -⟩ := Z0.same
  rw [hhp] at f1 f2
  have f3' : (V.setCell T.heap.size ce).heap.size ≤ T.heap.size + 1 := by
    have f4 : (V.setCell T.heap.size ce).heap.size ≤ s'.heap.size + (0 + 1) := f3
    rw [hhp] at f4
    exact f4
  have hh : (V.setCell T.heap.size ce).heap[T.heap.size]? = some ce := heapAt_setCell_self (s := V) ce hlt1
  have hsz : (V.setCell T.heap.size ce).heap.size = T.heap.size + 1 := by
    have := (Array.getElem?_eq_some_iff.mp hh).1
    omega
  have hcid : s.vm.findClass cls = some ce.cls := by
    rw [hcl9]
    rw [hvm] at hfX
    exact hfX
  subst hA'
  have X5 := vx_back9 X Y Z0
  have X6 : Stand p l e R s m args below meth c (V.setCell T.heap.size ce) locs (h.1 - h0.1 + 1) (h.2.1 - h0.2.1 + 6) := { X5 with same := X5.same.mono (by omega) (by omega) }
  rw [w1, w2] at X6
  have hfin := vx_athrow C.exec C.bytes d7 (k.2 (V.setCell T.heap.size ce).heap locs ls st hl (hc.skip hsz (fun q hq => f2 q hq (fun z hz => nomatch hz))) ⟨ce, by rw [← hc.1.1]; exact hh, hvm9, hcid⟩)
  rw [← hc.1.1] at hfin
  obtain ⟨t, a1, b1⟩ := hfin (V.setCell T.heap.size ce) rfl X6
  refine ⟨t, st1 _ ?_, b1⟩
  show Steps p.tables e below (T1.setTop { method := m, pc := pc + 3, locals := ls, stack := .ref T.heap.size :: st, locked := none }) _
  jvm_step X₁.here [X₁.here.top, hexec, d3', Value.category]
  exact go _ a1
/-- what comes behind a call that answers or throws -/
def gx_K2 (p : Program) (l : Launch) (e : Env) (R : Room) (s : State) (m : MethodId) (args : Array Value) (below : List Frame) (meth : Method) (c : Code) (D : gx_D) (h0 hz : HX) (nL : Nat) (Q : State → Prop) (pc : Nat) (L : List (Nat × Value)) (st : List Value) (res : gx_Rs) (h1 : HX) : Prop := match res with
  | .inl rv => gx_G p l e R s m args below meth c D h0 hz nL Q (pc + 3) L (rv.toList ++ st) h1
  | .inr z => gx_T p l e R s m args below meth c D h0 hz nL Q z.1 z.2 pc L h1
theorem gx_K2.le {res : gx_Rs} (k : gx_K2 p l e R s m args below meth c D h0 hz nL Q pc L st res h1) : gx_le h1 hz := by
  cases res with
  | inl rv => exact k.1
  | inr z => exact k.1
/-- behind a call that answers or throws -/
theorem gx_runX {a : Array Value} {st0 : List Value} {res : gx_Rs} (C : gx_Ctx p R s m args meth c own cc nL rt fr lo D h0 hz) (hle1 : gx_le h h1) {H : Heap} {locs : List Loc} {ls : Array Slot} (hl : lv_has ls nL L) (hc : gx_Cur D h0 h s H locs)
    (hr : vx_Run p l e R s m args below meth c H locs (h.1 - h0.1) (h.2.1 - h0.2.1) (h1.1 - h.1) (h1.2.1 - h.2.1) (F0 m pc ls st0) st (gx_Qx D h h1 res a) (gx_Xx D h h1 res) (gx_A h))
    (k1 : gx_K2 p l e R s m args below meth c D h0 hz nL Q pc L st res h1) : W p l e R s m args below meth c H locs (h.1 - h0.1) (h.2.1 - h0.2.1) Q (F0 m pc ls st0) := by
  cases res with
  | inl rv =>
    have k1 : gx_G p l e R s m args below meth c D h0 hz nL Q (pc + 3) L (rv.toList ++ st) h1 := k1
    refine gx_run (a := a) (rv := rv) (n := 3) C hle1 hl hc (fun T hT X => ?_) k1
    rcases hr T hT X with h2 | ⟨q, st₀, t, T', L1, E, ce, g0, X', hL, e1, e2, hxc, -⟩
    · exact h2
    · exact hxc.elim
  | inr z =>
    intro T hT X
    rcases hr T hT X with ⟨v, st₀, t, T', L1, g0, X', hL, e1, e2, hq, go⟩ | ⟨q, st₀, t, T', L1, E, ce, g0, X', hL, e1, e2, hxc, hce, hcv, hcl, go⟩
    · exact hq.elim
    · obtain ⟨rfl, rfl, hh, hF, hw⟩ := hxc
      have hsub : ∀ q : Nat, q < H.size → gx_A h q → gx_A h0 q := fun q hq hA => by
        rcases hA with ⟨x, hx⟩ | hA
        · exact hc.2.2.1 q x hx
        · have := hc.1.1; omega
      have hfree : ∀ q : Nat, gx_A h q → gx_A h0 q := fun q hA => by
        rcases hA with ⟨x, hx⟩ | hA
        · exact hc.2.2.1 q x hx
        · exact Or.inr (Nat.le_trans hc.2.2.2.1 hA)
      have hcur : gx_Cur D h0 h1 s T'.heap (locs ++ L1) := by
        refine ⟨by rw [e1]; exact hh, ⟨?_, fun q q1 q2 => ?_, fun q hq => ?_⟩, fun q x hx => ?_, hc.2.2.2.tr hle1⟩
        · rw [e1]
          have := hF.1
          rw [g0] at this
          exact Nat.le_trans hc.2.1.1 this
        · have hlt : q < H.size := Nat.lt_of_lt_of_le q1 hc.2.1.1
          rw [e1, hF.2 q (by rw [g0]; exact hlt) (fun hA => q2 (hsub q hlt hA)), g0]
          exact hc.2.1.2.1 q q1 q2
        · rcases List.mem_append.mp hq with h2 | h2
          · exact hc.2.1.2.2 q h2
          · exact hfree _ (hL q h2)
        · exact hfree q (hw q x hx)
      have w1 : h.1 - h0.1 + (h1.1 - h.1) = h1.1 - h0.1 := by have := hc.2.2.2.1; have := hle1.1; omega
      have w2 : h.2.1 - h0.2.1 + (h1.2.1 - h.2.1) = h1.2.1 - h0.2.1 := by have := hc.2.2.2.2.1; have := hle1.2.1; omega
      rw [w1, w2] at X'
      have k1 : gx_T p l e R s m args below meth c D h0 hz nL Q z.1 z.2 pc L h1 := k1
      obtain ⟨t2, a1, b1⟩ := k1.2 T'.heap (locs ++ L1) ls st hl hcur ⟨ce, by rw [e1]; exact hce, hcv, hcl⟩ T' rfl X'
      exact ⟨t2, go.trans a1, b1⟩
theorem gx_xcallS (C : gx_Ctx p R s m args meth c own cc nL rt fr lo D h0 hz) {i n : Nat} {y : MethodName} {cc' : ByteArray} {nL' fr' lo' : Nat} {rt' : Option FieldType} {As st0 : List Value} {res : gx_Rs} (hM : gx_MetX l y (ws_ y cc' nL' rt') fr' lo' D As h res h1) (hw : GoodIn lw_all (va_wsS own i y (ws_ y cc' nL' rt'))) (hm : gx_mok y n) (hR : fr' + 1 ≤ fr ∧ 8 + (nL' + 11) + lo' ≤ lo) (hn : As.length = n) (hs : st0 = As.reverse ++ st) (hcat : (st.map fun v => v.category).sum ≤ 8) (d : decode cc pc = .ok (.invokestatic i, 3))
    (k1 : gx_K2 p l e R s m args below meth c D h0 hz nL Q pc L st res h1) : gx_G p l e R s m args below meth c D h0 hz nL Q pc L st0 h := by
  refine ⟨hM.1.tr k1.le, fun H locs ls hl hc => ?_⟩
  have hR1 := C.hfr
  have hR2 := C.hlo
  refine gx_runX (a := As.toArray) C hM.1 hl hc ?_ k1
  exact vx_runS C.fix hM.2 (va_cwS n C.hts hw rfl rfl rfl hm ⟨by show fr' + 1 ≤ _; omega, by show _ + lo' ≤ _; omega⟩) ⟨gx_Pc.blind, gx_Pc.start C.K C.Z C.size hc⟩ rfl hn hl.1 hs (lv_room hcat) d (gx_room C hc hM.1 k1.le)
theorem gx_xcallV (C : gx_Ctx p R s m args meth c own cc nL rt fr lo D h0 hz) {i n ci b : Nat} {q : vw_C} {y : MethodName} {cc' : ByteArray} {nL' fr' lo' : Nat} {rt' : Option FieldType} {As st0 : List Value} {res : gx_Rs} (hM : gx_MetX l y (ws_ y cc' nL' rt') fr' lo' D (va_rf (some b) :: As) h res h1) (hi : gx_isC h b [ci]) (hq : gx_cl[ci]? = some q) (hyq : y.cls = q.1) (hw : GoodIn lw_all (wsV own i q.1 y (ws_ y cc' nL' rt'))) (hm : gx_mok y n) (hR : fr' + 1 ≤ fr ∧ 8 + (nL' + 11) + lo' ≤ lo) (hn : As.length = n) (hs : st0 = As.reverse ++ va_rf (some b) :: st) (hcat : (st.map fun v => v.category).sum ≤ 8) (d : decode cc pc = .ok (.invokevirtual i, 3))
    (k1 : gx_K2 p l e R s m args below meth c D h0 hz nL Q pc L st res h1) : gx_G p l e R s m args below meth c D h0 hz nL Q pc L st0 h := by
  refine ⟨hM.1.tr k1.le, fun H locs ls hl hc => ?_⟩
  have hR1 := C.hfr
  have hR2 := C.hlo
  refine gx_runX (a := (Value.ref b :: As).toArray) C hM.1 hl hc ?_ k1
  exact vx_runV (C := q.1) (b := b) (As := As) C.fix hM.2 (cwV n C.hts hw rfl rfl rfl ⟨hyq, hm⟩ ⟨by show fr' + 1 ≤ _; omega, by show _ + lo' ≤ _; omega⟩) ⟨gx_Pc.blind, gx_isC1 C.K hq hc.1 hi, gx_Pc.start C.K C.Z C.size hc⟩ rfl hn hl.1 hs (lv_room hcat) d (gx_room C hc hM.1 k1.le)
theorem gx_xcallU (C : gx_Ctx p R s m args meth c own cc nL rt fr lo D h0 hz) {i n b : Nat} {cis : List Nat} {ow : String} {x y : MethodName} {cc' : ByteArray} {nL' fr' lo' : Nat} {rt' : Option FieldType} {As st0 : List Value} {res : gx_Rs} (hM : gx_MetX l y (ws_ y cc' nL' rt') fr' lo' D (va_rf (some b) :: As) h res h1) (hi : gx_isC h b cis) (hlink : Cond.methodLink own i x ∈ lw_all) (hsame : Cond.sameMethod x.cls ow x.name x.desc ∈ lw_all) (hdecl : va_Decl s ⟨ow, x.name, x.desc⟩) (how : ow ≠ "java/lang/invoke/MethodHandle" ∧ ow ≠ "java/lang/invoke/VarHandle") (hsel : ∀ ci ∈ cis, ∀ q, gx_cl[ci]? = some q → (Cond.selects q.1 x y).before args s = true) (hinst : Cond.instanceMethod y ∈ lw_all) (hini : Cond.initialized y.cls ∈ lw_all) (hcode : Cond.code y cc' nL' rt' ∈ lw_all) (hm : gx_mok x n) (hR : fr' + 1 ≤ fr ∧ 8 + (nL' + 11) + lo' ≤ lo) (hn : As.length = n) (hs : st0 = As.reverse ++ va_rf (some b) :: st) (hcat : (st.map fun v => v.category).sum ≤ 8) (d : decode cc pc = .ok (.invokevirtual i, 3))
    (k1 : gx_K2 p l e R s m args below meth c D h0 hz nL Q pc L st res h1) : gx_G p l e R s m args below meth c D h0 hz nL Q pc L st0 h := by
  refine ⟨hM.1.tr k1.le, fun H locs ls hl hc => ?_⟩
  have hR1 := C.hfr
  have hR2 := C.hlo
  obtain ⟨ci, q, hci, hq, cell, f1, f2, f3, -⟩ := gx_recv C.K hc.1 hi
  refine gx_runX (a := (Value.ref b :: As).toArray) C hM.1 hl hc ?_ k1
  exact vx_runU (C := q.1) (owner := ow) (x := x) (b := b) (As := As) C.fix hM.2 ⟨⟨rfl, rfl, by show fr' + 1 ≤ _; omega, by show _ + lo' ≤ _; omega, pay_in C.hts (lw_meth hcode), List.mem_cons_self⟩, C.hts _ hcode, C.hts _ hini, how, fun sig hh => by
    have h2 := hm.2.2
    rw [hh] at h2
    exact (Option.some.inj h2).symm, C.hts _ hlink, C.hts _ hsame, hdecl, hsel ci hci q hq, C.hts _ hinst⟩ ⟨gx_Pc.blind, ⟨cell, f1, f2, f3⟩, gx_Pc.start C.K C.Z C.size hc⟩ rfl hn hl.1 hs (lv_room hcat) d (gx_room C hc hM.1 k1.le)
theorem gx_xcallVN (C : gx_Ctx p R s m args meth c own cc nL rt fr lo D h0 hz) {i n ci b : Nat} {q : vw_C} {host : String} {y : MethodName} {cc' : ByteArray} {nL' fr' lo' : Nat} {rt' : Option FieldType} {As st0 : List Value} {res : gx_Rs} (hM : gx_MetX l y (ws_ y cc' nL' rt') fr' lo' D (va_rf (some b) :: As) h res h1) (hi : gx_isC h b [ci]) (hq : gx_cl[ci]? = some q) (hlink : Cond.methodLinkNest own i y host ∈ lw_tbl) (hinst : Cond.instanceMethod y ∈ lw_all) (hsel : Cond.selects q.1 y y ∈ lw_all) (hini : Cond.initialized y.cls ∈ lw_all) (hcode : Cond.code y cc' nL' rt' ∈ lw_all) (hm : gx_mok y n) (hR : fr' + 1 ≤ fr ∧ 8 + (nL' + 11) + lo' ≤ lo) (hn : As.length = n) (hs : st0 = As.reverse ++ va_rf (some b) :: st) (hcat : (st.map fun v => v.category).sum ≤ 8) (d : decode cc pc = .ok (.invokevirtual i, 3))
    (k1 : gx_K2 p l e R s m args below meth c D h0 hz nL Q pc L st res h1) : gx_G p l e R s m args below meth c D h0 hz nL Q pc L st0 h := by
  refine ⟨hM.1.tr k1.le, fun H locs ls hl hc => ?_⟩
  refine gx_runX (a := (Value.ref b :: As).toArray) C hM.1 hl hc ?_ k1
  exact vx_runVN (C := q.1) (b := b) (As := As) C.fix hM.2 ⟨gx_cn C hlink hini hcode hm hR, C.hts _ hinst, C.hts _ hsel⟩ ⟨gx_Pc.blind, gx_isC1 C.K hq hc.1 hi, gx_Pc.start C.K C.Z C.size hc⟩ rfl hn hl.1 hs (lv_room hcat) d (gx_room C hc hM.1 k1.le)
/-- a method with handlers -/
theorem gx_xcallVW (C : gx_Ctx p R s m args meth c own cc nL rt fr lo D h0 hz) {i n ci b : Nat} {q : vw_C} {y : MethodName} {cc' : ByteArray} {nL' fr' lo' : Nat} {rt' : Option FieldType} {hh : List (Nat × Nat × Nat × Nat)} {As st0 : List Value} {res : gx_Rs} (hM : gx_MetX l y (wsW_ y cc' nL' rt' hh) fr' lo' D (va_rf (some b) :: As) h res h1) (hi : gx_isC h b [ci]) (hq : gx_cl[ci]? = some q) (hyq : y.cls = q.1) (hw : GoodIn lw_all (wsV own i q.1 y (wsW_ y cc' nL' rt' hh))) (hm : gx_mok y n) (hR : fr' + 1 ≤ fr ∧ 8 + (nL' + 11) + lo' ≤ lo) (hn : As.length = n) (hs : st0 = As.reverse ++ va_rf (some b) :: st) (hcat : (st.map fun v => v.category).sum ≤ 8) (d : decode cc pc = .ok (.invokevirtual i, 3))
    (k1 : gx_K2 p l e R s m args below meth c D h0 hz nL Q pc L st res h1) : gx_G p l e R s m args below meth c D h0 hz nL Q pc L st0 h := by
  refine ⟨hM.1.tr k1.le, fun H locs ls hl hc => ?_⟩
  have hR1 := C.hfr
  have hR2 := C.hlo
  refine gx_runX (a := (Value.ref b :: As).toArray) C hM.1 hl hc ?_ k1
  exact vx_runVX (C := q.1) (b := b) (As := As) C.fix hM.2 (vx_cwVW n C.hts hw rfl rfl rfl ⟨hyq, hm⟩ ⟨by show fr' + 1 ≤ _; omega, by show _ + lo' ≤ _; omega⟩) ⟨gx_Pc.blind, gx_isC1 C.K hq hc.1 hi, gx_Pc.start C.K C.Z C.size hc⟩ rfl hn hl.1 hs (lv_room hcat) d (gx_room C hc hM.1 k1.le)
theorem gx_xcallSW (C : gx_Ctx p R s m args meth c own cc nL rt fr lo D h0 hz) {i n : Nat} {y : MethodName} {cc' : ByteArray} {nL' fr' lo' : Nat} {rt' : Option FieldType} {hh : List (Nat × Nat × Nat × Nat)} {As st0 : List Value} {res : gx_Rs} (hM : gx_MetX l y (wsW_ y cc' nL' rt' hh) fr' lo' D As h res h1) (hw : GoodIn lw_all (va_wsS own i y (wsW_ y cc' nL' rt' hh))) (hm : gx_mok y n) (hR : fr' + 1 ≤ fr ∧ 8 + (nL' + 11) + lo' ≤ lo) (hn : As.length = n) (hs : st0 = As.reverse ++ st) (hcat : (st.map fun v => v.category).sum ≤ 8) (d : decode cc pc = .ok (.invokestatic i, 3))
    (k1 : gx_K2 p l e R s m args below meth c D h0 hz nL Q pc L st res h1) : gx_G p l e R s m args below meth c D h0 hz nL Q pc L st0 h := by
  refine ⟨hM.1.tr k1.le, fun H locs ls hl hc => ?_⟩
  have hR1 := C.hfr
  have hR2 := C.hlo
  refine gx_runX (a := As.toArray) C hM.1 hl hc ?_ k1
  exact vx_runSX C.fix hM.2 (vx_cwSW n C.hts hw rfl rfl rfl hm ⟨by show fr' + 1 ≤ _; omega, by show _ + lo' ≤ _; omega⟩) ⟨gx_Pc.blind, gx_Pc.start C.K C.Z C.size hc⟩ rfl hn hl.1 hs (lv_room hcat) d (gx_room C hc hM.1 k1.le)
end GXX
/-- a throwing method's contract out of its body -/
theorem gx_ofGX {l : Launch} {y : MethodName} {cc : ByteArray} {nL : Nat} {rt : Option FieldType} {fr lo : Nat} {D : gx_D} {av : List Value} {h0 hz : HX} {res : gx_Rs} (hy : plainName y.cls = true) (hav : (lg_sl av).length ≤ nL) (hle : gx_le h0 hz)
    (body : ∀ (p : Program) (e : Env) (R : Room) (s : State) (m : MethodId) (args : Array Value) (below : List Frame) (meth : Method) (c : Code), gx_Ctx p R s m args meth c y.cls cc nL rt fr lo D h0 hz → meth.name = y.name → (∀ x ∈ c.exceptionTable.toList, False) → gx_G p l e R s m args below meth c D h0 hz nL (gx_MQX below args s D h0 hz res) 0 (lv_args 0 av) [] h0) : gx_MetX l y (ws_ y cc nL rt) fr lo D av h0 res hz := by
  refine ⟨hle, vx_ofW (cc := cc) (maxL := nL) (ret := rt) hy rfl ?_⟩
  intro p e s m args below meth c s₁ B hml hnt hv
  obtain ⟨rfl, hH, hK, hZ⟩ := hv
  have hts := atoms_spec (ws := ws_ y cc nL rt) B.pre
  have hts : ∀ w ∈ lw_all, w.before _ s = true := fun w h => hts w (List.mem_cons_of_mem _ h)
  have hown : s.vm.findClass y.cls = some m.cls := findClass_of_methodNamed B.named
  have hin : meth.name = y.name := (name_of_methodNamed B.named B.method).1
  have hl := lv_entry av (n := nL) hav
  rw [lg_entry_eq]
  have C : gx_Ctx p (headSpec (ws_ y cc nL rt) (gx_rm fr lo h0 hz)).room s m av.toArray meth c y.cls cc nL rt fr lo D h0 hz := ⟨⟨B.exec, B.bytes, hml, hown, hts⟩, hK, hZ, B.notSynchronized, hH.1.symm, B.returns, Nat.le_refl _, Nat.le_refl _, Nat.le_refl _, Nat.le_refl _, hH⟩
  have k := (body p e _ s m av.toArray below meth c C hin hnt).2 s.heap [] _ hl ⟨hH, va_S.rf, fun a x hx => Or.inl ⟨x, hx⟩, gx_le.rf⟩
  rw [Nat.sub_self, Nat.sub_self] at k
  exact k
/-- the same of a method with handlers -/
theorem gx_ofGW {l : Launch} {y : MethodName} {cc : ByteArray} {nL : Nat} {rt : Option FieldType} {hh : List (Nat × Nat × Nat × Nat)} {fr lo : Nat} {D : gx_D} {av : List Value} {h0 hz : HX} {res : gx_Rs} (hy : plainName y.cls = true) (hav : (lg_sl av).length ≤ nL) (hle : gx_le h0 hz)
    (body : ∀ (p : Program) (e : Env) (R : Room) (s : State) (m : MethodId) (args : Array Value) (below : List Frame) (meth : Method) (c : Code), gx_Ctx p R s m args meth c y.cls cc nL rt fr lo D h0 hz → meth.name = y.name → c.exceptionTable.toList = tableOf hh → gx_G p l e R s m args below meth c D h0 hz nL (gx_MQX below args s D h0 hz res) 0 (lv_args 0 av) [] h0) : gx_MetX l y (wsW_ y cc nL rt hh) fr lo D av h0 res hz := by
  refine ⟨hle, vx_ofWH (cc := cc) (maxL := nL) (ret := rt) (hh := hh) hy rfl ?_⟩
  intro p e s m args below meth c s₁ B hml hv
  obtain ⟨rfl, hH, hK, hZ⟩ := hv
  have hts0 := atoms_spec (ws := wsW_ y cc nL rt hh) B.pre
  have hts : ∀ w ∈ lw_all, w.before _ s = true := fun w h => hts0 w (List.mem_cons_of_mem _ h)
  have htab := vx_table (x := y) B (hts0 _ List.mem_cons_self)
  have hown : s.vm.findClass y.cls = some m.cls := findClass_of_methodNamed B.named
  have hin : meth.name = y.name := (name_of_methodNamed B.named B.method).1
  have hl := lv_entry av (n := nL) hav
  rw [lg_entry_eq]
  have C : gx_Ctx p (headSpec (wsW_ y cc nL rt hh) (gx_rm fr lo h0 hz)).room s m av.toArray meth c y.cls cc nL rt fr lo D h0 hz := ⟨⟨B.exec, B.bytes, hml, hown, hts⟩, hK, hZ, B.notSynchronized, hH.1.symm, B.returns, Nat.le_refl _, Nat.le_refl _, Nat.le_refl _, Nat.le_refl _, hH⟩
  have k := (body p e _ s m av.toArray below meth c C hin htab).2 s.heap [] _ hl ⟨hH, va_S.rf, fun a x hx => Or.inl ⟨x, hx⟩, gx_le.rf⟩
  rw [Nat.sub_self, Nat.sub_self] at k
  exact k
