/-! gx: an abstract heap, a judgement over abstract frames, a row an instruction. HX: how many cells, how many slots were taken, what lies where (and whether it may be written). -/
set_option maxRecDepth 100000
abbrev gx_E : Type := (Nat × vp_A) ⊕ (Nat × List Value)
abbrev HX : Type := Nat × Nat × (Nat → Option (Bool × gx_E))
/-- classes and their slots; array classes; constants' addresses; constants that may be null -/
abbrev gx_D : Type := va_G × (Nat → ClassId) × (Nat → Nat) × (Nat → Option Nat)
def b2i : Bool → Int32
  | true => 1
  | false => 0
def gx_at (D : gx_D) (a : Nat) (e : gx_E) (H : Heap) : Prop := match e with
  | .inl x => x.1 < gx_tys.length ∧ H[a]? = some (vp_cell (D.2.1 x.1) x.2)
  | .inr o => ∃ r : vw_C, gx_cl[o.1]? = some r ∧ o.2.length = r.2.2 ∧ t_OB a (D.1.1 o.1) r.2.2 (D.1.2 o.1) H (vp_V o.2)
def gx_H (D : gx_D) (h : HX) (H : Heap) : Prop := H.size = h.1 ∧ ∀ (a : Nat) (b : Bool) (e : gx_E), h.2.2 a = some (b, e) → gx_at D a e H
def gx_A (h : HX) : Nat → Prop := fun q => (∃ e, h.2.2 q = some (true, e)) ∨ h.1 ≤ q
/-- the object at a is of a class of the list -/
def gx_isC (h : HX) (a : Nat) (cis : List Nat) : Prop := ∃ b ci fs, h.2.2 a = some (b, .inr (ci, fs)) ∧ ci ∈ cis
/-- the heap grows; an object keeps its class; a cell that may not be written stays -/
def gx_le (h h' : HX) : Prop := h.1 ≤ h'.1 ∧ h.2.1 ≤ h'.2.1 ∧ (∀ (a : Nat) (b : Bool) (ci : Nat) (fs : List Value), a < h.1 → h.2.2 a = some (b, .inr (ci, fs)) → ∃ b' fs', h'.2.2 a = some (b', .inr (ci, fs'))) ∧ (∀ (a : Nat) (e : gx_E), a < h.1 → h.2.2 a = some (false, e) → h'.2.2 a = some (false, e)) ∧ ∀ a : Nat, a < h.1 → h.2.2 a = none → h'.2.2 a = none
theorem gx_le.rf {h : HX} : gx_le h h := ⟨Nat.le_refl _, Nat.le_refl _, fun _ b _ fs _ e => ⟨b, fs, e⟩, fun _ _ _ e => e, fun _ _ e => e⟩
theorem gx_le.tr {h h1 h2 : HX} (a : gx_le h h1) (b : gx_le h1 h2) : gx_le h h2 := ⟨Nat.le_trans a.1 b.1, Nat.le_trans a.2.1 b.2.1, fun q _ ci fs hq e => by
  obtain ⟨b', fs', e'⟩ := a.2.2.1 q _ ci fs hq e
  exact b.2.2.1 q _ ci fs' (Nat.lt_of_lt_of_le hq a.1) e', fun q e hq he => b.2.2.2.1 q e (Nat.lt_of_lt_of_le hq a.1) (a.2.2.2.1 q e hq he), fun q hq he => b.2.2.2.2 q (Nat.lt_of_lt_of_le hq a.1) (a.2.2.2.2 q hq he)⟩
theorem gx_isC.le {h h1 : HX} {a : Nat} {cis : List Nat} (l : gx_le h h1) (hlt : a < h.1) (i : gx_isC h a cis) : gx_isC h1 a cis := by
  obtain ⟨b, ci, fs, e, m⟩ := i
  obtain ⟨b', fs', e'⟩ := l.2.2.1 a b ci fs hlt e
  exact ⟨b', ci, fs', e', m⟩
theorem gx_at.kept {D : gx_D} {a : Nat} {e : gx_E} {H H1 : Heap} (h : gx_at D a e H) (hq : H1[a]? = H[a]?) : gx_at D a e H1 := by
  cases e with
  | inl x => exact ⟨h.1, hq.trans h.2⟩
  | inr o =>
    obtain ⟨r, h1, h2, h3⟩ := h
    exact ⟨r, h1, h2, h3.kept hq⟩
theorem gx_at.lt {D : gx_D} {a : Nat} {e : gx_E} {H : Heap} (h : gx_at D a e H) : a < H.size := by
  cases e with
  | inl x => exact (Array.getElem?_eq_some_iff.mp h.2).1
  | inr o =>
    obtain ⟨r, h1, h2, cell, h3, -⟩ := h
    exact (Array.getElem?_eq_some_iff.mp h3).1
/-- words of the tables that are taken along as they are -/
def gx_okN : Cond → Bool
  | .fieldLinkNest _ _ _ _ _ _ => true
  | .methodLinkNest _ _ _ _ => true
  | .castable _ _ => true
  | .declares _ => true
  | _ => false
theorem gx_okN_warm {w : Cond} (hw : gx_okN w = true) {s U : State} (hW : s.WarmedH U.vm) (h : va_Nw w s) : va_Nw w U := by
  cases w <;> simp only [gx_okN, Bool.false_eq_true] at hw
  · exact va_Nw.warmM hW h
  · exact va_Nw.warmF hW h
  · exact va_Nw.warmD hW h
  · exact va_Nw.warmC hW h
theorem gx_okN_tab {w : Cond} (hw : gx_okN w = true) : w.onTables = true := by
  cases w <;> simp only [gx_okN, Bool.false_eq_true] at hw <;> rfl
def gx_sv (D : gx_D) : Int32 ⊕ Nat ⊕ Nat → Value
  | .inl n => .int n
  | .inr (.inl i) => va_rf (some (D.2.2.1 i))
  | .inr (.inr i) => va_rf (D.2.2.2 i)
/-- what the tables say of a call that lands in an interface's own method -/
def gx_Dw (C : String) (x y : MethodName) (U : State) : Prop := (Cond.declares x).before #[] U = true ∧ (Cond.interfaceMethod x.cls x.cls x.name x.desc).before #[] U = true ∧ (Cond.publicMethod y).before #[] U = true ∧ (Cond.landsInDefault C x y).before #[] U = true ∧ (Cond.castable C x.cls).before #[] U = true
theorem gx_lands {C : String} {x y : MethodName} {u U : State} {a a' : Array Value} (h : (Cond.landsInDefault C x y).before a (u.setVm U.vm) = true) : (Cond.landsInDefault C x y).before a' U = true := h
theorem gx_Dw.moved {C : String} {x y : MethodName} (hx : x.cls ≠ "java/lang/invoke/MethodHandle" ∧ x.cls ≠ "java/lang/invoke/VarHandle") {u U : State} (hvm : u.vm.Alike U.vm) (h : gx_Dw C x y u) : gx_Dw C x y U := by
  obtain ⟨h1, h2, h3, h4, h5⟩ := h
  obtain ⟨r, meth, hn, -⟩ := Cond.declares_spec h1
  have tr : ∀ {c : Cond}, c.onTables = true → c.before #[] (u.setVm U.vm) = true → c.before #[] U = true := by
    intro c hc h
    have e := Cond.onTables_vm (A := #[]) (A' := #[]) (U := u) (U' := U) U.vm c hc
    have hU : U.setVm U.vm = U := rfl
    rw [hU] at e
    rw [← e]
    exact h
  exact ⟨tr rfl (by rw [Cond.declares_setVm hvm]; exact h1), tr rfl (by rw [Cond.interfaceMethod_setVm hvm (r := r) hn hx]; exact h2), tr rfl (by rw [Cond.publicMethod_setVm hvm]; exact h3), gx_lands (a := #[]) ((Cond.landsInDefault_setVm (args' := #[]) hvm (State.methodFound?_setVm hvm _ _ _)).trans h4), tr rfl (by rw [Cond.castable_setVm hvm]; exact h5)⟩
theorem gx_dfl_ok : ∀ z ∈ gx_dfl, z.2.1.cls ≠ "java/lang/invoke/MethodHandle" ∧ z.2.1.cls ≠ "java/lang/invoke/VarHandle" := by decide +kernel
/-- what is known of the tables, all through a run -/
def gx_K (D : gx_D) (U : State) : Prop :=
  (∀ (c : Nat) (q : vw_C), gx_cl[c]? = some q → u_Kn U q.1 q.2.1 q.2.2 (D.1.1 c) (D.1.2 c)) ∧ (∀ (k : Nat) (ty : FieldType), gx_tys[k]? = some ty → ArrOfT U (D.2.1 k) ty ∧ va_RA U (D.2.1 k) ty) ∧
  (∀ w ∈ lw_tbl, gx_okN w = true → va_Nw w U) ∧ (∀ C ∈ gx_aos, va_AO C U) ∧ (∀ z ∈ gx_faces, va_Fw z.1 z.2.1 z.2.2 U) ∧ (∀ (i : Nat) (z : String × Nat × String), gx_strs[i]? = some z → vk_R z.1 z.2.1 z.2.2 (D.2.2.1 i) U) ∧ (∀ z ∈ gx_privs, (Cond.selects z.1 z.2 z.2).before #[] U = true) ∧ (∀ z ∈ gx_ncs, va_Nc z.1 z.2 U) ∧ (∀ z ∈ gx_dfl, gx_Dw z.1 z.2.1 z.2.2 U)
theorem gx_faces_ok : ∀ z ∈ gx_faces, z.2.1.cls ≠ "java/lang/invoke/MethodHandle" ∧ z.2.1.cls ≠ "java/lang/invoke/VarHandle" := by decide +kernel
theorem gx_K.warm {D : gx_D} {s U : State} (hW : s.WarmedH U.vm) (h : gx_K D s) : gx_K D U := by
  obtain ⟨h1, h2, h3, h4, h5, h6, h7, h8, h9⟩ := h
  refine ⟨fun c q hq => u_Kn_moved hW.alike (h1 c q hq), fun k ty hk => ⟨arrOfT_moved hW.alike (h2 k ty hk).1, (h2 k ty hk).2.moved hW.alike⟩, fun w hw hg => gx_okN_warm hg hW (h3 w hw hg), fun C hC => va_AO.moved hW.alike (h4 C hC), fun z hz => (h5 z hz).moved (gx_faces_ok z hz) hW.alike, fun i z hz => (h6 i z hz).warm hW, fun z hz => word_at hW (Or.inl rfl) (h7 z hz), fun z hz => va_Nc.moved hW.alike (h8 z hz), fun z hz => (h9 z hz).moved (gx_dfl_ok z hz) hW.alike⟩
theorem gx_K.same {D : gx_D} {u U : State} (hv : U.vm = u.vm) (h : gx_K D u) : gx_K D U := by
  obtain ⟨h1, h2, h3, h4, h5, h6, h7, h8, h9⟩ := h
  have hA : u.vm.Alike U.vm := by rw [hv]; exact Vm.Alike.refl _
  exact ⟨fun c q hq => u_Kn_moved hA (h1 c q hq), fun k ty hk => ⟨arrOfT_moved hA (h2 k ty hk).1, (h2 k ty hk).2.moved hA⟩, fun w hw hg => (h3 w hw hg).same (gx_okN_tab hg) hv.symm, fun C hC => va_AO.moved hA (h4 C hC), fun z hz => (h5 z hz).moved (gx_faces_ok z hz) hA, fun i z hz => (h6 i z hz).same hv, fun z hz => va_tabs rfl hv.symm (h7 z hz), fun z hz => va_Nc.moved hA (h8 z hz), fun z hz => (h9 z hz).moved (gx_dfl_ok z hz) hA⟩
/-- statics and constant objects, that nobody writes -/
def gx_Z (D : gx_D) (A : Nat → Prop) (U : State) (H : Heap) : Prop :=
  (vx_Zq Bundle.tN "UNASSIGNED_STACK" Bundle.steD A U H ∧ vx_Zq Bundle.tN "SUPPRESSED_SENTINEL" Bundle.listD A U H) ∧
  (∀ z ∈ gx_stats, va_Z z.1 z.2.1 z.2.2.1 (gx_sv D z.2.2.2) A U H) ∧ (∀ z ∈ gx_objs, va_O z.1 (D.2.2.1 z.2) A U H) ∧ (∀ z ∈ gx_ofs, va_OF z.1 z.2.1 z.2.2.1 (va_rf (some (D.2.2.1 z.2.2.2.2))) (D.2.2.1 z.2.2.2.1) A U H)
theorem gx_Z.moved {D : gx_D} {A : Nat → Prop} {u U : State} {H : Heap} (hvm : u.vm.Alike U.vm) (h : gx_Z D A u H) : gx_Z D A U H :=
  ⟨⟨vx_Zq.moved hvm h.1.1, vx_Zq.moved hvm h.1.2⟩, fun z hz => (h.2.1 z hz).moved hvm, fun z hz => (h.2.2.1 z hz).moved hvm, fun z hz => (h.2.2.2 z hz).moved hvm⟩
theorem gx_Z.kept {D : gx_D} {A : Nat → Prop} {U : State} {H H1 : Heap} (h : gx_Z D A U H) (hq : ∀ a : Nat, a < H.size → ¬ A a → H1[a]? = H[a]?) : gx_Z D A U H1 :=
  ⟨⟨h.1.1.kept hq, h.1.2.kept hq⟩, fun z hz => (h.2.1 z hz).kept hq, fun z hz => (h.2.2.1 z hz).kept hq, fun z hz => (h.2.2.2 z hz).kept hq⟩
theorem gx_Znarrow {C n d : String} {v : Value} {A B : Nat → Prop} {U : State} {H : Heap} (h : va_Z C n d v A U H) (hAB : ∀ q, q < H.size → B q → A q) : va_Z C n d v B U H := by
  obtain ⟨cf, kf, fi, f, a, cell, h1, h2, h3, h4, h5, h6, h7, h8⟩ := h
  exact ⟨cf, kf, fi, f, a, cell, h1, h2, h3, h4, h5, h6, h7, fun z => h8 (hAB a (Array.getElem?_eq_some_iff.mp h5).1 z)⟩
theorem gx_Onarrow {E : String} {t : Nat} {A B : Nat → Prop} {U : State} {H : Heap} (h : va_O E t A U H) (hAB : ∀ q, q < H.size → B q → A q) : va_O E t B U H := by
  obtain ⟨cell, h1, h2, h3, h4⟩ := h
  exact ⟨cell, h1, h2, h3, fun z => h4 (hAB t (Array.getElem?_eq_some_iff.mp h1).1 z)⟩
theorem gx_OFnarrow {o n d : String} {v : Value} {t : Nat} {A B : Nat → Prop} {U : State} {H : Heap} (h : va_OF o n d v t A U H) (hAB : ∀ q, q < H.size → B q → A q) : va_OF o n d v t B U H := by
  obtain ⟨cf, k, i, f, cell, h1, h2, h3, h4, h5, h6⟩ := h
  exact ⟨cf, k, i, f, cell, h1, h2, h3, h4, h5, fun z => h6 (hAB t (Array.getElem?_eq_some_iff.mp h3).1 z)⟩
theorem gx_Qnarrow {C n d : String} {A B : Nat → Prop} {U : State} {H : Heap} (h : vx_Zq C n d A U H) (hAB : ∀ q, q < H.size → B q → A q) : vx_Zq C n d B U H := by
  obtain ⟨h1, c, k, i, f, a, cell, e1, e2, e3, e4, e5, e6, e7, e8, e9, e10⟩ := h
  refine ⟨?_, c, k, i, f, a, cell, e1, e2, e3, e4, e5, e6, e7, e8, e9, fun z => e10 (hAB a (Array.getElem?_eq_some_iff.mp e5).1 z)⟩
  rcases h1 with h1 | ⟨t, h1⟩
  · exact Or.inl (gx_Znarrow h1 hAB)
  · exact Or.inr ⟨t, gx_Znarrow h1 hAB⟩
theorem gx_Z.narrow {D : gx_D} {A B : Nat → Prop} {U : State} {H : Heap} (h : gx_Z D A U H) (hAB : ∀ q, q < H.size → B q → A q) : gx_Z D B U H :=
  ⟨⟨gx_Qnarrow h.1.1 hAB, gx_Qnarrow h.1.2 hAB⟩, fun z hz => gx_Znarrow (h.2.1 z hz) hAB, fun z hz => gx_Onarrow (h.2.2.1 z hz) hAB, fun z hz => gx_OFnarrow (h.2.2.2 z hz) hAB⟩
/-- where a method stands: its start's abstract heap h0, now h -/
def gx_Cur (D : gx_D) (h0 h : HX) (s : State) (H : Heap) (locs : List Loc) : Prop := gx_H D h H ∧ va_S (gx_A h0) s.heap H locs ∧ (∀ (a : Nat) (x : gx_E), h.2.2 a = some (true, x) → gx_A h0 a) ∧ gx_le h0 h
/-- a method's start -/
def gx_Pc (D : gx_D) (h0 : HX) (av : List Value) : Array Value → State → Prop := fun v U => v = av.toArray ∧ gx_H D h0 U.heap ∧ gx_K D U ∧ gx_Z D (gx_A h0) U U.heap
/-- a method's end: it answers rv, the heap is hz -/
def gx_Q (D : gx_D) (h0 hz : HX) (rv : Option Value) : Array Value → State → Outcome → State → Prop := fun _ st oc t => oc = .returned rv ∧ gx_H D hz t.heap ∧ va_F (gx_A h0) st t ∧ (∀ (a : Nat) (x : gx_E), hz.2.2 a = some (true, x) → gx_A h0 a)
def gx_rm (fr lo : Nat) (h0 hz : HX) : Room := { frames := fr, cells := hz.1 - h0.1, slots := hz.2.1 - h0.2.1, locals := lo }
/-- a method's contract: called with av in the abstract heap h0 it answers rv and leaves hz -/
def gx_Met (l : Launch) (y : MethodName) (cc : ByteArray) (nL : Nat) (rt : Option FieldType) (fr lo : Nat) (D : gx_D) (av : List Value) (h0 : HX) (rv : Option Value) (hz : HX) : Prop :=
  gx_le h0 hz ∧ Met l y (ws_ y cc nL rt) (gx_rm fr lo h0 hz) (gx_Pc D h0 av) (gx_Q D h0 hz rv) (hz.1 - h0.1) (hz.2.1 - h0.2.1) (gx_A h0)
theorem gx_Pc.blind {D : gx_D} {h0 : HX} {av : List Value} : FrameBlind (gx_Pc D h0 av) := by
  intro a U g mk q
  obtain ⟨q0, q1, q2, q3⟩ := q
  exact ⟨q0, q1, q2.same (u := U) (U := U.calling g mk a) rfl, q3.moved (u := U) (U := U.calling g mk a) (Vm.Alike.refl U.vm)⟩
theorem gx_Pc.start {D : gx_D} {h0 h : HX} {av : List Value} {s : State} {H : Heap} {locs : List Loc} (hK : gx_K D s) (hZ : gx_Z D (gx_A h0) s s.heap) (hs : h0.1 = s.heap.size) (hc : gx_Cur D h0 h s H locs) : ∀ U : State, U.heap = H → s.WarmedH U.vm → gx_Pc D h av av.toArray U := by
  intro U hU hW
  obtain ⟨c1, c2, c3, c4⟩ := hc
  refine ⟨rfl, by rw [hU]; exact c1, hK.warm hW, ?_⟩
  rw [hU]
  refine ((hZ.kept c2.2.1).moved hW.alike).narrow fun q hq hA => ?_
  rcases hA with ⟨e, he⟩ | hA
  · exact c3 q e he
  · have := c1.1
    omega
/-- what a method's body knows all through -/
def gx_Ctx (p : Program) (R : Room) (s : State) (m : MethodId) (args : Array Value) (meth : Method) (c : Code) (own : String) (cc : ByteArray) (nL : Nat) (rt : Option FieldType) (fr lo : Nat) (D : gx_D) (h0 hz : HX) : Prop :=
  (p.tables.exec = Jvm.exec ∧ c.code = cc ∧ c.maxLocals = nL ∧ s.vm.findClass own = some m.cls ∧ ∀ w ∈ lw_all, w.before args s = true) ∧ gx_K D s ∧ gx_Z D (gx_A h0) s s.heap ∧ meth.locks = false ∧ h0.1 = s.heap.size ∧ meth.sig.returnType = rt ∧ fr ≤ R.frames ∧ lo ≤ R.locals ∧ hz.1 - h0.1 ≤ R.cells ∧ hz.2.1 - h0.2.1 ≤ R.slots ∧ gx_H D h0 s.heap
section GXC
variable {p : Program} {R : Room} {s : State} {m : MethodId} {args : Array Value} {meth : Method} {c : Code} {own : String} {cc : ByteArray} {nL : Nat} {rt : Option FieldType} {fr lo : Nat} {D : gx_D} {h0 hz : HX}
theorem gx_Ctx.fix (C : gx_Ctx p R s m args meth c own cc nL rt fr lo D h0 hz) : CallFix p m c cc nL s args lw_all own := C.1
theorem gx_Ctx.exec (C : gx_Ctx p R s m args meth c own cc nL rt fr lo D h0 hz) : p.tables.exec = Jvm.exec := C.1.1
theorem gx_Ctx.bytes (C : gx_Ctx p R s m args meth c own cc nL rt fr lo D h0 hz) : c.code = cc := C.1.2.1
theorem gx_Ctx.maxl (C : gx_Ctx p R s m args meth c own cc nL rt fr lo D h0 hz) : c.maxLocals = nL := C.1.2.2.1
theorem gx_Ctx.hown (C : gx_Ctx p R s m args meth c own cc nL rt fr lo D h0 hz) : s.vm.findClass own = some m.cls := C.1.2.2.2.1
theorem gx_Ctx.hts (C : gx_Ctx p R s m args meth c own cc nL rt fr lo D h0 hz) : ∀ w ∈ lw_all, w.before args s = true := C.1.2.2.2.2
theorem gx_Ctx.K (C : gx_Ctx p R s m args meth c own cc nL rt fr lo D h0 hz) : gx_K D s := C.2.1
theorem gx_Ctx.Z (C : gx_Ctx p R s m args meth c own cc nL rt fr lo D h0 hz) : gx_Z D (gx_A h0) s s.heap := C.2.2.1
theorem gx_Ctx.locks (C : gx_Ctx p R s m args meth c own cc nL rt fr lo D h0 hz) : meth.locks = false := C.2.2.2.1
theorem gx_Ctx.size (C : gx_Ctx p R s m args meth c own cc nL rt fr lo D h0 hz) : h0.1 = s.heap.size := C.2.2.2.2.1
theorem gx_Ctx.ret (C : gx_Ctx p R s m args meth c own cc nL rt fr lo D h0 hz) : meth.sig.returnType = rt := C.2.2.2.2.2.1
theorem gx_Ctx.hfr (C : gx_Ctx p R s m args meth c own cc nL rt fr lo D h0 hz) : fr ≤ R.frames := C.2.2.2.2.2.2.1
theorem gx_Ctx.hlo (C : gx_Ctx p R s m args meth c own cc nL rt fr lo D h0 hz) : lo ≤ R.locals := C.2.2.2.2.2.2.2.1
theorem gx_Ctx.ce (C : gx_Ctx p R s m args meth c own cc nL rt fr lo D h0 hz) : hz.1 - h0.1 ≤ R.cells := C.2.2.2.2.2.2.2.2.1
theorem gx_Ctx.sl (C : gx_Ctx p R s m args meth c own cc nL rt fr lo D h0 hz) : hz.2.1 - h0.2.1 ≤ R.slots := C.2.2.2.2.2.2.2.2.2.1
theorem gx_Ctx.heap (C : gx_Ctx p R s m args meth c own cc nL rt fr lo D h0 hz) : gx_H D h0 s.heap := C.2.2.2.2.2.2.2.2.2.2
end GXC
/-- the machine, at the abstract frame (pc, L, st) and the abstract heap h, comes to Q; from here to the end (hz) the heap only grows -/
def gx_G (p : Program) (l : Launch) (e : Env) (R : Room) (s : State) (m : MethodId) (args : Array Value) (below : List Frame) (meth : Method) (c : Code) (D : gx_D) (h0 hz : HX) (nL : Nat) (Q : State → Prop) (pc : Nat) (L : List (Nat × Value)) (st : List Value) (h : HX) : Prop :=
  gx_le h hz ∧ ∀ (H : Heap) (locs : List Loc) (ls : Array Slot), lv_has ls nL L → gx_Cur D h0 h s H locs → W p l e R s m args below meth c H locs (h.1 - h0.1) (h.2.1 - h0.2.1) Q (F0 m pc ls st)
/-- the end of a method that answers rv -/
abbrev gx_MQ (below : List Frame) (args : Array Value) (s : State) (D : gx_D) (h0 hz : HX) (rv : Option Value) : State → Prop := MQ below (gx_Q D h0 hz rv) args s (hz.1 - h0.1) (hz.2.1 - h0.2.1) (gx_A h0)
theorem gx_bs {α β : Type} {x : Option α} {K : α → Option β} {z : β} (h : x.bind K = some z) : ∃ v, x = some v ∧ K v = some z := Option.bind_eq_some_iff.mp h
theorem gx_it {α : Type} {P : Prop} [Decidable P] {a b z : α} (c : P) (h : (if P then a else b) = z) : a = z := by rw [if_pos c] at h; exact h
theorem gx_if {α : Type} {P : Prop} [Decidable P] {a b z : α} (c : ¬ P) (h : (if P then a else b) = z) : b = z := by rw [if_neg c] at h; exact h
