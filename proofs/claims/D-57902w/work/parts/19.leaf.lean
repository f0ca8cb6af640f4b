/-! methods of classes of which the tables do not say that they are initialised (an enum constant's own class): run in a frame of their own, with no contract of the library's kind -/
set_option maxRecDepth 100000
def gx_MetN (l : Launch) (x : MethodName) (S : Spec) (P : Array Value → State → Prop) (Q : Array Value → State → Outcome → State → Prop) : Prop :=
  ∀ (p : Program) e, l.admits e → FairCas e.choices → FairClock e.choices → ∀ s m args below, s.frames = .invoking m args :: below →
    (s.status = .running ∧ s.curStatus? = some .runnable ∧ s.alone = true ∧ s.methodNamed? x = some m ∧ s.hears m below = true ∧ s.hasRoom e.platform S.room = true ∧ S.pre.before args s = true) → P args s →
    ∃ n o, (∀ k, k < n → Within (stepsAlone p.tables e k s) below) ∧ (stepsAlone p.tables e n s).status = .running ∧ Ended (stepsAlone p.tables e n s) below o ∧ Q args s o (stepsAlone p.tables e n s)
/-- what the body of such a method may lean on -/
def gx_Fa (p : Program) (l : Launch) (x : MethodName) (S : Spec) (cc : ByteArray) (nL : Nat) (rt : Option FieldType) (e : Env) (s : State) (m : MethodId) (args : Array Value) (below : List Frame) (meth : Method) (c : Code) (s₁ : State) : Prop :=
  (l.admits e ∧ FairCas e.choices ∧ FairClock e.choices ∧ p.tables.exec = Jvm.exec) ∧ s.frames = .invoking m args :: below ∧ s.methodNamed? x = some m ∧ s.hears m below = true ∧ s.hasRoom e.platform S.room = true ∧ S.pre.before args s = true ∧ s.vm.method? m = some meth ∧ (meth.sig.returnType = rt ∧ meth.locks = false ∧ c.code = cc ∧ c.maxLocals = nL ∧ meth.code = some c) ∧ s₁ = s.setFrames (.java (entryFrame m args nL) :: below) ∧ At s₁ m c below
theorem gx_Fa.stand {p : Program} {l : Launch} {x : MethodName} {S : Spec} {cc : ByteArray} {nL : Nat} {rt : Option FieldType} {e : Env} {s : State} {m : MethodId} {args : Array Value} {below : List Frame} {meth : Method} {c : Code} {s₁ : State} (B : gx_Fa p l x S cc nL rt e s m args below meth c s₁) : Stand p l e S.room s m args below meth c s₁ [] 0 0 := by
  obtain ⟨⟨b1, b2, b3, b4⟩, b5, b6, b7, b8, b9, b10, ⟨b11, b12, b13, b14, b15⟩, b16, b17⟩ := B
  obtain ⟨t, ht, -⟩ := State.frames_cons b5
  have hcur := State.cur_lt_of_frames b5
  have hfr : s₁.frames = .java (entryFrame m args nL) :: below := by rw [b16]; exact State.frames_setFrames _ hcur
  refine ⟨b1, b2, b3, b5, b8, b7, b10, b15, b17, by rw [hfr]; rfl, by rw [b16]; exact State.WarmedH.refl s, by rw [b16, State.stackLimits_setFrames], by rw [b16, State.stackBytes_setFrames], ?_⟩
  have h := (State.sameButNew.refl s ht).setFrames (.java (entryFrame m args nL) :: below) hcur
  rw [b16]
  exact h
theorem gx_MetN.ofBody {l : Launch} {x : MethodName} {S : Spec} {P : Array Value → State → Prop} {Q : Array Value → State → Outcome → State → Prop} {cc : ByteArray} {nL : Nat} {rt : Option FieldType} (hx : plainName x.cls = true)
    (his : ∀ args (s : State) m, S.pre.before args s = true → s.methodNamed? x = some m → ∃ meth c, s.vm.method? m = some meth ∧ meth.code = some c ∧ c.code = cc ∧ c.maxLocals = nL ∧ meth.sig.returnType = rt ∧ meth.locks = false)
    (body : ∀ p e s m args below meth c s₁, gx_Fa p l x S cc nL rt e s m args below meth c s₁ → P args s → ∃ s₂ o, Steps p.tables e below (s₁.setTop (entryFrame m args nL)) s₂ ∧ s₂.status = .running ∧ Ended s₂ below o ∧ Q args s o s₂) : gx_MetN l x S P Q := by
  intro p e ha hc hk s m args below hf happ hP
  obtain ⟨hrun, hable, halone, hname, hhears, hroom, hpre⟩ := happ
  obtain ⟨meth, c, hmeth, hcode, hbytes, hlocals, hret, hlocks⟩ := his args s m hpre hname
  have hcur := State.cur_lt_of_frames hf
  have hf1 : (s.setFrames (.java (entryFrame m args nL) :: below)).frames = .java (entryFrame m args nL) :: below := State.frames_setFrames _ hcur
  have ht1 := State.topJava?_of_frames hf1
  have hplain : (s.setFrames (.java (entryFrame m args nL) :: below)).plainMethod m := State.plainMethod.of_named (s := s) (plainFor_of_name hx) hname hmeth
  have hAt : At (s.setFrames (.java (entryFrame m args nL) :: below)) m c below :=
    ⟨by rw [ht1]; rfl, ⟨[], by rw [hf1]; rfl⟩, hrun, by simpa using hable, by simpa using halone,
      by rw [State.code?_eq]; simp [State.setFrames, hmeth, hcode], hplain⟩
  have hstep : (stepThread p.tables e s).1 = (s.setFrames (.java (entryFrame m args nL) :: below)).setTop (entryFrame m args nL) := by
    have hfull : e.platform.stackFull (s.setFrames below).me (s.setFrames below).frames c.maxLocals = false := by
      obtain ⟨-, h1, -, h2⟩ := State.hasRoom_stack hroom
      rw [hf, List.length_cons] at h1
      rw [State.localsInUse_invoking hf hmeth hcode] at h2
      have hw := stackUse_le_stackWeight below
      rw [State.frames_setFrames _ hcur]
      exact Platform.stackFull_eq_false (by rw [State.stackLimits_setFrames]; omega) (by rw [State.stackLimits_setFrames]; omega)
    rw [stepThread_invoking hf, (doInvoke_java (s := s.setFrames below) (e := e) (meth := meth) (code := c) hmeth hcode hlocks hfull).1, State.setTop_self ht1]
    simp only [State.pushFrame, State.frames_setFrames _ hcur, State.setFrames_setFrames, hlocals, entryFrame]
  obtain ⟨s₂, o, hs, hr, he, hp⟩ := body p e s m args below meth c _ ⟨⟨ha, hc, hk, by cases p <;> rfl⟩, hf, hname, hhears, hroom, hpre, hmeth, ⟨hret, hlocks, hbytes, hlocals, hcode⟩, rfl, hAt⟩ hP
  obtain ⟨n, hn, hw⟩ := Steps.head (tb := p.tables) (e := e) ⟨hrun, hable, halone⟩ ⟨[.invoking m args], hf, by simp, by simp⟩ (hstep ▸ hs)
  exact ⟨n, o, hw, hn ▸ hr, hn ▸ he, hn ▸ hp⟩
theorem gx_callFree {l : Launch} {x : MethodName} {S : Spec} {P : Array Value → State → Prop} {Q : Array Value → State → Outcome → State → Prop} {e : Env} (hM : gx_MetN l x S P Q) (p : Program) (ha : l.admits e) (hc : FairCas e.choices) (hk : FairClock e.choices)
    {s : State} {m : MethodId} {args : Array Value} {acts : List Action} {mid below : List Frame} (hfr : s.frames = mid ++ below) (hne : (s.pushFrame (.invoking m args)).frames ≠ [])
    (happ : (s.pushFrame (.invoking m args)).status = .running ∧ (s.pushFrame (.invoking m args)).curStatus? = some .runnable ∧ (s.pushFrame (.invoking m args)).alone = true ∧ (s.pushFrame (.invoking m args)).methodNamed? x = some m ∧ (s.pushFrame (.invoking m args)).hears m s.frames = true ∧ (s.pushFrame (.invoking m args)).hasRoom e.platform S.room = true ∧ S.pre.before args (s.pushFrame (.invoking m args)) = true) (hP : P args (s.pushFrame (.invoking m args))) :
    ∃ o s₂, Steps p.tables e below (doInvoke e s acts m args).1 s₂ ∧ s₂.status = .running ∧ Ended s₂ s.frames o ∧ Q args (s.pushFrame (.invoking m args)) o s₂ := by
  obtain ⟨t, ht⟩ : ∃ t, s.threads[s.cur]? = some t := by
    cases h : s.threads[s.cur]? with
    | some t => exact ⟨t, rfl⟩
    | none =>
      have : (s.pushFrame (.invoking m args)).frames = [] := by
        simp [State.frames, State.pushFrame, State.setFrames, Array.getElem?_modify, h]
      exact absurd this hne
  have hlt : s.cur < s.threads.size := (Array.getElem?_eq_some_iff.mp ht).1
  have hf' : (s.pushFrame (.invoking m args)).frames = .invoking m args :: s.frames := State.frames_setFrames _ hlt
  obtain ⟨hrun, hable, halone, -⟩ := id happ
  have hgo : (s.pushFrame (.invoking m args)).goesOn := ⟨hrun, hable, halone⟩
  obtain ⟨n, o, hw, hr, he, hp⟩ := hM p e ha hc hk (s.pushFrame (.invoking m args)) m args s.frames hf' happ hP
  have hstep : (stepThread p.tables e (s.pushFrame (.invoking m args))).1 = (doInvoke e s acts m args).1 := by
    rw [stepThread_invoking hf', doInvoke_state e s acts, State.pushFrame, State.setFrames_setFrames, State.setFrames_self ht]
  cases n with
  | zero => exact absurd ⟨[.invoking m args], hf', by simp, by simp⟩ he.not_within
  | succ k =>
    rw [stepsAlone_succ _ hgo, hstep] at hr he hp
    refine ⟨o, _, ⟨k, rfl, fun j hj => ?_⟩, hr, he, hp⟩
    have := hw (j + 1) (by omega)
    rw [stepsAlone_succ _ hgo, hstep, hfr] at this
    exact this.weaken
section GXB
variable {l : Launch} {R : Room} {p : Program} {e : Env} {below : List Frame} {s : State} {sargs : Array Value} {y : MethodName} {len W : Nat}
theorem gx_backN {ws : List Cond} {rm : Room} {Pc : Array Value → State → Prop} {Qc : Array Value → State → Outcome → State → Prop} {mc ms : Nat} {free : Addr → Prop} {bytes : ByteArray} {maxL : Nat} {ret : Option FieldType}
    (hM : gx_MetN l y (headSpec ws rm) Pc (fun a st o t => Qc a st o t ∧ ∃ L, FrameEnd st o t L mc ms ∧ ∀ q ∈ L, free q.base)) (hblind : FrameBlind Pc) (hrc : rm.cells = mc) (hrs : rm.slots = ms)
    (hframes : rm.frames + 1 ≤ R.frames) (hlocals : W + (maxL + 11) + rm.locals ≤ R.locals)
    (hws : ∀ w ∈ ws, ∀ a' U, s.WarmedH U.vm → w.before a' U = true) (hcode : Cond.code y bytes maxL ret ∈ ws) :
    Back l R p e below s sargs y len W (PreOf R mc ms Pc) (PostOf Qc mc ms free) := by
  intro m meth c A g ig mk a X hg hsize hdg hW hn hp
  obtain ⟨U, Ls, c0, s0⟩ := A
  have h1 : (headSpec ws rm).pre.before a U = true := atoms_intro fun w hw => hws w hw _ _ X.warmed
  have h2 : (Cond.code y bytes maxL ret).before a U = true := hws _ hcode _ _ X.warmed
  obtain ⟨h4, h5, h6⟩ := hp
  dsimp only [Pt.U, Pt.locs, Pt.cells, Pt.slots] at h4 h5 h6 X hn ⊢
  obtain ⟨methY, cY, hmY, hcY, -, hlY, -, -, -, -⟩ := Cond.code_spec hn h2
  have h : At U g.method c below := by rw [hg]; exact X.here
  have hlo2 : 2 * g.monitorRoom + (g.stack.map fun v => v.category).sum + (cY.maxLocals + 11) + (headSpec ws rm).room.locals ≤ R.locals := by
    rw [hlY]
    show _ + rm.locals ≤ R.locals
    omega
  have hroom := X.room_calling (g := g) (args' := a) (R' := (headSpec ws rm).room) hsize hmY hcY hframes hlo2 (by show c0 + rm.cells ≤ _; rw [hrc]; exact h4) (by show s0 + rm.slots ≤ _; rw [hrs]; exact h5)
  have hcodeU : (U.calling g mk a).code? g.method = some c := by
    have := h.code
    rw [State.code?_eq] at this ⊢
    simpa [State.calling, State.pushFrame, State.setFrames] using this
  obtain ⟨mid, hmid⟩ := h.above
  have hfr : (U.setTop g).frames = (.java g :: mid) ++ below := by rw [State.frames_setTop' g h.top, hmid]; rfl
  have hft : (U.setTop g).frames = .java g :: U.frames.tail := State.frames_setTop' g h.top
  have hfc := State.frames_calling h.top g mk a
  obtain ⟨o, s₂, hsteps, -, hend, hq⟩ := gx_callFree hM p X.admits X.cas X.clock (acts := []) hfr (m := mk) (args := a) (by
      show (U.calling g mk a).frames ≠ []
      rw [hfc]
      exact List.cons_ne_nil _ _)
    ⟨h.running, by simpa [State.calling] using h.runnable, by simpa [State.calling] using h.alone, hn, by rw [hft]; show (U.calling g mk a).hears mk _ = true; simp [State.hears, hcodeU, hdg, Except.toOption], hroom, by show (headSpec ws rm).pre.before a (U.calling g mk a) = true; rw [State.calling_eq h.top, Cond.before_setFrames]; exact h1⟩ (hblind _ _ _ _ h6)
  have hq' : Qc a (U.calling g mk a) o s₂ ∧ ∃ L, FrameEnd (U.calling g mk a) o s₂ L mc ms ∧ ∀ q ∈ L, free q.base := hq
  rw [State.frames_setTop' g h.top] at hend
  obtain ⟨hq1, L, hfe, hE⟩ := hq'
  obtain ⟨⟨v, rfl⟩, hW₂, e2, q2, q3, q4, q5, q6⟩ := id hfe
  have e3 : s₂ = ({ (U.calling g mk a).setFrames s₂.frames with heap := s₂.heap, slotsUsed := s₂.slotsUsed } : State).setVm s₂.vm := by
    have : s₂ = ({ s₂ with vm := (U.calling g mk a).vm } : State).setVm s₂.vm := rfl
    rw [e2] at this
    exact this
  obtain ⟨c₂, i₂, len₂, hc₂, hd₂, hf₂⟩ := hend
  have hW' : U.WarmedH s₂.vm := hW₂
  have hcc : c₂ = c := by
    have h1 : s₂.code? g.method = U.code? g.method := by
      rw [State.code?_eq, State.code?_eq, hW'.alike.method?]
    exact Option.some.inj (hc₂.symm.trans (h1.trans h.code))
  subst hcc
  have hlen : len₂ = len := by rw [hdg] at hd₂; cases hd₂; rfl
  subst hlen
  obtain ⟨g₀, hg0⟩ := Option.isSome_iff_exists.mp h.top
  obtain ⟨r, hr⟩ := State.topJava?_eq_some.mp hg0
  have hs₂ : s₂ = (({ U with heap := s₂.heap, slotsUsed := s₂.slotsUsed } : State).setVm s₂.vm).setTop { g with pc := g.pc + len₂, stack := v.toList ++ g.stack } := by
    have hr' : (({ U with heap := s₂.heap, slotsUsed := s₂.slotsUsed } : State).setVm s₂.vm).frames = .java g₀ :: r := hr
    refine e3.trans ?_
    rw [hf₂, State.calling_eq h.top, State.setFrames_setFrames, State.setTop_of_frames _ hr', hr]
    rfl
  have hsame : U.sameButNew ({ U with heap := s₂.heap, slotsUsed := s₂.slotsUsed } : State) L mc ms := by
    refine ⟨?_, q2, q3, q4, q5, q6⟩
    obtain ⟨t, ht, -⟩ := State.frames_cons hr
    show ({ U with heap := s₂.heap, slotsUsed := s₂.slotsUsed } : State) = { U.setFrames U.frames with heap := s₂.heap, slotsUsed := s₂.slotsUsed }
    rw [State.setFrames_self ht]
  subst hg
  refine ⟨v, ⟨(({ U with heap := s₂.heap, slotsUsed := s₂.slotsUsed } : State).setVm s₂.vm), Ls ++ L, c0 + mc, s0 + ms⟩,
    ⟨X.admits, X.cas, X.clock, X.frames, X.room, X.hears, X.method, X.code, (X.here.setHeapUsed s₂.heap s₂.slotsUsed).setVm hW'.alike, X.tail, State.WarmedH.trans X.warmed hW', X.limits, X.bytes, X.same.trans (hsame.setVm s.vm)⟩,
    ⟨g, mk, s₂, L, rfl, rfl, hq1, rfl, hE, rfl, rfl⟩, ?_⟩
  show Steps p.tables e below _ ((({ U with heap := s₂.heap, slotsUsed := s₂.slotsUsed } : State).setVm s₂.vm).setTop { g with pc := g.pc + len₂, stack := v.toList ++ g.stack })
  rw [← hs₂]
  exact hsteps
end GXB
/-- such a method's contract -/
def gx_NMet (l : Launch) (y : MethodName) (cc : ByteArray) (nL : Nat) (rt : Option FieldType) (fr lo : Nat) (D : gx_D) (av : List Value) (h0 : HX) (rv : Option Value) (hz : HX) : Prop :=
  gx_le h0 hz ∧ gx_MetN l y (headSpec (ws_ y cc nL rt) (gx_rm fr lo h0 hz)) (gx_Pc D h0 av) (fun a st o t => gx_Q D h0 hz rv a st o t ∧ ∃ L, FrameEnd st o t L (hz.1 - h0.1) (hz.2.1 - h0.2.1) ∧ ∀ q ∈ L, gx_A h0 q.base)
theorem gx_ofGN {l : Launch} {y : MethodName} {cc : ByteArray} {nL : Nat} {rt : Option FieldType} {fr lo : Nat} {D : gx_D} {av : List Value} {h0 hz : HX} {rv : Option Value} (hy : plainName y.cls = true) (hav : (lg_sl av).length ≤ nL) (hle : gx_le h0 hz)
    (body : ∀ (p : Program) (e : Env) (R : Room) (s : State) (m : MethodId) (args : Array Value) (below : List Frame) (meth : Method) (c : Code), gx_Ctx p R s m args meth c y.cls cc nL rt fr lo D h0 hz → meth.name = y.name → gx_G p l e R s m args below meth c D h0 hz nL (gx_MQ below args s D h0 hz rv) 0 (lv_args 0 av) [] h0) : gx_NMet l y cc nL rt fr lo D av h0 rv hz := by
  refine ⟨hle, gx_MetN.ofBody (cc := cc) (nL := nL) (rt := rt) hy (fun args s m h hn => ?_) ?_⟩
  · obtain ⟨meth, c, h1, h2, h3, h4, h5, h6, -, -⟩ := Cond.code_spec hn (atoms_spec (ws := ws_ y cc nL rt) h _ List.mem_cons_self)
    exact ⟨meth, c, h1, h2, h3, h4, h5, h6⟩
  · intro p e s m args below meth c s₁ B hv
    have X := B.stand
    obtain ⟨⟨b1, b2, b3, b4⟩, b5, b6, b7, b8, b9, b10, ⟨b11, b12, b13, b14, b15⟩, b16, b17⟩ := B
    obtain ⟨rfl, hH, hK, hZ⟩ := hv
    have hts := atoms_spec (ws := ws_ y cc nL rt) b9
    have hts : ∀ w ∈ lw_all, w.before _ s = true := fun w h => hts w (List.mem_cons_of_mem _ h)
    have hown : s.vm.findClass y.cls = some m.cls := findClass_of_methodNamed b6
    have hin : meth.name = y.name := (name_of_methodNamed b6 b10).1
    have hl := lv_entry av (n := nL) hav
    have C : gx_Ctx p (headSpec (ws_ y cc nL rt) (gx_rm fr lo h0 hz)).room s m av.toArray meth c y.cls cc nL rt fr lo D h0 hz := ⟨⟨b4, b13, b14, hown, hts⟩, hK, hZ, b12, hH.1.symm, b11, Nat.le_refl _, Nat.le_refl _, Nat.le_refl _, Nat.le_refl _, hH⟩
    have k := (body p e _ s m av.toArray below meth c C hin).2 s.heap [] _ hl ⟨hH, va_S.rf, fun a x hx => Or.inl ⟨x, hx⟩, gx_le.rf⟩
    rw [Nat.sub_self, Nat.sub_self] at k
    have hh0 : s₁.heap = s.heap := by rw [b16]; rfl
    obtain ⟨t, a1, o, c1, c2, c3⟩ := k s₁ hh0 X
    refine ⟨t, o, ?_, c1, c2, ⟨c3.1, c3.2⟩⟩
    rw [lg_entry_eq]
    exact a1
section GXE
variable {p : Program} {l : Launch} {e : Env} {R : Room} {s : State} {m : MethodId} {args : Array Value} {below : List Frame} {meth : Method} {c : Code} {Q : State → Prop}
variable {own : String} {cc : ByteArray} {nL : Nat} {rt : Option FieldType} {fr lo : Nat} {D : gx_D} {h0 hz h h1 : HX} {pc : Nat} {L L1 : List (Nat × Value)} {st : List Value}
theorem gx_callEN (C : gx_Ctx p R s m args meth c own cc nL rt fr lo D h0 hz) {i n : Nat} {z : String × Nat} {ow : String} {x y : MethodName} {cc' : ByteArray} {nL' fr' lo' : Nat} {rt' : Option FieldType} {As st0 : List Value} {rv : Option Value} (j : Nat) (hj : gx_objs[j]? = some z) (hM : gx_NMet l y cc' nL' rt' fr' lo' D (va_rf (some (D.2.2.1 z.2)) :: As) h rv h1) (hlink : Cond.methodLink own i x ∈ lw_all) (hsame : Cond.sameMethod x.cls ow x.name x.desc ∈ lw_all) (hdecl : Cond.declares ⟨ow, x.name, x.desc⟩ ∈ lw_tbl) (how : ow ≠ "java/lang/invoke/MethodHandle" ∧ ow ≠ "java/lang/invoke/VarHandle") (hsel : Cond.selects z.1 x y ∈ lw_all) (hinst : Cond.instanceMethod y ∈ lw_all) (hcode : Cond.code y cc' nL' rt' ∈ lw_all) (hm : gx_mok x n) (hR : fr' + 1 ≤ fr ∧ 8 + (nL' + 11) + lo' ≤ lo) (hn : As.length = n) (hs : st0 = As.reverse ++ va_rf (some (D.2.2.1 z.2)) :: st) (hcat : (st.map fun v => v.category).sum ≤ 8) (d : decode cc pc = .ok (.invokevirtual i, 3))
    (k1 : gx_G p l e R s m args below meth c D h0 hz nL Q (pc + 3) L (rv.toList ++ st) h1) : gx_G p l e R s m args below meth c D h0 hz nL Q pc L st0 h := by
  refine ⟨hM.1.tr k1.1, fun H locs ls hl hc => ?_⟩
  have hR1 := C.hfr
  have hR2 := C.hlo
  obtain ⟨cell, f1, f2, f3, -⟩ := (C.Z.2.2.1 z (List.mem_of_getElem? hj)).kept hc.2.1.2.1
  refine gx_run (a := (Value.ref (D.2.2.1 z.2) :: As).toArray) C hM.1 hl hc ?_ k1
  have hroom := gx_room C hc hM.1 k1.1
  have hK : Back l R p e below s args y 3 8 (PreOf R (h1.1 - h.1) (h1.2.1 - h.2.1) (gx_Pc D h (va_rf (some (D.2.2.1 z.2)) :: As))) (PostOf (gx_Q D h h1 rv) (h1.1 - h.1) (h1.2.1 - h.2.1) (gx_A h)) :=
    gx_backN hM.2 gx_Pc.blind rfl rfl (by show fr' + 1 ≤ _; omega) (by show _ + lo' ≤ _; omega) (pay_in C.hts (lw_meth hcode)) List.mem_cons_self
  obtain ⟨hx, hb, hml, ho, -⟩ := C.fix
  intro T hT X
  obtain ⟨v, vm₁, ⟨U', l2, c2, s2⟩, hW₁, X', ⟨g', mk, t, L2, e1, e2, hq, q1, hL, q2, q3⟩, st1⟩ := va_callVU X hx (C := z.1) (owner := ow) (bytes := cc') (maxL := nL') (ret := rt') ho (C.hts _ hlink) (C.hts _ hsame) (va_Decl.abs (C.K.2.2.1 _ hdecl rfl)) how (C.hts _ hsel) (C.hts _ hinst) (C.hts _ hcode) hK (by rw [hT]; exact f1) f2 f3 (g := F0 m pc ls st0) rfl (hl.1.trans hml.symm) (argsL := As) (rest := st) (fun sig hh => by
      have h2 := hm.2.2
      rw [hh] at h2
      exact hn.trans (Option.some.inj h2).symm) hs (lv_room hcat) (by rw [hb]; exact d)
    (fun vm₁ hW₁ => ⟨hroom.1, hroom.2, gx_Pc.start C.K C.Z C.size hc (T.setVm vm₁) hT hW₁⟩)
  dsimp only [Pt.U, Pt.locs, Pt.cells, Pt.slots] at X' e1 e2 q1 q2 q3 st1
  subst q1; subst q2; subst q3
  exact ⟨v, (T.setVm vm₁).calling g' mk (Value.ref (D.2.2.1 z.2) :: As).toArray, t, U', L2, hT, X', hL, e1, e2, hq, st1⟩
end GXE
