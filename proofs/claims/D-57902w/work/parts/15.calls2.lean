/-! rows: arraycopy, clone, calls -/
set_option maxRecDepth 100000
section GXK
variable {p : Program} {l : Launch} {e : Env} {R : Room} {s : State} {m : MethodId} {args : Array Value} {below : List Frame} {meth : Method} {c : Code} {Q : State → Prop}
variable {own : String} {cc : ByteArray} {nL : Nat} {rt : Option FieldType} {fr lo : Nat} {D : gx_D} {h0 hz h h1 : HX} {pc : Nat} {L : List (Nat × Value)} {st : List Value}
theorem gx_nn {z : Int32} (hz : 0 ≤ z) : z.toInt = (z.toNatClampNeg : Int) := by
  have hz0 : (0 : Int) ≤ z.toInt := by simpa using Int32.le_iff_toInt_le.mp hz
  show z.toInt = ((z.toInt.toNat : Nat) : Int)
  omega
theorem gx_copy (C : gx_Ctx p R s m args meth c own cc nL rt fr lo D h0 hz) {a0 a i : Nat} {sp dp n : Int32} (hg : hx_cpy h a0 sp a dp n = some h1) (hlink : Cond.methodLink own i arraycopyName ∈ lw_all) (hnat : Cond.native arraycopyName ∈ lw_all) (hstat : Cond.static arraycopyName ∈ lw_all) (hini : Cond.initialized "java/lang/System" ∈ lw_all) (hfr : 1 ≤ fr) (hlo : (st.map fun v => v.category).sum + (nativeFrameWords "java/lang/System" "arraycopy" 5 + 11) ≤ lo) (d : decode cc pc = .ok (.invokestatic i, 3))
    (k1 : gx_G p l e R s m args below meth c D h0 hz nL Q (pc + 3) L st h1) : gx_G p l e R s m args below meth c D h0 hz nL Q pc L (.int n :: .int dp :: va_rf (some a) :: .int sp :: va_rf (some a0) :: st) h := by
  unfold hx_cpy at hg
  split at hg
  · rename_i b0 t0 n0 f t1 n1 g e0 e1
    split at hg
    · rename_i hc
      obtain ⟨rfl, ht, g1, g2, g3, g4, g5, g6⟩ := hc
      cases hg
      refine ⟨(gx_le.set e1 (fun _ _ e => by cases e)).tr k1.1, fun H locs ls hl hc => ?_⟩
      have hM0 := hc.1.2 a0 _ _ e0
      have hM1 := hc.1.2 a _ _ e1
      obtain ⟨ty, hty, hpr, hfit⟩ : ∃ ty, gx_tys[t0]? = some ty ∧ refKind ty = false ∧ ∀ i, i < n.toNatClampNeg → fits ty (.int (f (sp.toNatClampNeg + i))) = true := by
        match t0, ht, g6 with
        | 0, _, _ => exact ⟨_, rfl, rfl, fun _ _ => rfl⟩
        | 1, _, g6 => exact ⟨_, rfl, rfl, g6 rfl⟩
      have hA := C.K.2.1 t0 ty hty
      obtain ⟨-, k0, hk0, cm0, hkk0⟩ := hA.1 n0 (fun j => .int (f j))
      obtain ⟨-, k1', hk1, cm1, hkk1⟩ := hA.1 n1 (fun j => .int (g j))
      intro T hT X
      have hc0 : T.heap[a0]? = some (vp_cell (D.2.1 t0) (n0, .inl f)) := by rw [hT]; exact hM0.2
      have hc1 : T.heap[a]? = some (vp_cell (D.2.1 t0) (n1, .inl g)) := by rw [hT]; exact hM1.2
      obtain ⟨vm', X', step⟩ := X.arraycopy C.exec C.hown (C.hts _ hlink) (C.hts _ hnat) (C.hts _ hstat) (C.hts _ hini) (src := a0) (dst := a) (cs := vp_cell (D.2.1 t0) (n0, .inl f)) (cd := vp_cell (D.2.1 t0) (n1, .inl g)) (srcPos := sp) (destPos := dp) (n := n) hc0 hc1
        (fun _ h => by cases h) (fun _ h => by cases h) (fun h => by cases h) (fun h => by cases h) hk0 hk1 hkk0 hkk1 (by simp [hpr]) (Int32.not_lt.mpr g1) (Int32.not_lt.mpr g2) (Int32.not_lt.mpr g3)
        (by rw [gx_nn g1, gx_nn g3]; show ¬ _ > ((arrV _ n0 (fun j => .int (f j))).slots.size : Int); rw [arrV_size]; omega)
        (by rw [gx_nn g2, gx_nn g3]; show ¬ _ > ((arrV _ n1 (fun j => .int (g j))).slots.size : Int); rw [arrV_size]; omega)
        (fun vm₁ _ i hi => by
          have e : (vp_cell (D.2.1 t0) (n0, .inl f)).slots.getD (sp.toNatClampNeg + i) .null = .int (f (sp.toNatClampNeg + i)) := by
            show (arrV _ n0 (fun j => .int (f j))).slots.getD _ _ = _
            rw [Array.getD_eq_getD_getElem?, arrV_read _ _ (by omega)]
            rfl
          refine ⟨?_, ?_⟩
          · rw [e]
            exact hfit i hi
          · rw [e]
            exact trivial)
        (g := F0 m pc ls (.int n :: .int dp :: .ref a :: .int sp :: .ref a0 :: st)) rfl (by show ls.size = _; rw [C.maxl]; exact hl.1) (rest := st) rfl (by rw [C.bytes]; exact d) (Nat.le_trans hfr C.hfr) (by have := C.hlo; show 2 * 0 + _ + _ ≤ _; omega)
      have e2 : copied (vp_cell (D.2.1 t0) (n0, .inl f)) (vp_cell (D.2.1 t0) (n1, .inl g)) sp dp n = vp_cell (D.2.1 t0) (n1, .inl (va_cpy f g sp.toNatClampNeg dp.toNatClampNeg n.toNatClampNeg)) := va_copied (fun z => .int z) _ _ f g g4
      rw [e2] at X' step
      have hlt : a < H.size := by
        rw [hT] at hc1
        exact (Array.getElem?_eq_some_iff.mp hc1).1
      have hcur : gx_Cur D h0 (hx_set h a (.inl (t0, n1, .inl (va_cpy f g sp.toNatClampNeg dp.toNatClampNeg n.toNatClampNeg)))) s (H.setIfInBounds a (vp_cell (D.2.1 t0) (n1, .inl (va_cpy f g sp.toNatClampNeg dp.toNatClampNeg n.toNatClampNeg)))) (locs ++ [⟨a, 0⟩]) := by
        refine hc.put e1 ⟨hM0.1, ?_⟩ (fun _ _ e => by cases e) (by simp) (fun q hq => by simp [Array.getElem?_setIfInBounds, Ne.symm hq])
        simp [Array.getElem?_setIfInBounds, hlt]
      obtain ⟨cc1, cc2, cc3, cc4⟩ := hcur
      have hA0 : gx_A h0 a := hc.2.2.1 a _ e1
      obtain ⟨t, a1, b1⟩ := k1.2 _ _ ls hl ⟨cc1, ⟨cc2.1, cc2.2.1, fun q hq => by
        rcases List.mem_append.mp hq with h2 | h2
        · exact hc.2.1.2.2 q h2
        · obtain ⟨z, -, hz⟩ := List.mem_map.mp h2
          rw [← hz]
          exact hA0⟩, cc3, cc4⟩ ((T.setVm vm').setCell a (vp_cell (D.2.1 t0) (n1, .inl (va_cpy f g sp.toNatClampNeg dp.toNatClampNeg n.toNatClampNeg)))) (by rw [← hT]; rfl) X'
      exact ⟨t, step t a1, b1⟩
    · cases hg
  · cases hg
theorem gx_clone (C : gx_Ctx p R s m args meth c own cc nL rt fr lo D h0 hz) {a t i : Nat} {v : Nat × HX} {E ad : String} (hg : hx_clone h a t = some v) (ht : gx_tys[t]? = some (.object E)) (had : ad = "[" ++ (FieldType.object E).toString) (hlink : Cond.methodLink own i ⟨ad, "clone", "()Ljava/lang/Object;"⟩ ∈ lw_all) (hsame : Cond.sameMethod ad "java/lang/Object" "clone" "()Ljava/lang/Object;" ∈ lw_all) (hnat : Cond.native ⟨"java/lang/Object", "clone", "()Ljava/lang/Object;"⟩ ∈ lw_all) (hinst : Cond.instanceMethod ⟨"java/lang/Object", "clone", "()Ljava/lang/Object;"⟩ ∈ lw_all) (hsel : Cond.selects ad ⟨ad, "clone", "()Ljava/lang/Object;"⟩ ⟨"java/lang/Object", "clone", "()Ljava/lang/Object;"⟩ ∈ lw_all) (hcl : Cond.castable ad "java/lang/Cloneable" ∈ lw_tbl) (hfr : 1 ≤ fr) (hlo : (st.map fun v => v.category).sum + 14 ≤ lo) (d : decode cc pc = .ok (.invokevirtual i, 3))
    (k1 : gx_G p l e R s m args below meth c D h0 hz nL Q (pc + 3) L (va_rf (some v.1) :: st) v.2) : gx_G p l e R s m args below meth c D h0 hz nL Q pc L (va_rf (some a) :: st) h := by
  unfold hx_clone at hg
  split at hg
  · rename_i b t' n f e1
    split at hg
    · rename_i hc
      obtain ⟨rfl, h4⟩ := hc
      cases hg
      refine ⟨gx_le.push.tr k1.1, fun H locs ls hl hc => ?_⟩
      have z1 := k1.1.1
      have z2 := k1.1.2.1
      have c4 := hc.2.2.2
      have hc1 := C.ce
      have hc2 := C.sl
      have w1 : h.1 - h0.1 + 1 = (hx_push h n (.inl (t', n, .inr (.inr (.inr (.inr f)))))).1 - h0.1 := by have := c4.1; simp only [hx_push]; omega
      have w2 : h.2.1 - h0.2.1 + n = (hx_push h n (.inl (t', n, .inr (.inr (.inr (.inr f)))))).2.1 - h0.2.1 := by have := c4.2.1; simp only [hx_push]; omega
      dsimp only at z1 z2
      have hA := C.K.2.1 t' _ ht
      obtain ⟨kA', comp', f1', f2', f3', f4'⟩ := hA.2
      have hnm : s.vm.findClass ad = some (D.2.1 t') := by rw [had]; exact f4'
      intro T hT X
      have hcellT : T.heap[a]? = some (vp_cell (D.2.1 t') (n, .inr (.inr (.inr (.inr f))))) := by rw [hT]; exact (hc.1.2 a _ _ e1).2
      obtain ⟨-, kA, hkA, comp, hkind⟩ := State.isArrayOf_alike X.warmed.alike (hA.1 0 (fun _ => .null))
      obtain ⟨-, kS, hkS, compS, hkindS⟩ := hA.1 0 (fun _ => .null)
      obtain ⟨c0, t0, g1, g2, g3⟩ := Cond.castable_spec (va_Nw.use (A := args) rfl (C.K.2.2.1 _ hcl rfl))
      cases hnm.symm.trans g1
      have hsz : (vp_cell (D.2.1 t') (n, .inr (.inr (.inr (.inr f))))).slots.size = n := arrV_size _ _ _
      have hcellE : ({ cls := (vp_cell (D.2.1 t') (n, .inr (.inr (.inr (.inr f))))).cls, slots := (vp_cell (D.2.1 t') (n, .inr (.inr (.inr (.inr f))))).slots } : Cell) = vp_cell (D.2.1 t') (n, .inr (.inr (.inr (.inr f)))) := rfl
      have hfr2 := C.hfr
      have hlo2 := C.hlo
      obtain ⟨vm', X', go⟩ := X.cloneArray C.exec C.hown (C.hts _ hlink) (C.hts _ hsame) (C.hts _ hnat) (C.hts _ hinst) (C.hts _ hsel) (a := a) (cell := vp_cell (D.2.1 t') (n, .inr (.inr (.inr (.inr f))))) hcellT (fun k h => by cases h) (fun h => by cases h) hnm g2 g3
        (fun i v hv => by
          have hk' : T.vm.classes[D.2.1 t']? = some kA := hkA
          have hfit : fits (.object E) v = true := by
            have hlt := (Array.getElem?_eq_some_iff.mp hv).1
            rw [hsz] at hlt
            have hr : (vp_cell (D.2.1 t') (n, .inr (.inr (.inr (.inr f))))).slots[i]? = some (va_rf (f i)) := arrV_read _ _ hlt
            cases hv.symm.trans hr
            cases f i <;> rfl
          show T.fitsSlot (D.2.1 t') _ i v = true
          simpa [State.fitsSlot, State.slotType?, hk', hkind] using hfit)
        (g := F0 m pc ls (.ref a :: st)) rfl (by show ls.size = _; rw [C.maxl]; exact hl.1) rfl (by rw [C.bytes]; exact d) (Nat.le_trans hfr C.hfr) (by show 2 * 0 + _ + 14 ≤ _; omega) (by rw [w1]; omega) (by rw [hsz, w2]; omega) (hloader := Vm.clonesLoader_of_array hkS hkindS)
      rw [hcellE, hsz] at X'
      rw [w1, w2] at X'
      obtain ⟨t, b1, b2⟩ := k1.2 (H.push (vp_cell (D.2.1 t') (n, .inr (.inr (.inr (.inr f)))))) locs ls hl (hc.push C.size ⟨(hc.1.2 a _ _ e1).1, by rw [← hc.1.1, Array.getElem?_push_size]⟩ (by rw [Array.size_push]) (fun q hq => by rw [Array.getElem?_push, if_neg (Nat.ne_of_lt hq)])) ((T.setVm vm').pushCell (vp_cell (D.2.1 t') (n, .inr (.inr (.inr (.inr f)))))) (by rw [← hT]; rfl) X'
      refine ⟨t, go t ?_, b2⟩
      rw [hcellE, hT, hc.1.1]
      exact b1
    · cases hg
  · cases hg
/-- behind a call -/
theorem gx_run {n : Nat} {st0 : List Value} {a : Array Value} {rv : Option Value} (C : gx_Ctx p R s m args meth c own cc nL rt fr lo D h0 hz) (hle1 : gx_le h h1) {H : Heap} {locs : List Loc} {ls : Array Slot} (hl : lv_has ls nL L) (hc : gx_Cur D h0 h s H locs)
    (hr : ∀ T : State, T.heap = H → Stand p l e R s m args below meth c T locs (h.1 - h0.1) (h.2.1 - h0.2.1) → ∃ (v : Option Value) (st₀ t T' : State) (L1 : List Loc), st₀.heap = H ∧ Stand p l e R s m args below meth c T' (locs ++ L1) (h.1 - h0.1 + (h1.1 - h.1)) (h.2.1 - h0.2.1 + (h1.2.1 - h.2.1)) ∧ (∀ q ∈ L1, gx_A h q.base) ∧ T'.heap = t.heap ∧ T'.vm = t.vm ∧ gx_Q D h h1 rv a st₀ (.returned v) t ∧ Goes p e below T (F0 m pc ls st0) T' (F0 m (pc + n) ls (v.toList ++ st)))
    (k1 : gx_G p l e R s m args below meth c D h0 hz nL Q (pc + n) L (rv.toList ++ st) h1) : W p l e R s m args below meth c H locs (h.1 - h0.1) (h.2.1 - h0.2.1) Q (F0 m pc ls st0) := by
  intro T hT X
  obtain ⟨v, st₀, t, T', L1, g0, X', hL, e1, e2, ⟨hv, hh, hF, hw⟩, go⟩ := hr T hT X
  have hv' : v = rv := Outcome.returned.inj hv
  subst hv'
  have hsub : ∀ q : Nat, q < H.size → gx_A h q → gx_A h0 q := fun q hq hA => by
    rcases hA with ⟨x, hx⟩ | hA
    · exact hc.2.2.1 q x hx
    · have := hc.1.1; omega
  have hfree : ∀ q : Nat, gx_A h q → gx_A h0 q := fun q hA => by
    rcases hA with ⟨x, hx⟩ | hA
    · exact hc.2.2.1 q x hx
    · exact Or.inr (Nat.le_trans hc.2.2.2.1 hA)
  have hcur : gx_Cur D h0 h1 s T'.heap (locs ++ L1) := by
    refine ⟨by rw [e1]; exact hh, ⟨?_, fun q q1 q2 => ?_, fun q hq => ?_⟩, fun q x hx => ?_, hc.2.2.2.tr hle1⟩
    · rw [e1]
      have := hF.1
      rw [g0] at this
      exact Nat.le_trans hc.2.1.1 this
    · have hlt : q < H.size := Nat.lt_of_lt_of_le q1 hc.2.1.1
      rw [e1, hF.2 q (by rw [g0]; exact hlt) (fun hA => q2 (hsub q hlt hA)), g0]
      exact hc.2.1.2.1 q q1 q2
    · rcases List.mem_append.mp hq with h2 | h2
      · exact hc.2.1.2.2 q h2
      · exact hfree _ (hL q h2)
    · exact hfree q (hw q x hx)
  have w1 : h.1 - h0.1 + (h1.1 - h.1) = h1.1 - h0.1 := by have := hc.2.2.2.1; have := hle1.1; omega
  have w2 : h.2.1 - h0.2.1 + (h1.2.1 - h.2.1) = h1.2.1 - h0.2.1 := by have := hc.2.2.2.2.1; have := hle1.2.1; omega
  rw [w1, w2] at X'
  obtain ⟨t2, a1, b1⟩ := k1.2 T'.heap (locs ++ L1) ls hl hcur T' rfl X'
  exact ⟨t2, go t2 a1, b1⟩
/-- room for a callee -/
theorem gx_room (C : gx_Ctx p R s m args meth c own cc nL rt fr lo D h0 hz) {H : Heap} {locs : List Loc} (hc : gx_Cur D h0 h s H locs) (hle1 : gx_le h h1) (hle2 : gx_le h1 hz) : h.1 - h0.1 + (h1.1 - h.1) ≤ R.cells ∧ h.2.1 - h0.2.1 + (h1.2.1 - h.2.1) ≤ R.slots := by
  have c1 := C.ce
  have c2 := C.sl
  have d1 := hc.2.2.2.1
  have d2 := hc.2.2.2.2.1
  have a1 := hle1.1
  have a2 := hle1.2.1
  have b1 := hle2.1
  have b2 := hle2.2.1
  constructor <;> omega
/-- what every method is: no method handle's; how many arguments -/
def gx_mok (y : MethodName) (n : Nat) : Prop := y.cls ≠ "java/lang/invoke/MethodHandle" ∧ y.cls ≠ "java/lang/invoke/VarHandle" ∧ (parseMethodDescriptor y.desc).map (fun d => d.parameters.length) = some n
theorem gx_callS (C : gx_Ctx p R s m args meth c own cc nL rt fr lo D h0 hz) {i n : Nat} {y : MethodName} {cc' : ByteArray} {nL' fr' lo' : Nat} {rt' : Option FieldType} {As st0 : List Value} {rv : Option Value} (hM : gx_Met l y cc' nL' rt' fr' lo' D As h rv h1) (hw : GoodIn lw_all (va_wsS own i y (ws_ y cc' nL' rt'))) (hm : gx_mok y n) (hR : fr' + 1 ≤ fr ∧ 8 + (nL' + 11) + lo' ≤ lo) (hn : As.length = n) (hs : st0 = As.reverse ++ st) (hcat : (st.map fun v => v.category).sum ≤ 8) (d : decode cc pc = .ok (.invokestatic i, 3))
    (k1 : gx_G p l e R s m args below meth c D h0 hz nL Q (pc + 3) L (rv.toList ++ st) h1) : gx_G p l e R s m args below meth c D h0 hz nL Q pc L st0 h := by
  refine ⟨hM.1.tr k1.1, fun H locs ls hl hc => ?_⟩
  have hR1 := C.hfr
  have hR2 := C.hlo
  refine gx_run (a := As.toArray) C hM.1 hl hc ?_ k1
  exact va_runS C.fix hM.2 (va_cwS n C.hts hw rfl rfl rfl hm ⟨by show fr' + 1 ≤ _; omega, by show _ + lo' ≤ _; omega⟩) ⟨gx_Pc.blind, gx_Pc.start C.K C.Z C.size hc⟩ rfl hn hl.1 hs (lv_room hcat) d (gx_room C hc hM.1 k1.1)
theorem gx_isC1 {ci : Nat} {q : vw_C} (K : gx_K D s) (hq : gx_cl[ci]? = some q) {a : Nat} {H : Heap} (hh : gx_H D h H) (hi : gx_isC h a [ci]) : ∃ cell : Cell, H[a]? = some cell ∧ cell.vm.isStatics = false ∧ s.vm.findClass q.1 = some cell.cls := by
  obtain ⟨ci', q', hci, hq', cell, f1, f2, f3, -⟩ := gx_recv K hh hi
  cases List.mem_singleton.mp hci
  cases hq.symm.trans hq'
  exact ⟨cell, f1, f2, f3⟩
theorem gx_callV (C : gx_Ctx p R s m args meth c own cc nL rt fr lo D h0 hz) {i n ci b : Nat} {q : vw_C} {y : MethodName} {cc' : ByteArray} {nL' fr' lo' : Nat} {rt' : Option FieldType} {As st0 : List Value} {rv : Option Value} (hM : gx_Met l y cc' nL' rt' fr' lo' D (va_rf (some b) :: As) h rv h1) (hi : gx_isC h b [ci]) (hq : gx_cl[ci]? = some q) (hyq : y.cls = q.1) (hw : GoodIn lw_all (wsV own i q.1 y (ws_ y cc' nL' rt'))) (hm : gx_mok y n) (hR : fr' + 1 ≤ fr ∧ 8 + (nL' + 11) + lo' ≤ lo) (hn : As.length = n) (hs : st0 = As.reverse ++ va_rf (some b) :: st) (hcat : (st.map fun v => v.category).sum ≤ 8) (d : decode cc pc = .ok (.invokevirtual i, 3))
    (k1 : gx_G p l e R s m args below meth c D h0 hz nL Q (pc + 3) L (rv.toList ++ st) h1) : gx_G p l e R s m args below meth c D h0 hz nL Q pc L st0 h := by
  refine ⟨hM.1.tr k1.1, fun H locs ls hl hc => ?_⟩
  have hR1 := C.hfr
  have hR2 := C.hlo
  refine gx_run (a := (Value.ref b :: As).toArray) C hM.1 hl hc ?_ k1
  exact va_runV (C := q.1) (b := b) (As := As) C.fix hM.2 (cwV n C.hts hw rfl rfl rfl ⟨hyq, hm⟩ ⟨by show fr' + 1 ≤ _; omega, by show _ + lo' ≤ _; omega⟩) ⟨gx_Pc.blind, gx_isC1 C.K hq hc.1 hi, gx_Pc.start C.K C.Z C.size hc⟩ rfl hn hl.1 hs (lv_room hcat) d (gx_room C hc hM.1 k1.1)
/-- a call through an object whose class inherits the method, overrides it, or keeps it private above: ow: where the method named is declared -/
theorem gx_callU (C : gx_Ctx p R s m args meth c own cc nL rt fr lo D h0 hz) {i n b : Nat} {cis : List Nat} {ow : String} {x y : MethodName} {cc' : ByteArray} {nL' fr' lo' : Nat} {rt' : Option FieldType} {As st0 : List Value} {rv : Option Value} (hM : gx_Met l y cc' nL' rt' fr' lo' D (va_rf (some b) :: As) h rv h1) (hi : gx_isC h b cis) (hlink : Cond.methodLink own i x ∈ lw_all) (hsame : Cond.sameMethod x.cls ow x.name x.desc ∈ lw_all) (hdecl : va_Decl s ⟨ow, x.name, x.desc⟩) (how : ow ≠ "java/lang/invoke/MethodHandle" ∧ ow ≠ "java/lang/invoke/VarHandle") (hsel : ∀ ci ∈ cis, ∀ q, gx_cl[ci]? = some q → (Cond.selects q.1 x y).before args s = true) (hinst : Cond.instanceMethod y ∈ lw_all) (hini : Cond.initialized y.cls ∈ lw_all) (hcode : Cond.code y cc' nL' rt' ∈ lw_all) (hm : gx_mok x n) (hR : fr' + 1 ≤ fr ∧ 8 + (nL' + 11) + lo' ≤ lo) (hn : As.length = n) (hs : st0 = As.reverse ++ va_rf (some b) :: st) (hcat : (st.map fun v => v.category).sum ≤ 8) (d : decode cc pc = .ok (.invokevirtual i, 3))
    (k1 : gx_G p l e R s m args below meth c D h0 hz nL Q (pc + 3) L (rv.toList ++ st) h1) : gx_G p l e R s m args below meth c D h0 hz nL Q pc L st0 h := by
  refine ⟨hM.1.tr k1.1, fun H locs ls hl hc => ?_⟩
  have hR1 := C.hfr
  have hR2 := C.hlo
  obtain ⟨ci, q, hci, hq, cell, f1, f2, f3, -⟩ := gx_recv C.K hc.1 hi
  refine gx_run (a := (Value.ref b :: As).toArray) C hM.1 hl hc ?_ k1
  exact va_runU (C := q.1) (owner := ow) (x := x) (b := b) (As := As) C.fix hM.2 ⟨⟨rfl, rfl, by show fr' + 1 ≤ _; omega, by show _ + lo' ≤ _; omega, pay_in C.hts (lw_meth hcode), List.mem_cons_self⟩, C.hts _ hcode, C.hts _ hini, how, fun sig hh => by
    have h2 := hm.2.2
    rw [hh] at h2
    exact (Option.some.inj h2).symm, C.hts _ hlink, C.hts _ hsame, hdecl, hsel ci hci q hq, C.hts _ hinst⟩ ⟨gx_Pc.blind, ⟨cell, f1, f2, f3⟩, gx_Pc.start C.K C.Z C.size hc⟩ rfl hn hl.1 hs (lv_room hcat) d (gx_room C hc hM.1 k1.1)
/-- the same on a constant object -/
theorem gx_callE (C : gx_Ctx p R s m args meth c own cc nL rt fr lo D h0 hz) {i n : Nat} {z : String × Nat} {ow : String} {x y : MethodName} {cc' : ByteArray} {nL' fr' lo' : Nat} {rt' : Option FieldType} {As st0 : List Value} {rv : Option Value} (j : Nat) (hj : gx_objs[j]? = some z) (hM : gx_Met l y cc' nL' rt' fr' lo' D (va_rf (some (D.2.2.1 z.2)) :: As) h rv h1) (hlink : Cond.methodLink own i x ∈ lw_all) (hsame : Cond.sameMethod x.cls ow x.name x.desc ∈ lw_all) (hdecl : Cond.declares ⟨ow, x.name, x.desc⟩ ∈ lw_tbl) (how : ow ≠ "java/lang/invoke/MethodHandle" ∧ ow ≠ "java/lang/invoke/VarHandle") (hsel : Cond.selects z.1 x y ∈ lw_all) (hinst : Cond.instanceMethod y ∈ lw_all) (hini : Cond.initialized y.cls ∈ lw_all) (hcode : Cond.code y cc' nL' rt' ∈ lw_all) (hm : gx_mok x n) (hR : fr' + 1 ≤ fr ∧ 8 + (nL' + 11) + lo' ≤ lo) (hn : As.length = n) (hs : st0 = As.reverse ++ va_rf (some (D.2.2.1 z.2)) :: st) (hcat : (st.map fun v => v.category).sum ≤ 8) (d : decode cc pc = .ok (.invokevirtual i, 3))
    (k1 : gx_G p l e R s m args below meth c D h0 hz nL Q (pc + 3) L (rv.toList ++ st) h1) : gx_G p l e R s m args below meth c D h0 hz nL Q pc L st0 h := by
  refine ⟨hM.1.tr k1.1, fun H locs ls hl hc => ?_⟩
  have hR1 := C.hfr
  have hR2 := C.hlo
  obtain ⟨cell, f1, f2, f3, -⟩ := (C.Z.2.2.1 z (List.mem_of_getElem? hj)).kept hc.2.1.2.1
  refine gx_run (a := (Value.ref (D.2.2.1 z.2) :: As).toArray) C hM.1 hl hc ?_ k1
  exact va_runU (C := z.1) (owner := ow) (x := x) (b := D.2.2.1 z.2) (As := As) C.fix hM.2 ⟨⟨rfl, rfl, by show fr' + 1 ≤ _; omega, by show _ + lo' ≤ _; omega, pay_in C.hts (lw_meth hcode), List.mem_cons_self⟩, C.hts _ hcode, C.hts _ hini, how, fun sig hh => by
    have h2 := hm.2.2
    rw [hh] at h2
    exact (Option.some.inj h2).symm, C.hts _ hlink, C.hts _ hsame, va_Decl.abs (C.K.2.2.1 _ hdecl rfl), C.hts _ hsel, C.hts _ hinst⟩ ⟨gx_Pc.blind, ⟨cell, f1, f2, f3⟩, gx_Pc.start C.K C.Z C.size hc⟩ rfl hn hl.1 hs (lv_room hcat) d (gx_room C hc hM.1 k1.1)
theorem gx_callI (C : gx_Ctx p R s m args meth c own cc nL rt fr lo D h0 hz) {i n b : Nat} {y : MethodName} {cc' : ByteArray} {nL' fr' lo' : Nat} {As st0 : List Value} (hM : gx_Met l y cc' nL' none fr' lo' D (va_rf (some b) :: As) h none h1) (hlink : Cond.methodLink own i y ∈ lw_all) (hinst : Cond.instanceMethod y ∈ lw_all) (hini : Cond.initialized y.cls ∈ lw_all) (hcode : Cond.code y cc' nL' none ∈ lw_all) (hy : y.name = "<init>") (hm : gx_mok y n) (hR : fr' + 1 ≤ fr ∧ 8 + (nL' + 11) + lo' ≤ lo) (hn : As.length = n) (hs : st0 = As.reverse ++ va_rf (some b) :: st) (hcat : (st.map fun v => v.category).sum ≤ 8) (d : decode cc pc = .ok (.invokespecial i, 3))
    (k1 : gx_G p l e R s m args below meth c D h0 hz nL Q (pc + 3) L st h1) : gx_G p l e R s m args below meth c D h0 hz nL Q pc L st0 h := by
  refine ⟨hM.1.tr k1.1, fun H locs ls hl hc => ?_⟩
  have hR1 := C.hfr
  have hR2 := C.hlo
  refine gx_run (a := (Value.ref b :: As).toArray) (rv := none) C hM.1 hl hc ?_ k1
  exact va_runI (b := b) (As := As) C.fix hM.2 (cwI n C.hts (lw_meth hcode) rfl rfl rfl (C.hts _ hini) (C.hts _ hlink) (C.hts _ hinst) hy hm ⟨by show fr' + 1 ≤ _; omega, by show _ + lo' ≤ _; omega⟩) ⟨gx_Pc.blind, gx_Pc.start C.K C.Z C.size hc⟩ rfl hn hl.1 hs (lv_room hcat) d (gx_room C hc hM.1 k1.1)
theorem gx_objInit (C : gx_Ctx p R s m args meth c own cc nL rt fr lo D h0 hz) {i a : Nat} (hlink : Cond.methodLink own i objectInit ∈ lw_all) (hinst : Cond.instanceMethod objectInit ∈ lw_all) (hcode : Cond.code objectInit ⟨#[0xb1]⟩ 1 none ∈ lw_all) (hfr : 1 ≤ fr) (hlo : (st.map fun v => v.category).sum + 12 ≤ lo) (d : decode cc pc = .ok (.invokespecial i, 3))
    (k1 : gx_G p l e R s m args below meth c D h0 hz nL Q (pc + 3) L st h) : gx_G p l e R s m args below meth c D h0 hz nL Q pc L (va_rf (some a) :: st) h :=
  ⟨k1.1, fun H locs ls hl hc => W.objInit C.exec C.bytes C.hown (C.hts _ hlink) (C.hts _ hinst) (C.hts _ hcode) rfl (by rw [C.maxl]; exact hl.1) rfl d (Nat.le_trans hfr C.hfr) (by have := C.hlo; show 2 * 0 + _ + 12 ≤ _; omega) (k1.2 H locs ls hl hc)⟩
theorem gx_cn {own host : String} {i n : Nat} {y : MethodName} {cc' : ByteArray} {nL' fr' lo' : Nat} {rt' : Option FieldType} {nL0 : Nat} {rt0 : Option FieldType} {cc0 : ByteArray} (C : gx_Ctx p R s m args meth c own cc0 nL0 rt0 fr lo D h0 hz) (hlink : Cond.methodLinkNest own i y host ∈ lw_tbl) (hini : Cond.initialized y.cls ∈ lw_all) (hcode : Cond.code y cc' nL' rt' ∈ lw_all) (hm : gx_mok y n) (hR : fr' + 1 ≤ fr ∧ 8 + (nL' + 11) + lo' ≤ lo) : va_CN R s args own i y host cc' nL' rt' (ws_ y cc' nL' rt') (gx_rm fr' lo' h h1) (h1.1 - h.1) (h1.2.1 - h.2.1) n := by
  have hR1 := C.hfr
  have hR2 := C.hlo
  exact va_cnB n C.hts (lw_meth hcode) rfl rfl rfl (C.K.2.2.1 _ hlink rfl) (C.hts _ hini) hm ⟨by show fr' + 1 ≤ _; omega, by show _ + lo' ≤ _; omega⟩
theorem gx_callSN (C : gx_Ctx p R s m args meth c own cc nL rt fr lo D h0 hz) {i n : Nat} {host : String} {y : MethodName} {cc' : ByteArray} {nL' fr' lo' : Nat} {rt' : Option FieldType} {As st0 : List Value} {rv : Option Value} (hM : gx_Met l y cc' nL' rt' fr' lo' D As h rv h1) (hlink : Cond.methodLinkNest own i y host ∈ lw_tbl) (hstat : Cond.static y ∈ lw_all) (hini : Cond.initialized y.cls ∈ lw_all) (hcode : Cond.code y cc' nL' rt' ∈ lw_all) (hm : gx_mok y n) (hR : fr' + 1 ≤ fr ∧ 8 + (nL' + 11) + lo' ≤ lo) (hn : As.length = n) (hs : st0 = As.reverse ++ st) (hcat : (st.map fun v => v.category).sum ≤ 8) (d : decode cc pc = .ok (.invokestatic i, 3))
    (k1 : gx_G p l e R s m args below meth c D h0 hz nL Q (pc + 3) L (rv.toList ++ st) h1) : gx_G p l e R s m args below meth c D h0 hz nL Q pc L st0 h := by
  refine ⟨hM.1.tr k1.1, fun H locs ls hl hc => ?_⟩
  refine gx_run (a := As.toArray) C hM.1 hl hc ?_ k1
  exact va_runSN (As := As) C.fix hM.2 ⟨gx_cn C hlink hini hcode hm hR, C.hts _ hstat, trivial⟩ ⟨gx_Pc.blind, gx_Pc.start C.K C.Z C.size hc⟩ rfl hn hl.1 hs (lv_room hcat) d (gx_room C hc hM.1 k1.1)
theorem gx_callVN (C : gx_Ctx p R s m args meth c own cc nL rt fr lo D h0 hz) {i n ci b : Nat} {q : vw_C} {host : String} {y : MethodName} {cc' : ByteArray} {nL' fr' lo' : Nat} {rt' : Option FieldType} {As st0 : List Value} {rv : Option Value} (hM : gx_Met l y cc' nL' rt' fr' lo' D (va_rf (some b) :: As) h rv h1) (hi : gx_isC h b [ci]) (hq : gx_cl[ci]? = some q) (hlink : Cond.methodLinkNest own i y host ∈ lw_tbl) (hinst : Cond.instanceMethod y ∈ lw_all) (hsel : Cond.selects q.1 y y ∈ lw_all) (hini : Cond.initialized y.cls ∈ lw_all) (hcode : Cond.code y cc' nL' rt' ∈ lw_all) (hm : gx_mok y n) (hR : fr' + 1 ≤ fr ∧ 8 + (nL' + 11) + lo' ≤ lo) (hn : As.length = n) (hs : st0 = As.reverse ++ va_rf (some b) :: st) (hcat : (st.map fun v => v.category).sum ≤ 8) (d : decode cc pc = .ok (.invokevirtual i, 3))
    (k1 : gx_G p l e R s m args below meth c D h0 hz nL Q (pc + 3) L (rv.toList ++ st) h1) : gx_G p l e R s m args below meth c D h0 hz nL Q pc L st0 h := by
  refine ⟨hM.1.tr k1.1, fun H locs ls hl hc => ?_⟩
  refine gx_run (a := (Value.ref b :: As).toArray) C hM.1 hl hc ?_ k1
  exact va_runVN (C := q.1) (b := b) (As := As) C.fix hM.2 ⟨gx_cn C hlink hini hcode hm hR, C.hts _ hinst, C.hts _ hsel⟩ ⟨gx_Pc.blind, gx_isC1 C.K hq hc.1 hi, gx_Pc.start C.K C.Z C.size hc⟩ rfl hn hl.1 hs (lv_room hcat) d (gx_room C hc hM.1 k1.1)
theorem gx_callIN (C : gx_Ctx p R s m args meth c own cc nL rt fr lo D h0 hz) {i n b : Nat} {host : String} {y : MethodName} {cc' : ByteArray} {nL' fr' lo' : Nat} {As st0 : List Value} (hM : gx_Met l y cc' nL' none fr' lo' D (va_rf (some b) :: As) h none h1) (hlink : Cond.methodLinkNest own i y host ∈ lw_tbl) (hinst : Cond.instanceMethod y ∈ lw_all) (hini : Cond.initialized y.cls ∈ lw_all) (hcode : Cond.code y cc' nL' none ∈ lw_all) (hy : y.name = "<init>") (hm : gx_mok y n) (hR : fr' + 1 ≤ fr ∧ 8 + (nL' + 11) + lo' ≤ lo) (hn : As.length = n) (hs : st0 = As.reverse ++ va_rf (some b) :: st) (hcat : (st.map fun v => v.category).sum ≤ 8) (d : decode cc pc = .ok (.invokespecial i, 3))
    (k1 : gx_G p l e R s m args below meth c D h0 hz nL Q (pc + 3) L st h1) : gx_G p l e R s m args below meth c D h0 hz nL Q pc L st0 h := by
  refine ⟨hM.1.tr k1.1, fun H locs ls hl hc => ?_⟩
  refine gx_run (a := (Value.ref b :: As).toArray) (rv := none) C hM.1 hl hc ?_ k1
  exact va_runIN (b := b) (As := As) C.fix hM.2 ⟨gx_cn C hlink hini hcode hm hR, hy, C.hts _ hinst⟩ ⟨gx_Pc.blind, gx_Pc.start C.K C.Z C.size hc⟩ rfl hn hl.1 hs (lv_room hcat) d (gx_room C hc hM.1 k1.1)
/-- a call through an interface -/
theorem gx_callF (C : gx_Ctx p R s m args meth c own cc nL rt fr lo D h0 hz) {i n cnt b : Nat} {cis : List Nat} {x y : MethodName} {cc' : ByteArray} {nL' fr' lo' : Nat} {rt' : Option FieldType} {As st0 : List Value} {rv : Option Value} (hM : gx_Met l y cc' nL' rt' fr' lo' D (va_rf (some b) :: As) h rv h1) (hi : gx_isC h b cis) (hlink : Cond.methodLink own i x ∈ lw_all) (hF : ∀ ci ∈ cis, ∀ q, gx_cl[ci]? = some q → (q.1, x, y) ∈ gx_faces ∧ Cond.selects q.1 x y ∈ lw_all) (hinst : Cond.instanceMethod y ∈ lw_all) (hini : Cond.initialized y.cls ∈ lw_all) (hcode : Cond.code y cc' nL' rt' ∈ lw_all) (hm : gx_mok x n) (hR : fr' + 1 ≤ fr ∧ 8 + (nL' + 11) + lo' ≤ lo) (hn : As.length = n) (hs : st0 = As.reverse ++ va_rf (some b) :: st) (hcat : (st.map fun v => v.category).sum ≤ 8) (d : decode cc pc = .ok (.invokeinterface i cnt, 5))
    (k1 : gx_G p l e R s m args below meth c D h0 hz nL Q (pc + 5) L (rv.toList ++ st) h1) : gx_G p l e R s m args below meth c D h0 hz nL Q pc L st0 h := by
  refine ⟨hM.1.tr k1.1, fun H locs ls hl hc => ?_⟩
  have hR1 := C.hfr
  have hR2 := C.hlo
  obtain ⟨ci, q, hci, hq, cell, f1, f2, f3, -⟩ := gx_recv C.K hc.1 hi
  obtain ⟨hFa, hsel⟩ := hF ci hci q hq
  refine gx_run (a := (Value.ref b :: As).toArray) C hM.1 hl hc ?_ k1
  refine va_runF (C := q.1) (x := x) (b := b) (As := As) (C.K.1 ci q hq).2 C.fix hM.2 (va_cwF n C.hts (lw_app ?_ (lw_meth hcode)) rfl rfl rfl (C.K.2.2.2.2.1 _ hFa) hm ⟨by show fr' + 1 ≤ _; omega, by show _ + lo' ≤ _; omega⟩) ⟨gx_Pc.blind, ⟨cell, f1, f2, f3⟩, gx_Pc.start C.K C.Z C.size hc⟩ rfl hn hl.1 hs (lv_room hcat) d (gx_room C hc hM.1 k1.1)
  intro w hw
  simp only [List.mem_cons, List.not_mem_nil, or_false] at hw
  rcases hw with e | e | e | e
  · rw [e]; exact hlink
  · rw [e]; exact hsel
  · rw [e]; exact hinst
  · rw [e]; exact hini
/-- super.y(..) -/
theorem gx_callSU (C : gx_Ctx p R s m args meth c own cc nL rt fr lo D h0 hz) {i n b : Nat} {cis : List Nat} {y : MethodName} {cc' : ByteArray} {nL' fr' lo' : Nat} {rt' : Option FieldType} {As st0 : List Value} {rv : Option Value} (hM : gx_Met l y cc' nL' rt' fr' lo' D (va_rf (some b) :: As) h rv h1) (hi : gx_isC h b cis) (hlink : Cond.methodLink own i y ∈ lw_all) (hsame : Cond.sameMethod y.cls y.cls y.name y.desc ∈ lw_all) (hsup : Cond.superclass own y.cls ∈ lw_all) (hinst : Cond.instanceMethod y ∈ lw_all) (hini : Cond.initialized y.cls ∈ lw_all) (hcode : Cond.code y cc' nL' rt' ∈ lw_all) (hy : y.name ≠ "<init>") (hm : gx_mok y n) (hR : fr' + 1 ≤ fr ∧ 8 + (nL' + 11) + lo' ≤ lo) (hn : As.length = n) (hs : st0 = As.reverse ++ va_rf (some b) :: st) (hcat : (st.map fun v => v.category).sum ≤ 8) (d : decode cc pc = .ok (.invokespecial i, 3))
    (k1 : gx_G p l e R s m args below meth c D h0 hz nL Q (pc + 3) L (rv.toList ++ st) h1) : gx_G p l e R s m args below meth c D h0 hz nL Q pc L st0 h := by
  refine ⟨hM.1.tr k1.1, fun H locs ls hl hc => ?_⟩
  have hR1 := C.hfr
  have hR2 := C.hlo
  obtain ⟨ci, q, hci, hq, cell, f1, f2, f3, -⟩ := gx_recv C.K hc.1 hi
  refine gx_run (a := (Value.ref b :: As).toArray) C hM.1 hl hc ?_ k1
  refine va_runSU (C := q.1) (b := b) (As := As) (C.K.1 ci q hq).2 C.fix hM.2 (va_cwSU n C.hts (lw_app ?_ (lw_meth hcode)) rfl rfl rfl ⟨hy, hm.2.2⟩ ⟨by show fr' + 1 ≤ _; omega, by show _ + lo' ≤ _; omega⟩) ⟨gx_Pc.blind, ⟨cell, f1, f2, f3⟩, gx_Pc.start C.K C.Z C.size hc⟩ rfl hn hl.1 hs (lv_room hcat) d (gx_room C hc hM.1 k1.1)
  intro w hw
  simp only [List.mem_cons, List.not_mem_nil, or_false] at hw
  rcases hw with e | e | e | e | e
  · rw [e]; exact hlink
  · rw [e]; exact hsame
  · rw [e]; exact hsup
  · rw [e]; exact hinst
  · rw [e]; exact hini
end GXK
/-- a method's contract out of its body -/
theorem gx_ofG {l : Launch} {y : MethodName} {cc : ByteArray} {nL : Nat} {rt : Option FieldType} {fr lo : Nat} {D : gx_D} {av : List Value} {h0 hz : HX} {rv : Option Value} (hy : plainName y.cls = true) (hav : (lg_sl av).length ≤ nL) (hle : gx_le h0 hz)
    (body : ∀ (p : Program) (e : Env) (R : Room) (s : State) (m : MethodId) (args : Array Value) (below : List Frame) (meth : Method) (c : Code), gx_Ctx p R s m args meth c y.cls cc nL rt fr lo D h0 hz → meth.name = y.name → gx_G p l e R s m args below meth c D h0 hz nL (gx_MQ below args s D h0 hz rv) 0 (lv_args 0 av) [] h0) : gx_Met l y cc nL rt fr lo D av h0 rv hz := by
  refine ⟨hle, Met.ofW (cc := cc) (maxL := nL) (ret := rt) hy rfl ?_⟩
  intro p e s m args below meth c s₁ B hml hv
  obtain ⟨rfl, hH, hK, hZ⟩ := hv
  have hts := atoms_spec (ws := ws_ y cc nL rt) B.pre
  have hts : ∀ w ∈ lw_all, w.before _ s = true := fun w h => hts w (List.mem_cons_of_mem _ h)
  have hown : s.vm.findClass y.cls = some m.cls := findClass_of_methodNamed B.named
  have hin : meth.name = y.name := (name_of_methodNamed B.named B.method).1
  have hl := lv_entry av (n := nL) hav
  rw [lg_entry_eq]
  have C : gx_Ctx p (headSpec (ws_ y cc nL rt) (gx_rm fr lo h0 hz)).room s m av.toArray meth c y.cls cc nL rt fr lo D h0 hz := ⟨⟨B.exec, B.bytes, hml, hown, hts⟩, hK, hZ, B.notSynchronized, hH.1.symm, B.returns, Nat.le_refl _, Nat.le_refl _, Nat.le_refl _, Nat.le_refl _, hH⟩
  have k := (body p e _ s m av.toArray below meth c C hin).2 s.heap [] _ hl ⟨hH, va_S.rf, fun a x hx => Or.inl ⟨x, hx⟩, gx_le.rf⟩
  rw [Nat.sub_self, Nat.sub_self] at k
  exact k
