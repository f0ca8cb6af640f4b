/-! rows: new cells, casts, statics, text constants, arraycopy, clone; returns; calls -/
set_option maxRecDepth 100000
section GXN
variable {p : Program} {l : Launch} {e : Env} {R : Room} {s : State} {m : MethodId} {args : Array Value} {below : List Frame} {meth : Method} {c : Code} {Q : State → Prop}
variable {own : String} {cc : ByteArray} {nL : Nat} {rt : Option FieldType} {fr lo : Nat} {D : gx_D} {h0 hz h h1 : HX} {pc : Nat} {L : List (Nat × Value)} {st : List Value}
/-- the heap's bookkeeping, that a pure function can't see: nothing lies beyond the end -/
theorem gx_new (C : gx_Ctx p R s m args meth c own cc nL rt fr lo D h0 hz) {i ci : Nat} {q : vw_C} {fs : List Value} {ty : Nat → FieldType} (hq : gx_cl[ci]? = some q) (hty : ∀ k, k < q.2.2 → parseFieldDescriptor (q.2.1 k).2.2.1 = some (ty k)) (hfs : fs = (List.range q.2.2).map fun k => defaultValue (ty k)) (hcl : Cond.classLink own i q.1 ∈ lw_all) (hin : Cond.instantiable q.1 q.2.2 ∈ lw_all) (hini : Cond.initialized q.1 ∈ lw_all) (d : decode cc pc = .ok (.new i, 3))
    (k1 : gx_G p l e R s m args below meth c D h0 hz nL Q (pc + 3) L (va_rf (some h.1) :: st) (hx_push h q.2.2 (.inr (ci, fs)))) : gx_G p l e R s m args below meth c D h0 hz nL Q pc L st h := by
  have hle := gx_le.push (h := h) (n := q.2.2) (e := .inr (ci, fs))
  refine ⟨hle.tr k1.1, fun H locs ls hl hc => ?_⟩
  have hKn := C.K.1 ci q hq
  have z1 := k1.1.1
  have z2 := k1.1.2.1
  have c4 := hc.2.2.2
  have hc1 := C.ce
  have hc2 := C.sl
  have w1 : h.1 - h0.1 + 1 = (hx_push h q.2.2 (.inr (ci, fs))).1 - h0.1 := by have := c4.1; simp only [hx_push]; omega
  have w2 : h.2.1 - h0.2.1 + q.2.2 = (hx_push h q.2.2 (.inr (ci, fs))).2.1 - h0.2.1 := by have := c4.2.1; simp only [hx_push]; omega
  refine W.newcK C.exec C.bytes C.hown (C.hts _ hcl) (C.hts _ hin) (C.hts _ hini) rfl d (by rw [w1]; omega) (by rw [w2]; omega) hKn.2.1 hc.1.1 fun H1 kC hkC e1 zz o1 => ?_
  have hb := u_born ty C.hts (gx_cl_in ci q hq) hKn hkC e1 hty
  rw [w1, w2]
  refine k1.2 H1 locs ls hl (hc.push C.size ⟨q, hq, by rw [hfs]; simp, hb.to fun k hk => ?_⟩ (by rw [zz, hc.1.1]) (fun x hx => o1 x (by rw [← hc.1.1]; exact hx)))
  rw [hfs]
  simp [vp_V, hk]
theorem gx_newaP {t : Nat} {x : Int32} {f} {v : Nat × HX} (hg : hx_newa h t x f = some v) : 0 ≤ x ∧ x.toNatClampNeg ≤ 60000000 ∧ v = (h.1, hx_push h x.toNatClampNeg (.inl (t, x.toNatClampNeg, f x.toNatClampNeg))) := by
  unfold hx_newa at hg
  by_cases hc : 0 ≤ x ∧ x.toNatClampNeg ≤ 60000000
  · rw [if_pos hc] at hg
    exact ⟨hc.1, hc.2, (Option.some.inj hg).symm⟩
  · rw [if_neg hc] at hg; cases hg
theorem gx_newarr (C : gx_Ctx p R s m args meth c own cc nL rt fr lo D h0 hz) {t : Nat} {x : Int32} {v : Nat × HX} {aty : ArrayType} {f : Nat → (Nat → Int32) ⊕ (Nat → Int64) ⊕ (Nat → UInt32) ⊕ (Nat → UInt64) ⊕ (Nat → Option Nat)} (hg : hx_newa h t x f = some v) (ht : gx_tys[t]? = some (newarray.typeOf aty)) (hb8 : componentBytes (newarray.typeOf aty) ≤ 8) (hRA : va_RA s (D.2.1 t) (newarray.typeOf aty) → s.vm.findClass ("[" ++ (newarray.typeOf aty).toString) = some (D.2.1 t)) (hcell : ∀ (cA : ClassId) (n : Nat), vp_cell cA (n, f n) = arrV cA n (fun _ => defaultValue (newarray.typeOf aty))) (hq : Cond.arrayClass (newarray.typeOf aty) ∈ lw_all) (d : decode cc pc = .ok (.newarray aty, 2))
    (k1 : gx_G p l e R s m args below meth c D h0 hz nL Q (pc + 2) L (va_rf (some v.1) :: st) v.2) : gx_G p l e R s m args below meth c D h0 hz nL Q pc L (.int x :: st) h := by
  obtain ⟨g1, g2, rfl⟩ := gx_newaP hg
  have hle := gx_le.push (h := h) (n := x.toNatClampNeg) (e := .inl (t, x.toNatClampNeg, f x.toNatClampNeg))
  refine ⟨hle.tr k1.1, fun H locs ls hl hc => ?_⟩
  have z1 := k1.1.1
  have z2 := k1.1.2.1
  have c4 := hc.2.2.2
  have hc1 := C.ce
  have hc2 := C.sl
  have w1 : h.1 - h0.1 + 1 = (hx_push h x.toNatClampNeg (.inl (t, x.toNatClampNeg, f x.toNatClampNeg))).1 - h0.1 := by have := c4.1; simp only [hx_push]; omega
  have w2 : h.2.1 - h0.2.1 + x.toNatClampNeg = (hx_push h x.toNatClampNeg (.inl (t, x.toNatClampNeg, f x.toNatClampNeg))).2.1 - h0.2.1 := by have := c4.2.1; simp only [hx_push]; omega
  dsimp only at z1 z2
  have hby : x.toNatClampNeg * componentBytes (newarray.typeOf aty) ≤ 536870912 := Nat.le_trans (Nat.mul_le_mul g2 hb8) (by decide)
  refine va_newaK C.exec C.bytes (C.hts _ hq) rfl d rfl (Int32.not_lt.mpr g1) rfl hby (by rw [w1]; omega) (by rw [w2]; omega) hc.1.1 fun H1 cA e1 zz o1 hAr hNm => ?_
  have htt := C.K.2.1 t _ ht
  have hcA : cA = D.2.1 t := Option.some.inj (hNm.symm.trans (hRA htt.2))
  subst hcA
  rw [w1, w2]
  refine k1.2 H1 locs ls hl (hc.push C.size ⟨(List.getElem?_eq_some_iff.mp ht).1, ?_⟩ (by rw [zz, hc.1.1]) (fun x hx => o1 x (by rw [← hc.1.1]; exact hx)))
  show H1[h.1]? = some (vp_cell (D.2.1 t) (x.toNatClampNeg, f x.toNatClampNeg))
  rw [hcell]
  exact e1
theorem gx_anew (C : gx_Ctx p R s m args meth c own cc nL rt fr lo D h0 hz) {t i : Nat} {x : Int32} {v : Nat × HX} {E : String} (hg : hx_newa h t x (fun _ => .inr (.inr (.inr (.inr (fun _ => none))))) = some v) (ht : gx_tys[t]? = some (.object E)) (hcl : Cond.classLink own i E ∈ lw_all) (hao : E ∈ gx_aos) (d : decode cc pc = .ok (.anewarray i, 3))
    (k1 : gx_G p l e R s m args below meth c D h0 hz nL Q (pc + 3) L (va_rf (some v.1) :: st) v.2) : gx_G p l e R s m args below meth c D h0 hz nL Q pc L (.int x :: st) h := by
  obtain ⟨g1, g2, rfl⟩ := gx_newaP hg
  have hle := gx_le.push (h := h) (n := x.toNatClampNeg) (e := .inl (t, x.toNatClampNeg, .inr (.inr (.inr (.inr (fun _ => none))))))
  refine ⟨hle.tr k1.1, fun H locs ls hl hc => ?_⟩
  have z1 := k1.1.1
  have z2 := k1.1.2.1
  have c4 := hc.2.2.2
  have hc1 := C.ce
  have hc2 := C.sl
  have w1 : h.1 - h0.1 + 1 = (hx_push h x.toNatClampNeg (.inl (t, x.toNatClampNeg, .inr (.inr (.inr (.inr (fun _ => none))))))).1 - h0.1 := by have := c4.1; simp only [hx_push]; omega
  have w2 : h.2.1 - h0.2.1 + x.toNatClampNeg = (hx_push h x.toNatClampNeg (.inl (t, x.toNatClampNeg, .inr (.inr (.inr (.inr (fun _ => none))))))).2.1 - h0.2.1 := by have := c4.2.1; simp only [hx_push]; omega
  dsimp only at z1 z2
  refine W.anew C.exec C.bytes C.hown (C.hts _ hcl) (va_AO.use (C.K.2.2.2.1 E hao)) rfl d rfl (Int32.not_lt.mpr g1) (by omega) (by rw [w1]; omega) (by rw [w2]; omega) fun cA kA comp f1 f2 f3 f4 => ?_
  have htt := C.K.2.1 t _ ht
  obtain ⟨kA', comp', e1, e2, e3, e4⟩ := htt.2
  have hcA : cA = D.2.1 t := Option.some.inj (f1.symm.trans e4)
  subst hcA
  rw [w1, w2, hc.1.1]
  refine k1.2 _ locs ls hl (hc.push C.size ⟨(List.getElem?_eq_some_iff.mp ht).1, ?_⟩ (by rw [Array.size_push]) (fun q hq => by rw [Array.getElem?_push, if_neg (Nat.ne_of_lt hq)]))
  show (H.push _)[h.1]? = some (vp_cell (D.2.1 t) (x.toNatClampNeg, .inr (.inr (.inr (.inr (fun _ => none))))))
  rw [← hc.1.1, Array.getElem?_push_size, vp_cell_q]
  exact congrArg some (arrV_new _ _ _)
/-! casts -/
theorem gx_recv (K : gx_K D s) {a : Nat} {cis : List Nat} {H : Heap} (hh : gx_H D h H) (hi : gx_isC h a cis) : ∃ ci q, ci ∈ cis ∧ gx_cl[ci]? = some q ∧ ∃ cell : Cell, H[a]? = some cell ∧ cell.vm.isStatics = false ∧ s.vm.findClass q.1 = some cell.cls ∧ cell.cls = D.1.1 ci := by
  obtain ⟨b, ci, fs, e, m⟩ := hi
  obtain ⟨r, hr, hlen, cell, f1, f2, f3, -⟩ := hh.2 a b _ e
  exact ⟨ci, r, m, hr, cell, f1, by rw [f3]; rfl, by rw [f2]; exact (K.1 ci r hr).2.1, f2⟩
theorem gx_cast (C : gx_Ctx p R s m args meth c own cc nL rt fr lo D h0 hz) {r : Option Nat} {i : Nat} {cis : List Nat} {E : String} {u : Unit} (hg : hx_cast h r cis = some u) (hE : gx_castOk cis E) (hcl : Cond.classLink own i E ∈ lw_all) (d : decode cc pc = .ok (.checkcast i, 3))
    (k1 : gx_G p l e R s m args below meth c D h0 hz nL Q (pc + 3) L (va_rf r :: st) h) : gx_G p l e R s m args below meth c D h0 hz nL Q pc L (va_rf r :: st) h := by
  cases r with
  | none => exact gx_lift (fun _ _ _ _ w => lv_castN C.exec C.bytes d w) k1
  | some a =>
    refine ⟨k1.1, fun H locs ls hl hc => ?_⟩
    obtain ⟨ci, q, hci, hq, cell, f1, f2, f3, -⟩ := gx_recv C.K hc.1 (hx_is_of hg)
    obtain ⟨q', hq', hh⟩ := hE ci hci
    cases hq.symm.trans hq'
    rcases hh with rfl | hh
    · exact va_castE C.exec C.bytes C.hown (C.hts _ hcl) ⟨cell, f1, f2, f3⟩ d (k1.2 H locs ls hl hc)
    · exact va_castY C.exec C.bytes C.hown (C.hts _ hcl) (C.K.2.2.1 _ hh rfl) ⟨cell, f1, f2, f3⟩ d (k1.2 H locs ls hl hc)
/-- a cast of an array of references to its own class -/
theorem gx_castA (C : gx_Ctx p R s m args meth c own cc nL rt fr lo D h0 hz) {a i t n : Nat} {E nm : String} {b : Bool} {x : (Nat → Int32) ⊕ (Nat → Int64) ⊕ (Nat → UInt32) ⊕ (Nat → UInt64) ⊕ (Nat → Option Nat)} (hM : h.2.2 a = some (b, .inl (t, n, x))) (ht : gx_tys[t]? = some (.object E)) (hnm : nm = "[" ++ (FieldType.object E).toString) (hcl : Cond.classLink own i nm ∈ lw_all) (d : decode cc pc = .ok (.checkcast i, 3))
    (k1 : gx_G p l e R s m args below meth c D h0 hz nL Q (pc + 3) L (va_rf (some a) :: st) h) : gx_G p l e R s m args below meth c D h0 hz nL Q pc L (va_rf (some a) :: st) h := by
  refine ⟨k1.1, fun H locs ls hl hc => ?_⟩
  obtain ⟨-, -, -, -, -, e4⟩ := (C.K.2.1 t _ ht).2
  exact va_castA (D := D.1) (cl := gx_cl) C.exec C.bytes C.hown (C.hts _ hcl) (gx_P1 hc.1 hM) 0 rfl (by rw [hnm]; exact e4) d (k1.2 H locs ls hl hc)
theorem gx_inst (C : gx_Ctx p R s m args meth c own cc nL rt fr lo D h0 hz) {a i : Nat} {ci : Nat} {q : vw_C} {u : Unit} (hg : hx_is h a [ci] = some u) (hq : gx_cl[ci]? = some q) (hcl : Cond.classLink own i q.1 ∈ lw_all) (d : decode cc pc = .ok (.instanceof i, 3))
    (k1 : gx_G p l e R s m args below meth c D h0 hz nL Q (pc + 3) L (.int 1 :: st) h) : gx_G p l e R s m args below meth c D h0 hz nL Q pc L (va_rf (some a) :: st) h := by
  refine ⟨k1.1, fun H locs ls hl hc => ?_⟩
  obtain ⟨ci', q', hci, hq', cell, f1, f2, f3, -⟩ := gx_recv C.K hc.1 (hx_is_of hg)
  cases List.mem_singleton.mp hci
  cases hq.symm.trans hq'
  exact va_instE C.exec C.bytes C.hown (C.hts _ hcl) ⟨cell, f1, f2, f3⟩ d (k1.2 H locs ls hl hc)
/-! statics and text -/
theorem gx_stat (C : gx_Ctx p R s m args meth c own cc nL rt fr lo D h0 hz) {i : Nat} {z : String × String × String × (Int32 ⊕ Nat ⊕ Nat)} (j : Nat) (hj : gx_stats[j]? = some z) (hq : Cond.fieldLink own i z.1 z.2.1 z.2.2.1 ∈ lw_all) (d : decode cc pc = .ok (.getstatic i, 3))
    (k1 : gx_G p l e R s m args below meth c D h0 hz nL Q (pc + 3) L (gx_sv D z.2.2.2 :: st) h) : gx_G p l e R s m args below meth c D h0 hz nL Q pc L st h :=
  ⟨k1.1, fun H locs ls hl hc => va_gets C.exec C.bytes (C.Z.2.1 z (List.mem_of_getElem? hj)) hc.2.1 C.hown (C.hts _ hq) (fun _ h => h) d (k1.2 H locs ls hl hc)⟩
theorem gx_statN (C : gx_Ctx p R s m args meth c own cc nL rt fr lo D h0 hz) {i : Nat} {host : String} {z : String × String × String × (Int32 ⊕ Nat ⊕ Nat)} (j : Nat) (hj : gx_stats[j]? = some z) (hq : Cond.fieldLinkNest own i z.1 z.2.1 z.2.2.1 host ∈ lw_tbl) (d : decode cc pc = .ok (.getstatic i, 3))
    (k1 : gx_G p l e R s m args below meth c D h0 hz nL Q (pc + 3) L (gx_sv D z.2.2.2 :: st) h) : gx_G p l e R s m args below meth c D h0 hz nL Q pc L st h :=
  ⟨k1.1, fun H locs ls hl hc => va_getsN C.exec C.bytes (host := host) (C.Z.2.1 z (List.mem_of_getElem? hj)) hc.2.1 C.hown (gx_nest C hq rfl) (fun _ h => h) d (k1.2 H locs ls hl hc)⟩
theorem gx_ldcS (C : gx_Ctx p R s m args meth c own cc nL rt fr lo D h0 hz) {i : Nat} {tx : String} (j : Nat) (hj : gx_strs[j]? = some (own, i, tx)) (d : decode cc pc = .ok (.ldc i, 2))
    (k1 : gx_G p l e R s m args below meth c D h0 hz nL Q (pc + 2) L (va_rf (some (D.2.2.1 j)) :: st) h) : gx_G p l e R s m args below meth c D h0 hz nL Q pc L st h :=
  gx_lift (fun _ _ _ _ w => va_ldcS C.exec C.bytes C.hown (C.K.2.2.2.2.2.1 j _ hj) d w) k1
/-- a constant object's field -/
theorem gx_getO (C : gx_Ctx p R s m args meth c own cc nL rt fr lo D h0 hz) {i : Nat} {host : String} {z : String × String × String × Nat × Nat} (j : Nat) (hj : gx_ofs[j]? = some z) (hq : Cond.fieldLinkNest own i z.1 z.2.1 z.2.2.1 host ∈ lw_tbl) (d : decode cc pc = .ok (.getfield i, 3))
    (k1 : gx_G p l e R s m args below meth c D h0 hz nL Q (pc + 3) L (va_rf (some (D.2.2.1 z.2.2.2.2)) :: st) h) : gx_G p l e R s m args below meth c D h0 hz nL Q pc L (va_rf (some (D.2.2.1 z.2.2.2.1)) :: st) h := by
  refine ⟨k1.1, fun H locs ls hl hc => ?_⟩
  obtain ⟨cf, k, i', f, cell, e1, e2, e3, e4, e5, e6⟩ := (C.Z.2.2.2 z (List.mem_of_getElem? hj)).kept hc.2.1.2.1
  exact va_Wgetf C.exec C.bytes (host := host) C.hown (gx_nest C hq rfl) e1 e2 e3 e4 e5 rfl rfl d (k1.2 H locs ls hl hc)
/-- ghost: what is made may be declared constant from here on -/
theorem gx_le.frz {h : HX} {P : Nat → Bool} : gx_le h (hx_frz h P) := ⟨Nat.le_refl _, Nat.le_refl _, fun a b ci fs _ e => ⟨b && !P a, fs, by simp only [hx_frz, e]⟩, fun a x _ e => by simp only [hx_frz, e, Bool.false_and], fun a _ e => by simp only [hx_frz, e]⟩
theorem gx_frz {P : Nat → Bool} (k1 : gx_G p l e R s m args below meth c D h0 hz nL Q pc L st (hx_frz h P)) : gx_G p l e R s m args below meth c D h0 hz nL Q pc L st h := by
  have hle : gx_le h (hx_frz h P) := gx_le.frz
  refine ⟨hle.tr k1.1, fun H locs ls hl hc => k1.2 H locs ls hl ?_⟩
  obtain ⟨c1, c2, c3, c4⟩ := hc
  refine ⟨⟨c1.1, fun a b x hx => ?_⟩, c2, fun a x hx => ?_, c4.tr hle⟩
  · simp only [hx_frz] at hx
    split at hx
    · rename_i b' e' he
      cases hx
      exact c1.2 a b' _ he
    · cases hx
  · simp only [hx_frz] at hx
    split at hx
    · rename_i b' e' he
      obtain ⟨hb, rfl⟩ := Prod.mk.inj (Option.some.inj hx)
      cases b' with
      | false => simp at hb
      | true => exact c3 a _ he
    · cases hx
/-! returns -/
theorem gx_end (C : gx_Ctx p R s m args meth c own cc nL rt fr lo D h0 h) {H : Heap} {locs : List Loc} {rv : Option Value} (hc : gx_Cur D h0 h s H locs) {t : State} (ht : t.heap = H) : gx_Q D h0 h rv args s (.returned rv) t := ⟨rfl, by rw [ht]; exact hc.1, hc.2.1.F ht, hc.2.2.1⟩
theorem gx_iret (C : gx_Ctx p R s m args meth c own cc nL (some .int) fr lo D h0 h) {x : Int32} (d : decode cc pc = .ok (.ireturn, 1)) : gx_G p l e R s m args below meth c D h0 h nL (gx_MQ below args s D h0 h (some (.int x))) pc L [.int x] h :=
  ⟨gx_le.rf, fun H locs ls hl hc => W.iret C.exec C.bytes C.ret (fun t ht hW => gx_end C hc ht) hc.2.1.2.2 d C.locks⟩
theorem gx_nret (C : gx_Ctx p R s m args meth c own cc nL rt fr lo D h0 h) {x : Int32} {ty : FieldType} (hr : rt = some ty) (hn : narrow ty (.int x) = .int x) (d : decode cc pc = .ok (.ireturn, 1)) : gx_G p l e R s m args below meth c D h0 h nL (gx_MQ below args s D h0 h (some (.int x))) pc L [.int x] h :=
  ⟨gx_le.rf, fun H locs ls hl hc => W.zret C.exec C.bytes (C.ret.trans hr) hn (fun t ht hW => gx_end C hc ht) hc.2.1.2.2 d C.locks⟩
theorem gx_zret (C : gx_Ctx p R s m args meth c own cc nL (some .boolean) fr lo D h0 h) {b : Bool} (d : decode cc pc = .ok (.ireturn, 1)) : gx_G p l e R s m args below meth c D h0 h nL (gx_MQ below args s D h0 h (some (.int (b2i b)))) pc L [.int (b2i b)] h :=
  gx_nret C rfl (by cases b <;> decide) d
theorem gx_fret (C : gx_Ctx p R s m args meth c own cc nL (some .float) fr lo D h0 h) {x : UInt32} (d : decode cc pc = .ok (.freturn, 1)) : gx_G p l e R s m args below meth c D h0 h nL (gx_MQ below args s D h0 h (some (.float x))) pc L [.float x] h :=
  ⟨gx_le.rf, fun H locs ls hl hc => W.fret C.exec C.bytes C.ret (fun t ht hW => gx_end C hc ht) hc.2.1.2.2 d C.locks⟩
theorem gx_dret (C : gx_Ctx p R s m args meth c own cc nL (some .double) fr lo D h0 h) {x : UInt64} (d : decode cc pc = .ok (.dreturn, 1)) : gx_G p l e R s m args below meth c D h0 h nL (gx_MQ below args s D h0 h (some (.double x))) pc L [.double x] h :=
  ⟨gx_le.rf, fun H locs ls hl hc => W.dret C.exec C.bytes C.ret (fun t ht hW => gx_end C hc ht) hc.2.1.2.2 d C.locks⟩
theorem gx_aret (C : gx_Ctx p R s m args meth c own cc nL rt fr lo D h0 h) {r : Option Nat} {ty : FieldType} (hr : rt = some ty) (hty : ty.isReference = true) (d : decode cc pc = .ok (.areturn, 1)) : gx_G p l e R s m args below meth c D h0 h nL (gx_MQ below args s D h0 h (some (va_rf r))) pc L [va_rf r] h :=
  ⟨gx_le.rf, fun H locs ls hl hc => W.aret C.exec C.bytes (C.ret.trans hr) (by cases ty <;> first | exact Or.inl ⟨_, rfl⟩ | exact Or.inr ⟨_, rfl⟩ | (exfalso; revert hty; decide)) (by cases r <;> first | exact Or.inl rfl | exact Or.inr ⟨_, rfl⟩) (fun t ht hW => gx_end C hc ht) hc.2.1.2.2 d C.locks⟩
theorem gx_vret (C : gx_Ctx p R s m args meth c own cc nL none fr lo D h0 h) (d : decode cc pc = .ok (.return_, 1)) : gx_G p l e R s m args below meth c D h0 h nL (gx_MQ below args s D h0 h none) pc L [] h :=
  ⟨gx_le.rf, fun H locs ls hl hc => W.vret C.exec C.bytes C.ret (fun t ht hW => gx_end C hc ht) hc.2.1.2.2 d C.locks⟩
end GXN
