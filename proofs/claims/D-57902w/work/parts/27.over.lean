/-! a contract of the component, on a heap on which the model lies beside -/
set_option maxRecDepth 100000
theorem mh_H {D : gx_D} {h : HX} {o : Nat} {s : MS} {H : Heap} (hh : mh_hole h o) (k : gx_H D (mh h o s) H) : gx_H D h H := ⟨k.1, fun a b e he => k.2 a b e (mh_out hh he)⟩
theorem mh_A {h : HX} {o : Nat} {s : MS} (hh : mh_hole h o) {q : Nat} (k : gx_A h q) : gx_A (mh h o s) q := by
  rcases k with ⟨e, he⟩ | k
  · exact Or.inl ⟨e, mh_out hh he⟩
  · exact Or.inr k
theorem mh_Pc {D : gx_D} {h : HX} {o : Nat} {s : MS} {av : List Value} (hh : mh_hole h o) (v : Array Value) (U : State) (k : gx_Pc D (mh h o s) av v U) : gx_Pc D h av v U := ⟨k.1, mh_H hh k.2.1, k.2.2.1, k.2.2.2.narrow fun q _ hq => mh_A hh hq⟩
/-- the heap behind: the model's cells are as they were -/
theorem mh_back {D : gx_D} {h h1 : HX} {o : Nat} {s : MS} (hh : mh_hole h o) (l : gx_le h h1) {st t : State} (k0 : gx_H D (mh h o s) st.heap) (k1 : gx_H D h1 t.heap) (f : va_F (gx_A h) st t) : gx_H D (mh h1 o s) t.heap := by
  refine ⟨k1.1, fun a b e he => ?_⟩
  by_cases c : o ≤ a ∧ a < o + 14
  · have e0 : (mh h1 o s).2.2 a = (mh h o s).2.2 a := by
      simp only [mh]
      by_cases q1 : a = o
      · rw [if_pos q1, if_pos q1]
      · rw [if_neg q1, if_neg q1, if_pos (by omega), if_pos (by omega)]
    rw [e0] at he
    have k2 := k0.2 a b e he
    refine k2.kept (f.2 a k2.lt ?_)
    rintro (⟨x, hx⟩ | hx)
    · rw [hh.2 a c.1 c.2] at hx; cases hx
    · have := hh.1; omega
  · have e0 : (mh h1 o s).2.2 a = h1.2.2 a := by
      simp only [mh]
      rw [if_neg (by omega), if_neg (by omega)]
    rw [e0] at he
    exact k1.2 a b e he
theorem mh_wr {h h1 : HX} {o : Nat} {s : MS} (hh : mh_hole h o) (k : ∀ (a : Nat) (x : gx_E), h1.2.2 a = some (true, x) → gx_A h a) : ∀ (a : Nat) (x : gx_E), (mh h1 o s).2.2 a = some (true, x) → gx_A (mh h o s) a := by
  intro a x he
  by_cases c : o ≤ a ∧ a < o + 14
  · refine Or.inl ⟨x, ?_⟩
    rw [← he]
    simp only [mh]
    by_cases q1 : a = o
    · rw [if_pos q1, if_pos q1]
    · rw [if_neg q1, if_neg q1, if_pos (by omega), if_pos (by omega)]
  · have e0 : (mh h1 o s).2.2 a = h1.2.2 a := by
      simp only [mh]
      rw [if_neg (by omega), if_neg (by omega)]
    rw [e0] at he
    exact mh_A hh (k a x he)
theorem gx_Met.over {l : Launch} {y : MethodName} {cc : ByteArray} {nL : Nat} {rt : Option FieldType} {fr lo : Nat} {D : gx_D} {av : List Value} {h h1 : HX} {rv : Option Value} {o : Nat} {s : MS} (hh : mh_hole h o) (M : gx_Met l y cc nL rt fr lo D av h rv h1) : gx_Met l y cc nL rt fr lo D av (mh h o s) rv (mh h1 o s) := by
  refine ⟨mh_ole hh M.1, ?_⟩
  intro p e ha hc hk st m args below hf happ hP hK
  obtain ⟨n, oc, w1, w2, w3, ⟨q1, q2, q3, q4⟩, L, w5, w6⟩ := M.2 p e ha hc hk st m args below hf happ (mh_Pc hh _ _ hP) hK
  exact ⟨n, oc, w1, w2, w3, ⟨q1, mh_back hh M.1 hP.2.1 q2 q3, ⟨q3.1, fun q h1 h2 => q3.2 q h1 fun h3 => h2 (mh_A hh h3)⟩, mh_wr hh q4⟩, L, w5, fun q hq => mh_A hh (w6 q hq)⟩
theorem gx_MetX.over {l : Launch} {y : MethodName} {ws : List Cond} {fr lo : Nat} {D : gx_D} {av : List Value} {h h1 : HX} {rv : Option Value} {o : Nat} {s : MS} (hh : mh_hole h o) (M : gx_MetX l y ws fr lo D av h (.inl rv) h1) : gx_MetX l y ws fr lo D av (mh h o s) (.inl rv) (mh h1 o s) := by
  refine ⟨mh_ole hh M.1, ?_⟩
  intro p e ha hc hk st m args below hf happ hP hK
  obtain ⟨n, oc, w1, w2, w3, w4⟩ := M.2 p e ha hc hk st m args below hf happ (mh_Pc hh _ _ hP) hK
  rcases w4 with ⟨⟨q1, q2, q3, q4⟩, L, w5, w6⟩ | ⟨q, z1, z2⟩
  · exact ⟨n, oc, w1, w2, w3, Or.inl ⟨⟨q1, mh_back hh M.1 hP.2.1 q2 q3, ⟨q3.1, fun q h1 h2 => q3.2 q h1 fun h3 => h2 (mh_A hh h3)⟩, mh_wr hh q4⟩, L, w5, fun q hq => mh_A hh (w6 q hq)⟩⟩
  · obtain ⟨L, E, ce, z3⟩ := z2
    simp [gx_Xx] at z3
/-- the heap on which the model has just been made, taken apart -/
def mh_sw (h : HX) (o : Nat) : Option (HX × MS) := if o + 14 ≤ h.1 then (mh_of h o).map fun s => (mh_cut h o, s) else none
theorem mh_sw_ok {h : HX} {o : Nat} {x : HX × MS} (g : mh_sw h o = some x) : h = mh x.1 o x.2 ∧ mh_hole x.1 o := by
  unfold mh_sw at g
  split at g
  · rename_i c
    obtain ⟨s, e1, e2⟩ := Option.map_eq_some_iff.mp g
    subst e2
    exact ⟨(mh_of_ok e1).trans mh_cut_eq.symm, mh_cut_hole c⟩
  · cases g
theorem mh_leq {h h' hz : HX} (e : h = h') (k : gx_le h' hz) : gx_le h hz := by
  rw [e]
  exact k
theorem gx_catv_d {x : UInt64} : (Value.double x).category = 2 := rfl
theorem gx_dst {p : Program} {l : Launch} {e : Env} {R : Room} {s : State} {m : MethodId} {args : Array Value} {below : List Frame} {meth : Method} {c : Code} {Q : State → Prop} {own : String} {cc : ByteArray} {nL : Nat} {rt : Option FieldType} {fr lo : Nat} {D : gx_D} {h0 hz h : HX} {pc : Nat} {L L1 : List (Nat × Value)} {st : List Value} (C : gx_Ctx p R s m args meth c own cc nL rt fr lo D h0 hz) {i : Nat} {x : UInt64} (d : decode cc pc = .ok (.dstore i, 2)) (hn : i + 1 < nL) (ks : List Nat) (hp : lv_pick L ks = L1) (ho : gx_ok i L1) (ha : L1.all (fun q => !(Nat.beq q.1 (i + 1))) = true) (kk : gx_G p l e R s m args below meth c D h0 hz nL Q (pc + 2) ((i, .double x) :: L1) st h) : gx_G p l e R s m args below meth c D h0 hz nL Q pc L (.double x :: st) h := by
  refine gx_sub ks hp (gx_dstore C d hn (congrArg _ ?_) kk)
  refine List.filter_eq_self.mpr fun q hq => ?_
  have h1 := List.filter_eq_self.mp (gx_fl0 ho) q hq
  have h2 := List.all_eq_true.mp ha q hq
  have h3 : (q.1 == i + 1) = false := beq_false_of_ne (Nat.ne_of_beq_eq_false (by cases hb : Nat.beq q.1 (i + 1) with
    | false => rfl
    | true => rw [hb] at h2; cases h2))
  rw [h3]
  simpa using h1
