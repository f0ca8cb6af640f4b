/-! appendInput, truncateInput -/
set_option maxRecDepth 100000
set_option linter.unusedSimpArgs false
theorem and255 (y : Int32) : y &&& 255 = nI (y.toBitVec.toNat % 256) := by
  apply Int32.toBitVec_inj.1
  apply BitVec.eq_of_toNat_eq
  have : y.toBitVec.toNat < 2 ^ 32 := y.toBitVec.isLt
  rw [Int32.toBitVec_and, BitVec.toNat_and]
  show y.toBitVec.toNat &&& 255 = _
  rw [show (255 : Nat) = 2 ^ 8 - 1 from rfl, Nat.and_two_pow_sub_one_eq_mod]
  show _ = (y.toBitVec.toNat % 256) % 2 ^ 32
  omega
theorem and255_8 (y : Int32) : (nI (y.toBitVec.toNat % 256)).toInt8 = y.toInt8 := by
  apply Int8.toBitVec_inj.1
  apply BitVec.eq_of_toNat_eq
  rw [Int32.toBitVec_toInt8, Int32.toBitVec_toInt8, BitVec.signExtend_eq_setWidth_of_le _ (by decide), BitVec.signExtend_eq_setWidth_of_le _ (by decide), BitVec.toNat_setWidth, BitVec.toNat_setWidth]
  show (y.toBitVec.toNat % 256) % 2 ^ 32 % 2 ^ 8 = y.toBitVec.toNat % 2 ^ 8
  omega
def byW (w : Int32) (sh : Int32) : Nat := (w >>> (sh &&& 31)).toBitVec.toNat % 256
def byL (w : Int32) : List Nat := [byW w 24, byW w 16, byW w 8, byW w 0]
theorem byW_lt {w sh : Int32} : byW w sh < 256 := Nat.mod_lt _ (by decide)
theorem in_app {f : Nat → Int32} {ib : List Nat} {w sh : Int32} (H : ∀ (k b : Nat), ib[k]? = some b → f k = (nI b).toInt8.toInt32 ∧ b < 256) : ∀ (k b : Nat), (ib ++ [byW w sh])[k]? = some b → upd f ib.length ((Int32.toInt8 (w >>> (sh &&& 31))).toInt32.toInt8.toInt32) k = (nI b).toInt8.toInt32 ∧ b < 256 := fun k b h => by
  by_cases c : k = ib.length
  · subst c
    rw [List.getElem?_append_right (Nat.le_refl _), Nat.sub_self] at h
    cases h
    rw [pk_us]
    refine ⟨?_, byW_lt⟩
    unfold byW
    rw [and255_8]
    simp
  · have : k < ib.length := by
      have := (List.getElem?_eq_some_iff.1 h).1
      rw [List.length_append, List.length_singleton] at this
      omega
    rw [List.getElem?_append_left this] at h
    rw [pk_un c]
    exact H k b h
theorem c_step {D : gx_D} {h : HX} {x inp f : Nat} {fs : List Value} {ib : List Nat} {w : Int32} (sh : Int32) (X : h.2.2 x = some (true, .inr (9, fs))) (h1 : fs[1]? = some (.ref inp)) (h2 : fs[2]? = some (.int (nI ib.length))) (I : in_ok h inp ib) (hl : ib.length < 700) (ne : x ≠ inp) (hs : ¬ sh < 0) : ∃ h7, f_X1_append_b3 D (f + 1) h x w sh = f_X1_append_b3 D f h7 x w (sh + -8) ∧ hx_kp h h7 [x, inp] ∧ h7.2.2 x = some (true, .inr (9, fs.set 2 (.int (nI (ib ++ [byW w sh]).length)))) ∧ in_ok h7 inp (ib ++ [byW w sh]) := by
  obtain ⟨g, i1, i2⟩ := I
  obtain ⟨h5, e5, c5⟩ := hx_sb_e (x := (Int32.toInt8 (w >>> (sh &&& 31))).toInt32) i1 hl (by decide)
  have x5 := (c5.2.2.2 x ne).trans X
  obtain ⟨h7, e7, c7⟩ := hx_pv_e (cis := [9]) (k := 2) (v := .int (nI ib.length + 1)) x5 (by decide) (List.getElem?_eq_some_iff.1 h2).1
  refine ⟨h7, ?_, (c5.kp (by simp)).tr (c7.kp (by simp)), ?_, ⟨_, (c7.2.2.2 inp (fun e => ne e.symm)).trans c5.2.2.1, in_app i2⟩⟩
  · simp only [f_X1_append_b3, if_neg hs, (hx_ob.mk X).gr (show 9 ∈ [9] by decide) (k := 1) (r := some inp) h1, (hx_ob.mk X).gi (show 9 ∈ [9] by decide) (k := 2) h2, (hx_ob.mk x5).gi (show 9 ∈ [9] by decide) (k := 2) h2, Option.bind_some, e5, hx_pi, e7]
  · rw [c7.2.2.1, nI_1, List.length_append, List.length_singleton]
theorem c_append {D : gx_D} {h : HX} {x inp : Nat} {fs : List Value} {ib : List Nat} (w : Int32) (X : h.2.2 x = some (true, .inr (9, fs))) (h1 : fs[1]? = some (.ref inp)) (h2 : fs[2]? = some (.int (nI ib.length))) (I : in_ok h inp ib) (hl : ib.length + 4 ≤ 700) (ne : x ≠ inp) : ∃ h7, f_X1_append D h x w = some h7 ∧ hx_kp h h7 [x, inp] ∧ h7.2.2 x = some (true, .inr (9, fs.set 2 (.int (nI (ib ++ byL w).length)))) ∧ in_ok h7 inp (ib ++ byL w) := by
  have g1 : ∀ v, (fs.set 2 v)[1]? = some (.ref inp) := fun v => by rw [List.getElem?_set_ne (by decide)]; exact h1
  have g2 : ∀ v, (fs.set 2 v)[2]? = some v := fun v => List.getElem?_set_self (List.getElem?_eq_some_iff.1 h2).1
  have fl : gx_fuel = 199995 + 1 + 1 + 1 + 1 + 1 := rfl
  unfold f_X1_append
  rw [(hx_ob.mk X).is (show 9 ∈ [9] by decide), Option.bind_some, fl]
  obtain ⟨ha, e1, k1, X1, I1⟩ := c_step (D := D) (f := 199999) (w := w) 24 X h1 h2 I (by omega) ne (by decide)
  obtain ⟨hb, e2, k2, X2, I2⟩ := c_step (D := D) (f := 199998) (w := w) 16 X1 (g1 _) (g2 _) I1 (by simp; omega) ne (by decide)
  obtain ⟨hc, e3, k3, X3, I3⟩ := c_step (D := D) (f := 199997) (w := w) 8 X2 (by rw [List.set_set]; exact g1 _) (by rw [List.set_set]; exact g2 _) I2 (by simp; omega) ne (by decide)
  obtain ⟨hd, e4, k4, X4, I4⟩ := c_step (D := D) (f := 199996) (w := w) 0 X3 (by rw [List.set_set, List.set_set]; exact g1 _) (by rw [List.set_set, List.set_set]; exact g2 _) I3 (by simp; omega) ne (by decide)
  refine ⟨hd, ?_, k1.tr (k2.tr (k3.tr k4)), ?_, ?_⟩
  · rw [e1, show (24 : Int32) + -8 = 16 by decide, e2, show (16 : Int32) + -8 = 8 by decide, e3, show (8 : Int32) + -8 = 0 by decide, e4]
    exact if_pos (show (0 : Int32) + -8 < 0 by decide)
  · rw [X4, List.set_set, List.set_set, List.set_set]
    simp only [byL, List.append_assoc, List.cons_append, List.nil_append, List.length_append, List.length_cons, List.length_nil]
  · have : ib ++ byL w = ib ++ [byW w 24] ++ [byW w 16] ++ [byW w 8] ++ [byW w 0] := by simp [byL]
    rw [this]
    exact I4
def byA (a b c d e : Int32) : List Nat := byL a ++ (byL b ++ (byL c ++ (byL d ++ byL e)))
theorem c_appendInput {D : gx_D} {h : HX} {Y : YT} {A : AT} (H : cI D h Y A) (a b c d e : Int32) : (700 < A.2.2.2.2.1.length + 20 ∧ f_X1_appendInput D h Y.1 a b c d e = some (-1, h)) ∨ (A.2.2.2.2.1.length + 20 ≤ 700 ∧ ∃ h1, f_X1_appendInput D h Y.1 a b c d e = some (nI (A.2.2.2.2.1.length + 20), h1) ∧ cE D h1 Y (A.1, A.2.1, A.2.2.1, A.2.2.2.1, A.2.2.2.2.1 ++ byA a b c d e, A.2.2.2.2.2) ∧ bnd h h1 0 0) := by
  obtain ⟨ov, cap, op, dd, r, p, fnd, dl, as, HG, w, hx, hin, hou, hq, hG, _, ⟨n1, n2, n3, n4, n5, n6, n7, n8, n9, n10⟩, hA, _⟩ := H.all
  have l700 := hA.2.2.2.2.2.1
  have g2 := (hx_ob.mk hx).gi (show 9 ∈ [9] by decide) (k := 2) rfl
  have cmp : ((nI A.2.2.2.2.1.length + 20 : Int32) ≤ 700) ↔ A.2.2.2.2.1.length + 20 ≤ 700 := by
    rw [show (20 : Int32) = nI 20 from rfl, nI_add]
    exact nI_leI (b := 700) (by omega) (by decide)
  by_cases c0 : A.2.2.2.2.1.length + 20 ≤ 700
  · refine Or.inr ⟨c0, ?_⟩
    obtain ⟨h4, e1, k1, X1, I1⟩ := c_append (D := D) a hx rfl rfl hin (by omega) n1
    obtain ⟨h6, e2, k2, X2, I2⟩ := c_append (D := D) b X1 rfl rfl I1 (by simp [byL]; omega) n1
    obtain ⟨h8, e3, k3, X3, I3⟩ := c_append (D := D) c X2 rfl rfl I2 (by simp [byL]; omega) n1
    obtain ⟨h10, e4, k4, X4, I4⟩ := c_append (D := D) d X3 rfl rfl I3 (by simp [byL]; omega) n1
    obtain ⟨h12, e5, k5, X5, I5⟩ := c_append (D := D) e X4 rfl rfl I4 (by simp [byL]; omega) n1
    have ea : A.2.2.2.2.1 ++ byL a ++ byL b ++ byL c ++ byL d ++ byL e = A.2.2.2.2.1 ++ byA a b c d e := by simp [byA, List.append_assoc]
    rw [ea] at I5
    have kk := k1.tr (k2.tr (k3.tr (k4.tr k5)))
    have X5' : h12.2.2 Y.1 = some (true, .inr (9, x_fs op Y.2.1 dd r Y.2.2.1 Y.2.2.2.2.1 Y.2.2.2.2.2.1 Y.2.2.2.2.2.2.1 Y.2.2.2.2.2.2.2.1 p (nI (A.2.2.2.2.1 ++ byA a b c d e).length) A.2.2.2.2.2.1 A.2.2.2.2.2.2.1 fnd dl)) := by
      rw [X5, ← ea]
      rfl
    have ln : (A.2.2.2.2.1 ++ byA a b c d e).length = A.2.2.2.2.1.length + 20 := by simp [byA, byL]
    have w12 : hx_wf h12 := wf_ch w (fun z hz => by
      simp only [List.mem_cons, List.not_mem_nil, or_false] at hz
      obtain ⟨fi, hi, _⟩ := hin
      rcases hz with e | e <;> rw [e]
      · exact w.lt hx
      · exact w.lt hi) kk
    refine ⟨h12, ?_, ?_, by rw [bnd, kk.1, kk.2.1]; omega⟩
    · unfold f_X1_appendInput
      rw [(hx_ob.mk hx).is (show 9 ∈ [9] by decide), Option.bind_some, g2, Option.bind_some, if_pos (cmp.2 c0), e1, Option.bind_some, e2, Option.bind_some, e3, Option.bind_some, e4, Option.bind_some, e5, Option.bind_some, (hx_ob.mk X5').gi (show 9 ∈ [9] by decide) (k := 2) rfl, Option.bind_some, ln]
    · have nm : ∀ z, z ≠ Y.1 → z ≠ Y.2.1 → h12.2.2 z = h.2.2 z := fun z a b => kk.2.2 z (by simp [a, b])
      exact cI.fin HG w hx (by rw [kk.1]; exact Nat.le_refl _) w12 (Or.inl rfl) (fun z hz hn => by
        simp only [W5, List.mem_cons, List.not_mem_nil, or_false, not_or] at hn
        exact nm z hn.1 hn.2.1) X5' I5 (hou.kp (nm _ n4.symm n8.symm) (nm _ n5.symm n9.symm)) (hq.kp (nm _ n2.symm n6.symm) (nm _ n3.symm n7.symm)) (hG_same hG)
  · refine Or.inl ⟨by omega, ?_⟩
    unfold f_X1_appendInput
    rw [(hx_ob.mk hx).is (show 9 ∈ [9] by decide), Option.bind_some, g2, Option.bind_some, if_neg (fun h => c0 (cmp.1 h))]
theorem c_truncateInput {D : gx_D} {h : HX} {Y : YT} {A : AT} (H : cI D h Y A) (z : Int32) : ∃ h1, f_X1_truncateInput D h Y.1 z = some (ixB z (A.2.2.2.2.1.length + 1), h1) ∧ cE D h1 Y (A.1, A.2.1, A.2.2.1, A.2.2.2.1, (if ixB z (A.2.2.2.2.1.length + 1) = true then A.2.2.2.2.1.take z.toNatClampNeg else A.2.2.2.2.1), A.2.2.2.2.2) ∧ bnd h h1 0 0 := by
  have HE := H.E
  obtain ⟨ov, cap, op, dd, r, p, fnd, dl, as, HG, w, hx, hin, hou, hq, hG, _, ⟨n1, n2, n3, n4, n5, n6, n7, n8, n9, n10⟩, hA, _⟩ := H.all
  have l700 := hA.2.2.2.2.2.1
  have g2 := (hx_ob.mk hx).gi (show 9 ∈ [9] by decide) (k := 2) rfl
  have wi := f_within (D := D) (h := h) z 0 (nI A.2.2.2.2.1.length)
  have ee : (nI A.2.2.2.2.1.length) = nI (A.2.2.2.2.1.length + 1) - 1 := by rw [show (1 : Int32) = nI 1 from rfl, pk_sub (by omega), Nat.add_sub_cancel]
  have wi : f_X1_isWithin D h z.toInt64 0 (Int32.toInt64 (nI A.2.2.2.2.1.length)) = some (ixB z (A.2.2.2.2.1.length + 1)) := by
    unfold ixB
    rw [← ee]
    exact wi
  cases c : ixB z (A.2.2.2.2.1.length + 1) with
  | false =>
    refine ⟨h, ?_, HE, by rw [bnd]; omega⟩
    unfold f_X1_truncateInput
    rw [(hx_ob.mk hx).is (show 9 ∈ [9] by decide), Option.bind_some, g2, Option.bind_some, wi, Option.bind_some, c]
    rfl
  | true =>
    obtain ⟨k, hk, rfl⟩ := ixB_t (by omega) c
    obtain ⟨h5, e5, c5⟩ := hx_pv_e (cis := [9]) (k := 2) (v := .int (nI k)) hx (by decide) (by simp [x_fs])
    have nm : ∀ z, z ≠ Y.1 → h5.2.2 z = h.2.2 z := c5.2.2.2
    have ln : (A.2.2.2.2.1.take k).length = k := by rw [List.length_take]; omega
    refine ⟨h5, ?_, ?_, by rw [bnd, c5.1, c5.2.1]; omega⟩
    · unfold f_X1_truncateInput
      rw [(hx_ob.mk hx).is (show 9 ∈ [9] by decide), Option.bind_some, g2, Option.bind_some, wi, Option.bind_some, c, if_pos rfl, hx_pi, e5]
      rfl
    · rw [if_pos rfl, nI_clamp (by omega)]
      refine cI.fin (cap1 := cap) (as1 := as) (p1 := p) (fnd1 := fnd) (dl1 := dl) (d1 := dd) (r1 := r) HG w hx (by rw [c5.1]; exact Nat.le_refl _) (wf_ch w (fun z hz => by rw [List.mem_singleton] at hz; rw [hz]; exact w.lt hx) (c5.kp (L := [Y.1]) (by simp))) (Or.inl rfl) (fun z hz hn => by
        simp only [W5, List.mem_cons, List.not_mem_nil, or_false, not_or] at hn
        exact nm z hn.1) ?_ ?_ (hou.kp (nm _ n4.symm) (nm _ n5.symm)) (hq.kp (nm _ n2.symm) (nm _ n3.symm)) (hG_same hG)
      · rw [c5.2.2.1]
        show _ = some (true, Sum.inr (9, x_fs op Y.2.1 dd r Y.2.2.1 Y.2.2.2.2.1 Y.2.2.2.2.2.1 Y.2.2.2.2.2.2.1 Y.2.2.2.2.2.2.2.1 p (nI (A.2.2.2.2.1.take k).length) A.2.2.2.2.2.1 A.2.2.2.2.2.2.1 fnd dl))
        rw [ln]
        rfl
      · obtain ⟨f, i1, i2⟩ := hin
        refine ⟨f, (nm _ n1.symm).trans i1, fun j b hj => i2 j b ?_⟩
        have hj : (A.2.2.2.2.1.take k)[j]? = some b := hj
        have := (List.getElem?_eq_some_iff.1 hj).1
        rw [ln] at this
        rw [List.getElem?_take_of_lt this] at hj
        exact hj
/-- the model's input -/
def mq6 (s t : MS) : Prop := (∀ j, j ≠ 13 → t.1 j = s.1 j) ∧ ∀ q, q ≠ 6 → t.2 q = s.2 q
theorem mq6.tr {a b c : MS} (x : mq6 a b) (y : mq6 b c) : mq6 a c := ⟨fun j h => (y.1 j h).trans (x.1 j h), fun q h => (y.2 q h).trans (x.2 q h)⟩
theorem mI.inp {s t : MS} {A : AT} {ib : List Nat} (H : mI s A) (q : mq6 s t) (I : m_in t ib) : mI t (A.1, A.2.1, A.2.2.1, A.2.2.2.1, ib, A.2.2.2.2.2) := by
  obtain ⟨q1, q2, q3, q4, q5, q6, q7, q8⟩ := H
  refine ⟨by rw [q.2 0 (by decide)]; exact q1, by rw [q.2 0 (by decide)]; exact q2, ?_, ?_, I, by rw [q.1 14 (by decide)]; exact q6, by rw [q.1 15 (by decide)]; exact q7, ?_⟩
  · unfold m_hs
    rw [q.2 3 (by decide), q.1 4 (by decide)]
    exact q3
  · revert q4
    show m_sv s A.1 A.2.2.1 → m_sv t A.1 A.2.2.1
    cases A.2.2.1 with
    | none => intro z; show t.1 5 = 0; rw [q.1 5 (by decide)]; exact z
    | some R => intro z; show t.1 5 = 1 ∧ m_df (t.2 2) A.1 ∧ m_rn (t.2 2) R; rw [q.1 5 (by decide), q.2 2 (by decide)]; exact z
  · unfold m_out
    rw [q.2 12 (by decide), q.1 30 (by decide)]
    exact q8
theorem m_step {D : gx_D} {b : HX} {o f : Nat} {s : MS} {ib : List Nat} {w : Int32} (sh : Int32) (I : m_in s ib) (hl : ib.length < 700) (hs : ¬ sh < 0) : ∃ t, f_X9_appendWord_b3 D b o (f + 1) s w sh = f_X9_appendWord_b3 D b o f t w (sh + -8) ∧ mq6 s t ∧ m_in t (ib ++ [byW w sh]) := by
  refine ⟨ms_p (ms_u s 6 ib.length ((w >>> (sh &&& 31)) &&& 255)) 13 (nI ib.length + 1), ?_, ⟨fun j hj => ms_p1n hj, fun q hq => if_neg hq⟩, ?_, fun k c hk => ?_⟩
  · simp only [f_X9_appendWord_b3, if_neg hs, I.1, ms_si_n (s := s) (j := 6) (k := ib.length) (by decide) rfl (show ib.length < ms_len 6 from hl), Option.bind_some, ms_pf]
    have : (ms_u s 6 ib.length (w >>> (sh &&& 31) &&& 255)).1 13 = nI ib.length := I.1
    rw [this]
  · show (if (13 : Nat) = 13 then nI ib.length + 1 else s.1 13) = _
    rw [if_pos rfl, nI_1, List.length_append, List.length_singleton]
  · show (if (6 : Nat) = 6 then upd (s.2 6) ib.length ((w >>> (sh &&& 31)) &&& 255) else s.2 6) k = nI c
    rw [if_pos rfl]
    by_cases e : k = ib.length
    · subst e
      rw [List.getElem?_append_right (Nat.le_refl _), Nat.sub_self] at hk
      cases hk
      rw [pk_us, and255]
      rfl
    · have : k < ib.length := by
        have := (List.getElem?_eq_some_iff.1 hk).1
        rw [List.length_append, List.length_singleton] at this
        omega
      rw [List.getElem?_append_left this] at hk
      rw [pk_un e]
      exact I.2 k c hk
theorem m_append {D : gx_D} {b : HX} {o : Nat} {s : MS} {ib : List Nat} (w : Int32) (I : m_in s ib) (hl : ib.length + 4 ≤ 700) : ∃ t, f_X9_appendWord D b o s w = some t ∧ mq6 s t ∧ m_in t (ib ++ byL w) := by
  have fl : gx_fuel = 199995 + 1 + 1 + 1 + 1 + 1 := rfl
  unfold f_X9_appendWord
  rw [fl]
  obtain ⟨ta, e1, k1, I1⟩ := m_step (D := D) (b := b) (o := o) (f := 199999) (w := w) 24 I (by omega) (by decide)
  obtain ⟨tb, e2, k2, I2⟩ := m_step (D := D) (b := b) (o := o) (f := 199998) (w := w) 16 I1 (by simp; omega) (by decide)
  obtain ⟨tc, e3, k3, I3⟩ := m_step (D := D) (b := b) (o := o) (f := 199997) (w := w) 8 I2 (by simp; omega) (by decide)
  obtain ⟨td, e4, k4, I4⟩ := m_step (D := D) (b := b) (o := o) (f := 199996) (w := w) 0 I3 (by simp; omega) (by decide)
  refine ⟨td, ?_, k1.tr (k2.tr (k3.tr k4)), ?_⟩
  · rw [e1, show (24 : Int32) + -8 = 16 by decide, e2, show (16 : Int32) + -8 = 8 by decide, e3, show (8 : Int32) + -8 = 0 by decide, e4]
    exact if_pos (show (0 : Int32) + -8 < 0 by decide)
  · have : ib ++ byL w = ib ++ [byW w 24] ++ [byW w 16] ++ [byW w 8] ++ [byW w 0] := by simp [byL]
    rw [this]
    exact I4
theorem mc_appendInput {D : gx_D} {bh : HX} {o : Nat} {s : MS} {A : AT} (H : mI s A) (hA : a_ok A) (a b c d e : Int32) : (700 < A.2.2.2.2.1.length + 20 ∧ f_X9_appendInput D bh o s a b c d e = some (-1, ms_p s 6 0)) ∨ (A.2.2.2.2.1.length + 20 ≤ 700 ∧ ∃ t, f_X9_appendInput D bh o s a b c d e = some (nI (A.2.2.2.2.1.length + 20), t) ∧ mI t (A.1, A.2.1, A.2.2.1, A.2.2.2.1, A.2.2.2.2.1 ++ byA a b c d e, A.2.2.2.2.2)) := by
  have H6 : mI (ms_p s 6 0) A := H.p6
  have l700 := hA.2.2.2.2.2.1
  have I : m_in (ms_p s 6 0) A.2.2.2.2.1 := H6.2.2.2.2.1
  have cmp : ((nI A.2.2.2.2.1.length + 20 : Int32) ≤ 700) ↔ A.2.2.2.2.1.length + 20 ≤ 700 := by
    rw [show (20 : Int32) = nI 20 from rfl, nI_add]
    exact nI_leI (b := 700) (by omega) (by decide)
  by_cases c0 : A.2.2.2.2.1.length + 20 ≤ 700
  · refine Or.inr ⟨c0, ?_⟩
    obtain ⟨h4, e1, k1, I1⟩ := m_append (D := D) (b := bh) (o := o) a I (by omega)
    obtain ⟨h6, e2, k2, I2⟩ := m_append (D := D) (b := bh) (o := o) b I1 (by simp [byL]; omega)
    obtain ⟨h8, e3, k3, I3⟩ := m_append (D := D) (b := bh) (o := o) c I2 (by simp [byL]; omega)
    obtain ⟨h10, e4, k4, I4⟩ := m_append (D := D) (b := bh) (o := o) d I3 (by simp [byL]; omega)
    obtain ⟨h12, e5, k5, I5⟩ := m_append (D := D) (b := bh) (o := o) e I4 (by simp [byL]; omega)
    have ea : A.2.2.2.2.1 ++ byL a ++ byL b ++ byL c ++ byL d ++ byL e = A.2.2.2.2.1 ++ byA a b c d e := by simp [byA, List.append_assoc]
    rw [ea] at I5
    have ln : (A.2.2.2.2.1 ++ byA a b c d e).length = A.2.2.2.2.1.length + 20 := by simp [byA, byL]
    refine ⟨h12, ?_, H6.inp (k1.tr (k2.tr (k3.tr (k4.tr k5)))) I5⟩
    unfold f_X9_appendInput ms_pf
    rw [Option.bind_some, I.1, if_pos (cmp.2 c0), e1, Option.bind_some, e2, Option.bind_some, e3, Option.bind_some, e4, Option.bind_some, e5, Option.bind_some, I5.1, ln]
  · refine Or.inl ⟨by omega, ?_⟩
    unfold f_X9_appendInput ms_pf
    rw [Option.bind_some, I.1, if_neg (fun h => c0 (cmp.1 h))]
theorem mc_truncateInput {D : gx_D} {bh : HX} {o : Nat} {s : MS} {A : AT} (H : mI s A) (hA : a_ok A) (z : Int32) : ∃ t, f_X9_truncateInput D bh o s z = some (ixB z (A.2.2.2.2.1.length + 1), t) ∧ mI t (A.1, A.2.1, A.2.2.1, A.2.2.2.1, (if ixB z (A.2.2.2.2.1.length + 1) = true then A.2.2.2.2.1.take z.toNatClampNeg else A.2.2.2.2.1), A.2.2.2.2.2) := by
  have H6 : mI (ms_p s 6 0) A := H.p6
  have l700 := hA.2.2.2.2.2.1
  have I : m_in (ms_p s 6 0) A.2.2.2.2.1 := H6.2.2.2.2.1
  have ee : (nI A.2.2.2.2.1.length) = nI (A.2.2.2.2.1.length + 1) - 1 := by rw [show (1 : Int32) = nI 1 from rfl, pk_sub (by omega), Nat.add_sub_cancel]
  have wi := m_inRange (D := D) (b := bh) (o := o) (s := ms_p s 6 0) z 0 (nI A.2.2.2.2.1.length)
  have wi : f_X9_inRange D bh o (ms_p s 6 0) z 0 (nI A.2.2.2.2.1.length) = some (ixB z (A.2.2.2.2.1.length + 1)) := by
    unfold ixB
    rw [← ee]
    exact wi
  unfold f_X9_truncateInput ms_pf
  rw [Option.bind_some, I.1, wi, Option.bind_some]
  cases c : ixB z (A.2.2.2.2.1.length + 1) with
  | false => exact ⟨_, rfl, H6⟩
  | true =>
    obtain ⟨k, hk, rfl⟩ := ixB_t (by omega) c
    have ln : (A.2.2.2.2.1.take k).length = k := by rw [List.length_take]; omega
    refine ⟨ms_p (ms_p s 6 0) 13 (nI k), rfl, ?_⟩
    rw [if_pos rfl, nI_clamp (by omega)]
    refine H6.inp ⟨fun j hj => ms_p1n hj, fun q _ => rfl⟩ ⟨?_, fun j b hj => I.2 j b ?_⟩
    · rw [ln]
      rfl
    · have := (List.getElem?_eq_some_iff.1 hj).1
      rw [ln] at this
      rw [List.getElem?_take_of_lt this] at hj
      exact hj
