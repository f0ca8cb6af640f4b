/-! the end of a call, of any kind; input and output -/
set_option maxRecDepth 100000
set_option linter.unusedSimpArgs false
def in_ok (h : HX) (inp : Nat) (ib : List Nat) : Prop := ∃ fib : Nat → Int32, h.2.2 inp = some (true, .inl (1, 700, .inl fib)) ∧ ∀ (k b : Nat), ib[k]? = some b → fib k = (nI b).toInt8.toInt32 ∧ b < 256
theorem in_ok.kp {h h1 : HX} {i : Nat} {ib : List Nat} (H : in_ok h i ib) (k : h1.2.2 i = h.2.2 i) : in_ok h1 i ib := by
  obtain ⟨f, h1, h2⟩ := H
  exact ⟨f, k.trans h1, h2⟩
theorem hx_sb8.kp {h h1 : HX} {ou ov cap : Nat} {cs : List Nat} (H : hx_sb8 h ou ov cap cs) (k : h1.2.2 ou = h.2.2 ou) (k' : h1.2.2 ov = h.2.2 ov) : hx_sb8 h1 ou ov cap cs := by
  obtain ⟨ml, f, h1, h2, h3⟩ := H
  exact ⟨ml, f, k.trans h1, k'.trans h2, h3⟩
theorem dq.kp {h h1 : HX} {hi el : Nat} {as : List Nat} (H : dq h hi el as) (k : h1.2.2 hi = h.2.2 hi) (k' : h1.2.2 el = h.2.2 el) : dq h1 hi el as := by
  obtain ⟨m1, hd, g, m2, m3, m4⟩ := H
  exact ⟨m1, hd, g, k.trans m2, k'.trans m3, m4⟩
/-- what a call may change of the component's own cells -/
def W5 (Y : YT) (ov : Nat) : List Nat := [Y.1, Y.2.1, Y.2.2.1, Y.2.2.2.1, Y.2.2.2.2.2.2.2.1, ov]
theorem cI.fin {D : gx_D} {h h1 : HX} {Y : YT} {A A1 : AT} {ov ov1 cap1 op d r d1 r1 : Nat} {p p1 : Option Nat} {fnd dl fnd1 dl1 : Int32} {as1 : List Nat}
    (H : cG D h (hzf h) Y ov A) (w : hx_wf h) (hx : h.2.2 Y.1 = some (true, .inr (9, x_fs op Y.2.1 d r Y.2.2.1 Y.2.2.2.2.1 Y.2.2.2.2.2.1 Y.2.2.2.2.2.2.1 Y.2.2.2.2.2.2.2.1 p (nI A.2.2.2.2.1.length) A.2.2.2.2.2.1 A.2.2.2.2.2.2.1 fnd dl)))
    (l : h.1 ≤ h1.1) (w1 : hx_wf h1) (eo : ov1 = ov ∨ h.1 ≤ ov1) (fr : ∀ z, z < h.1 → z ∉ W5 Y ov → h1.2.2 z = h.2.2 z)
    (hx1 : h1.2.2 Y.1 = some (true, .inr (9, x_fs op Y.2.1 d1 r1 Y.2.2.1 Y.2.2.2.2.1 Y.2.2.2.2.2.1 Y.2.2.2.2.2.2.1 Y.2.2.2.2.2.2.2.1 p1 (nI A1.2.2.2.2.1.length) A1.2.2.2.2.2.1 A1.2.2.2.2.2.2.1 fnd1 dl1)))
    (hin : in_ok h1 Y.2.1 A1.2.2.2.2.1) (hou : hx_sb8 h1 Y.2.2.2.2.2.2.2.1 ov1 cap1 A1.2.2.2.2.2.2.2)
    (hq : dq h1 Y.2.2.1 Y.2.2.2.1 as1) (hG : hx_sub (hzf h) (hzw h1 (W_ Y ov1)) → hs_ok D (hzw h1 (W_ Y ov1)) as1 A1.2.2.2.1 ∧ hx_df D (hzw h1 (W_ Y ov1)) d1 A1.1 ∧ hx_rn D (hzw h1 (W_ Y ov1)) r1 A1.2.1 ∧ sv_ok D (hzw h1 (W_ Y ov1)) p1 A1.2.2.1) : cE D h1 Y A1 := by
  have hW := H.W
  have sub : hx_sub (hzf h) (hzw h1 (W_ Y ov1)) := by
    intro z c e
    obtain ⟨c1, c2, c3⟩ := hzf_eq e
    obtain ⟨b, x⟩ := c
    simp only at c2
    subst c2
    have nW0 : z ∉ W_ Y ov := fun hz => by
      obtain ⟨e, he⟩ := hW z hz
      rw [c3] at he
      cases he
    have nW : z ∉ W_ Y ov1 := fun hz => by
      rcases eo with eo | eo
      · rw [eo] at hz
        exact nW0 hz
      · simp only [W_, List.mem_cons, List.not_mem_nil, or_false] at hz nW0
        simp only [not_or] at nW0
        rcases hz with e | e | e | e | e | e | e | e | e | e
        · exact nW0.1 e
        · exact nW0.2.1 e
        · exact nW0.2.2.1 e
        · exact nW0.2.2.2.1 e
        · exact nW0.2.2.2.2.1 e
        · exact nW0.2.2.2.2.2.1 e
        · exact nW0.2.2.2.2.2.2.1 e
        · exact nW0.2.2.2.2.2.2.2.1 e
        · exact nW0.2.2.2.2.2.2.2.2.1 e
        · omega
    have n5 : z ∉ W5 Y ov := fun hz => nW0 (by
      simp only [W5, W_, List.mem_cons, List.not_mem_nil, or_false] at hz ⊢
      rcases hz with e | e | e | e | e | e <;> simp [e])
    show (if z < h1.1 ∧ z ∉ W_ Y ov1 then (h1.2.2 z).map fun c => (false, c.2) else none) = _
    rw [if_pos ⟨by omega, nW⟩, fr z c1 n5, c3]
    rfl
  obtain ⟨op', d', r0, cap, t, p0, fnd0, dl0, fib, as0, gop, k1, k2, ⟨k3, k3'⟩, ⟨⟨ne, hd, g, k4, k4', k4''⟩, k5⟩, ⟨⟨f1, k6⟩, ⟨f2, k6'⟩, ⟨f3, k6''⟩⟩, ⟨ml, fo, k7, k7', k7''⟩, ⟨f4, k8⟩, k9, k10, k11⟩ := H
  rw [hx] at k1
  have efs := Option.some.inj k1
  simp only [Prod.mk.injEq, Sum.inr.injEq, true_and, x_fs, List.cons.injEq, Value.ref.injEq] at efs
  obtain ⟨e1, _⟩ := efs
  subst e1
  have tr : ∀ z e, h.2.2 z = some (true, e) → (∀ c fs, e ≠ .inr (c, fs)) → (∀ f, e ≠ .inl (4, 17, f)) → (∀ n f, e ≠ .inl (1, n, f)) → h1.2.2 z = some (true, e) := fun z e he n1 n2 n3 => by
    rw [fr z (w.lt he) (fun hz => by
      simp only [W5, List.mem_cons, List.not_mem_nil, or_false] at hz
      rcases hz with c | c | c | c | c | c
      · rw [c, hx] at he; cases he; exact n1 _ _ rfl
      · rw [c, k3] at he; cases he; exact n3 _ _ rfl
      · rw [c, k4] at he; cases he; exact n1 _ _ rfl
      · rw [c, k4'] at he; cases he; exact n2 _ rfl
      · rw [c, k7] at he; cases he; exact n1 _ _ rfl
      · rw [c, k7'] at he; cases he; exact n3 _ _ rfl), he]
  obtain ⟨g1, g2, g3, g4⟩ := hG sub
  obtain ⟨fib1, i1, i2⟩ := hin
  exact ⟨ov1, w1, op, d1, r1, cap1, t, p1, fnd1, dl1, fib1, as1, gop, hx1, ⟨k2.1.sub sub, k2.2⟩, ⟨i1, i2⟩, ⟨hq, g1⟩, ⟨⟨f1, tr _ _ k6 (fun _ _ hc => by cases hc) (fun _ hc => by cases hc) (fun _ _ hc => by cases hc)⟩, ⟨f2, tr _ _ k6' (fun _ _ hc => by cases hc) (fun _ hc => by cases hc) (fun _ _ hc => by cases hc)⟩, ⟨f3, tr _ _ k6'' (fun _ _ hc => by cases hc) (fun _ hc => by cases hc) (fun _ _ hc => by cases hc)⟩⟩, hou, ⟨f4, tr _ _ k8 (fun _ _ hc => by cases hc) (fun _ hc => by cases hc) (fun _ _ hc => by cases hc)⟩, ⟨by
    rcases eo with eo | eo
    · rw [eo]; exact k9.1
    · have := w.lt k3
      omega, k9.2⟩, g2, g3, g4⟩
/-- everything that a call may lean on -/
theorem cI.all {D : gx_D} {h : HX} {Y : YT} {A : AT} (H : cI D h Y A) : ∃ (ov cap op d r : Nat) (p : Option Nat) (fnd dl : Int32) (as : List Nat), cG D h (hzf h) Y ov A ∧ hx_wf h ∧
    h.2.2 Y.1 = some (true, .inr (9, x_fs op Y.2.1 d r Y.2.2.1 Y.2.2.2.2.1 Y.2.2.2.2.2.1 Y.2.2.2.2.2.2.1 Y.2.2.2.2.2.2.2.1 p (nI A.2.2.2.2.1.length) A.2.2.2.2.2.1 A.2.2.2.2.2.2.1 fnd dl)) ∧ in_ok h Y.2.1 A.2.2.2.2.1 ∧ hx_sb8 h Y.2.2.2.2.2.2.2.1 ov cap A.2.2.2.2.2.2.2 ∧ dq h Y.2.2.1 Y.2.2.2.1 as ∧ (hs_ok D (hzf h) as A.2.2.2.1 ∧ hx_df D (hzf h) d A.1 ∧ hx_rn D (hzf h) r A.2.1 ∧ sv_ok D (hzf h) p A.2.2.1) ∧ (∃ gop t, hx_or (hzf h) op t 6 gop ∧ 4 ≤ t ∧ ∀ k, k < 6 → gop k = some (D.2.2.1 (100 + k))) ∧ (Y.1 ≠ Y.2.1 ∧ Y.1 ≠ Y.2.2.1 ∧ Y.1 ≠ Y.2.2.2.1 ∧ Y.1 ≠ Y.2.2.2.2.2.2.2.1 ∧ Y.1 ≠ ov ∧ Y.2.1 ≠ Y.2.2.1 ∧ Y.2.1 ≠ Y.2.2.2.1 ∧ Y.2.1 ≠ Y.2.2.2.2.2.2.2.1 ∧ Y.2.1 ≠ ov ∧ Y.2.2.1 ≠ Y.2.2.2.2.2.2.2.1 ∧ Y.2.2.1 ≠ ov ∧ Y.2.2.2.1 ≠ Y.2.2.2.2.2.2.2.1 ∧ Y.2.2.2.1 ≠ ov ∧ Y.2.2.2.2.2.2.2.1 ≠ ov) ∧ a_ok A ∧ gx_apt D ∧ gx_apt2 D := by
  obtain ⟨ov, w, H, hA, ap1, ap2⟩ := H
  have H' := H
  obtain ⟨op, d, r, cap, t, p, fnd, dl, fib, as, gop, k1, k2, k3, ⟨k4, k5⟩, k6, k7, k8, k9, k10, k11, k12⟩ := H
  have b1 := k3.1
  obtain ⟨ne, hd, g, q1, q2, _⟩ := id k4
  obtain ⟨ml, fo, s1, s2, _⟩ := id k7
  have inq : ∀ a b x y, h.2.2 a = some (true, x) → h.2.2 b = some (true, y) → x ≠ y → a ≠ b := fun a b x y e1 e2 n e => by
    subst e
    rw [e1] at e2
    cases e2
    exact n rfl
  refine ⟨ov, cap, op, d, r, p, fnd, dl, as, H', w, k1, ⟨fib, k3⟩, k7, k4, ⟨k5, k10, k11, k12⟩, ⟨gop, t, k2.1, k2.2⟩, ⟨?_, ?_, ?_, ?_, ?_, ?_, ?_, ?_, k9.1, ?_, ?_, ?_, ?_, ?_⟩, hA, ap1, ap2⟩
  · exact inq _ _ _ _ k1 b1 (fun h => by cases h)
  · exact inq _ _ _ _ k1 q1 (fun h => by cases h)
  · exact inq _ _ _ _ k1 q2 (fun h => by cases h)
  · exact inq _ _ _ _ k1 s1 (fun h => by cases h)
  · exact inq _ _ _ _ k1 s2 (fun h => by cases h)
  · exact inq _ _ _ _ b1 q1 (fun h => by cases h)
  · exact inq _ _ _ _ b1 q2 (fun h => by cases h)
  · exact inq _ _ _ _ b1 s1 (fun h => by cases h)
  · exact inq _ _ _ _ q1 s1 (fun h => by cases h)
  · exact inq _ _ _ _ q1 s2 (fun h => by cases h)
  · exact inq _ _ _ _ q2 s1 (fun h => by cases h)
  · exact inq _ _ _ _ q2 s2 (fun h => by cases h)
  · exact inq _ _ _ _ s1 s2 (fun h => by cases h)
/-- the same runs and definition -/
theorem hG_same {D : gx_D} {h G : HX} {d r : Nat} {p : Option Nat} {as : List Nat} {A : AT} (H : hs_ok D (hzf h) as A.2.2.2.1 ∧ hx_df D (hzf h) d A.1 ∧ hx_rn D (hzf h) r A.2.1 ∧ sv_ok D (hzf h) p A.2.2.1) : hx_sub (hzf h) G → hs_ok D G as A.2.2.2.1 ∧ hx_df D G d A.1 ∧ hx_rn D G r A.2.1 ∧ sv_ok D G p A.2.2.1 := fun s => ⟨H.1.sub s, H.2.1.sub s, H.2.2.1.sub s, H.2.2.2.sub s⟩
theorem wf_ch {h h1 : HX} (w : hx_wf h) {L : List Nat} (hL : ∀ z, z ∈ L → z < h.1) (k : hx_kp h h1 L) : hx_wf h1 := fun z hz => by
  rw [k.1] at hz
  rw [k.2.2 z (fun hm => by have := hL z hm; omega), w z hz]
theorem g_error {D : gx_D} {h : HX} {Y : YT} {A : AT} (H : cI D h Y A) : f_X1_errorCode D h Y.1 = some A.2.2.2.2.2.1 ∧ f_X1_errorOffset D h Y.1 = some A.2.2.2.2.2.2.1 := by
  obtain ⟨ov, cap, op, d, r, p, fnd, dl, as, _, w, hx, _⟩ := H.all
  unfold f_X1_errorCode f_X1_errorOffset
  simp only [(hx_ob.mk hx).is (show 9 ∈ [9] by decide), (hx_ob.mk hx).gi (show 9 ∈ [9] by decide) (k := 3) rfl, (hx_ob.mk hx).gi (show 9 ∈ [9] by decide) (k := 4) rfl, Option.bind_some]
  exact ⟨trivial, trivial⟩
theorem h_error {D : gx_D} {b : HX} {o : Nat} {s : MS} {A : AT} (H : mI s A) : f_X9_errorCode D b o s = some (A.2.2.2.2.2.1, ms_p s 6 0) ∧ f_X9_errorOffset D b o s = some (A.2.2.2.2.2.2.1, ms_p s 6 0) := by
  obtain ⟨q1, q2, q3, q4, q5, q6, q7, q8⟩ := H
  unfold f_X9_errorCode f_X9_errorOffset ms_pf
  exact ⟨congrArg (fun x => some (x, ms_p s 6 0)) q6, congrArg (fun x => some (x, ms_p s 6 0)) q7⟩
def outA (cs : List Nat) (i : Int32) : Int32 := if ixB i cs.length = true then nI (cs.getD i.toNatClampNeg 0) else -1
theorem g_outputByte {D : gx_D} {h : HX} {Y : YT} {A : AT} (H : cI D h Y A) (i : Int32) : f_X1_outputByte D h Y.1 i = some (outA A.2.2.2.2.2.2.2 i) := by
  obtain ⟨ov, cap, op, d, r, p, fnd, dl, as, _, w, hx, _, ⟨ml, fo, s1, s2, s3, s4, s5, s6⟩, _, _, _, _, hA, _⟩ := H.all
  have hl := hA.2.2.2.2.2.2
  have o1 := hx_ob.mk s1
  have o2 := hx_oi.mk s2
  have w := f_within (D := D) (h := h) i 0 (nI A.2.2.2.2.2.2.2.length - 1)
  have w : f_X1_isWithin D h i.toInt64 0 (Int32.toInt64 (nI A.2.2.2.2.2.2.2.length - 1)) = some (ixB i A.2.2.2.2.2.2.2.length) := w
  unfold f_X1_outputByte f_J8_length f_J7_length f_J8_charAt f_J7_charAt outA
  simp only [(hx_ob.mk hx).is (show 9 ∈ [9] by decide), (hx_ob.mk hx).gr (show 9 ∈ [9] by decide) (k := 14) (r := some Y.2.2.2.2.2.2.2.1) rfl, Option.bind_some, o1.is (show 1 ∈ [1] by decide), o1.gi (show 1 ∈ [1] by decide) (k := 3) rfl, o1.gi (show 1 ∈ [1] by decide) (k := 1) rfl, o1.gr (show 1 ∈ [1] by decide) (k := 0) (r := some ov) rfl, w]
  cases c : ixB i A.2.2.2.2.2.2.2.length with
  | false => rfl
  | true =>
    obtain ⟨k, hk, rfl⟩ := ixB_t (by omega) c
    have hc := List.getElem?_eq_getElem hk
    obtain ⟨e1, e2⟩ := s5 k _ hc
    have lt : ¬ (nI cap < nI A.2.2.2.2.2.2.2.length) := nI_nlt s3 (by omega)
    have n1 : ¬ nI k < 0 := nI_pos (by omega)
    have n2 : nI k < nI A.2.2.2.2.2.2.2.length := nI_lt hk (by omega)
    have hm : f_J12_min D h (nI A.2.2.2.2.2.2.2.length) (nI cap) = some (nI A.2.2.2.2.2.2.2.length) := by
      unfold f_J12_min
      rw [if_neg lt]
    have ci : f_J9_checkIndex D h (nI k) (nI A.2.2.2.2.2.2.2.length) = some () := by
      unfold f_J9_checkIndex f_J14_checkIndex
      rw [if_neg n1, if_pos n2]
      rfl
    have i1 : (0 : Int32) ≤ nI (A.2.2.2.2.2.2.2[k]) ∧ nI (A.2.2.2.2.2.2.2[k]) ≤ 65535 := ⟨nI_pos' (by omega), (nI_leI (b := 65535) (by omega) (by decide)).2 (by omega)⟩
    simp only [if_true, Option.bind_some, o2.len, shr0 (show cap < 2 ^ 31 by omega), hm, ci, o2.ai (show k < cap by omega) (by omega), e1, chr_n (show A.2.2.2.2.2.2.2[k] < 256 by omega), if_pos i1, nI_clamp (show k < 2 ^ 31 by omega), List.getD_eq_getElem?_getD, hc, Option.getD_some]
theorem h_outputByte {D : gx_D} {b : HX} {o : Nat} {s : MS} {A : AT} (H : mI s A) (hA : a_ok A) (i : Int32) : f_X9_outputByte D b o s i = some (outA A.2.2.2.2.2.2.2 i, ms_p s 6 0) := by
  obtain ⟨q1, q2, q3, q4, q5, q6, q7, ⟨q8, q9⟩⟩ := H
  have hl := hA.2.2.2.2.2.2
  have q8 : (ms_p s 6 0).1 30 = _ := q8
  have w := m_inRange (D := D) (b := b) (o := o) (s := ms_p s 6 0) i 0 (nI A.2.2.2.2.2.2.2.length - 1)
  have w : f_X9_inRange D b o (ms_p s 6 0) i 0 (nI A.2.2.2.2.2.2.2.length - 1) = some (ixB i A.2.2.2.2.2.2.2.length) := w
  unfold f_X9_outputByte ms_pf outA
  simp only [Option.bind_some]
  rw [q8, w, Option.bind_some]
  cases c : ixB i A.2.2.2.2.2.2.2.length with
  | false => rfl
  | true =>
    obtain ⟨k, hk, rfl⟩ := ixB_t (by omega) c
    have hc := List.getElem?_eq_getElem hk
    have e := q9 k _ hc
    rw [if_pos rfl, if_pos rfl, ms_ai_n (j := 12) (by decide) rfl (show k < ms_len 12 from by show k < 60; omega), Option.bind_some, nI_clamp (by omega), List.getD_eq_getElem?_getD, hc, Option.getD_some]
    exact congrArg (fun x => some (x, ms_p s 6 0)) e
