/-! calls that change the run: what they leave -/
set_option maxRecDepth 100000
set_option linter.unusedSimpArgs false
theorem hzw_at {h : HX} {W : List Nat} {z : Nat} {b : Bool} {e : gx_E} (w : hx_wf h) (he : h.2.2 z = some (b, e)) (hz : z ∉ W) : (hzw h W).2.2 z = some (false, e) := by
  show (if z < h.1 ∧ z ∉ W then (h.2.2 z).map fun c => (false, c.2) else none) = _
  rw [if_pos ⟨w.lt he, hz⟩, he]
  rfl
theorem rnB_rn {D : gx_D} {hb G : HX} {n s : Nat} {mc : Int32} {R : RN} {fe : Nat → Option Nat} {f1 f2 f3 f4 f5 : Nat → Int32} {tl : List gx_E} {W : List Nat} (C : rnC D G R fe f1 f2 f3 f4 f5) (hW : ∀ z, z ∈ W → z < n ∨ n + 8 ≤ z) (sG : hx_sub G (hzw (hx_ap n hb (rnB n mc R.iv.length fe f1 f2 f3 f4 f5 (nI (cf_c R.cf)) R.ac (nI R.tr.length) ++ tl) s) W)) : hx_rn D (hzw (hx_ap n hb (rnB n mc R.iv.length fe f1 f2 f3 f4 f5 (nI (cf_c R.cf)) R.ac (nI R.tr.length) ++ tl) s) W) n R := by
  obtain ⟨c1, c2, c3, c4, c5, c6⟩ := C
  have at' : ∀ j e, j < 8 → (rnB n mc R.iv.length fe f1 f2 f3 f4 f5 (nI (cf_c R.cf)) R.ac (nI R.tr.length))[j]? = some e → (hzw (hx_ap n hb (rnB n mc R.iv.length fe f1 f2 f3 f4 f5 (nI (cf_c R.cf)) R.ac (nI R.tr.length) ++ tl) s) W).2.2 (n + j) = some (false, e) := fun j e hj he => by
    refine hzw_at ap_wf (b := true) ?_ fun hz => ?_
    · rw [ap_at, List.getElem?_append_left (List.getElem?_eq_some_iff.1 he).1, he]
      rfl
    · have := hW _ hz
      omega
  have a0 := at' 0 _ (by decide) rfl
  have a1 := at' 1 _ (by decide) rfl
  have a2 := at' 2 _ (by decide) rfl
  have a3 := at' 3 _ (by decide) rfl
  have a4 := at' 4 _ (by decide) rfl
  have a5 := at' 5 _ (by decide) rfl
  have a6 := at' 6 _ (by decide) rfl
  have a7 := at' 7 _ (by decide) rfl
  have ch : ∀ k, ∃ b, ∀ (hk : k < R.iv.length), fe k = some b ∧ hx_iv D G b R.iv[k] := fun k => by
    by_cases hk : k < R.iv.length
    · obtain ⟨b, b1, b2⟩ := c2 k _ (List.getElem?_eq_getElem hk)
      exact ⟨b, fun _ => ⟨b1, b2⟩⟩
    · exact ⟨0, fun h => absurd h hk⟩
  let as := (List.range R.iv.length).map fun k => (ch k).choose
  have asl : as.length = R.iv.length := by simp [as]
  have ask : ∀ k, k < R.iv.length → ∃ b, as[k]? = some b ∧ fe k = some b ∧ ∀ i, R.iv[k]? = some i → hx_iv D G b i := fun k hk => by
    refine ⟨(ch k).choose, ?_, ((ch k).choose_spec hk).1, fun i hi => ?_⟩
    · simp only [as, List.getElem?_map, List.getElem?_range hk, Option.map_some]
    · have := ((ch k).choose_spec hk).2
      rw [List.getElem?_eq_getElem hk] at hi
      cases hi
      exact this
  refine ⟨n + 1, n + 3, n + 4, n + 5, n + 6, n + 7, f4, f5, hx_ob.mk a0, ⟨as, ⟨mc, n + 2, fe, hx_ob.mk (b := false) ?_, hx_or.mk a2, by omega, by decide, fun k hk => ?_⟩, asl, fun k i b hk hb => ?_⟩, ⟨f1, hx_oi.mk a3, c3⟩, ⟨f2, hx_oi.mk a4, c4⟩, ⟨f3, hx_oi.mk a5, c5⟩, hx_oi.mk a6, hx_oi.mk a7, c6⟩
  · rw [asl]
    exact a1
  · obtain ⟨b, e1, e2, e3⟩ := ask k (by omega)
    rw [e1, e2]
  · obtain ⟨b', e1, e2, e3⟩ := ask k (List.getElem?_eq_some_iff.1 hk).1
    rw [e1] at hb
    cases hb
    exact (e3 i hk).sub sG
/-- all that a call begins with -/
theorem cI.opn {D : gx_D} {h : HX} {Y : YT} {A : AT} (H : cI D h Y A) : ∃ (ov op d r : Nat) (p : Option Nat) (fnd dl : Int32) (as : List Nat),
    h.2.2 Y.1 = some (true, .inr (9, x_fs op Y.2.1 d r Y.2.2.1 Y.2.2.2.2.1 Y.2.2.2.2.2.1 Y.2.2.2.2.2.2.1 Y.2.2.2.2.2.2.2.1 p (nI A.2.2.2.2.1.length) A.2.2.2.2.2.1 A.2.2.2.2.2.2.1 fnd dl)) ∧ hx_wf h ∧ dq h Y.2.2.1 Y.2.2.2.1 as ∧ hs_ok D (hzf h) as A.2.2.2.1 ∧ hx_df D (hzf h) d A.1 ∧ hx_rn D (hzf h) r A.2.1 ∧ sv_ok D (hzf h) p A.2.2.1 ∧ a_ok A ∧ gx_apt D ∧ gx_apt2 D ∧ (∀ z, z ∈ W_ Y ov → ∃ e, h.2.2 z = some (true, e)) ∧ cG D h (hzf h) Y ov A ∧ ∃ gop t, hx_or (hzf h) op t 6 gop ∧ 4 ≤ t ∧ ∀ k, k < 6 → gop k = some (D.2.2.1 (100 + k)) := by
  obtain ⟨ov, w, H, hA, ap1, ap2⟩ := H
  have hW := H.W
  have H' := H
  obtain ⟨op, d, r, cap, t, p, fnd, dl, fib, as, gop, k1, k2, k3, ⟨k4, k5⟩, k6, k7, k8, k9, k10, k11, k12⟩ := H
  exact ⟨ov, op, d, r, p, fnd, dl, as, k1, w, k4, k5, k10, k11, k12, hA, ap1, ap2, hW, H', gop, t, k2⟩
theorem cI.end {D : gx_D} {h h1 : HX} {Y : YT} {F : DF} {R R' : RN} {sv sv' : Option RN} {hs hs' : List RN} {ib ob : List Nat} {ec eo : Int32} {ov op d r r' : Nat} {p p' : Option Nat} {fnd dl fnd' dl' : Int32} {as : List Nat}
    (H : cG D h (hzf h) Y ov (F, R, sv, hs, ib, ec, eo, ob)) (w : hx_wf h) (hx : h.2.2 Y.1 = some (true, .inr (9, x_fs op Y.2.1 d r Y.2.2.1 Y.2.2.2.2.1 Y.2.2.2.2.2.1 Y.2.2.2.2.2.2.1 Y.2.2.2.2.2.2.2.1 p (nI ib.length) ec eo fnd dl)))
    (l : h.1 ≤ h1.1) (w1 : hx_wf h1) (fr : ∀ z, z < h.1 → z ≠ Y.1 → z ≠ Y.2.2.1 → z ≠ Y.2.2.2.1 → h1.2.2 z = h.2.2 z)
    (hx1 : h1.2.2 Y.1 = some (true, .inr (9, x_fs op Y.2.1 d r' Y.2.2.1 Y.2.2.2.2.1 Y.2.2.2.2.2.1 Y.2.2.2.2.2.2.1 Y.2.2.2.2.2.2.2.1 p' (nI ib.length) ec eo fnd' dl')))
    (hq : dq h1 Y.2.2.1 Y.2.2.2.1 as) (hh : hx_sub (hzf h) (hzw h1 (W_ Y ov)) → hs_ok D (hzw h1 (W_ Y ov)) as hs') (hr : hx_sub (hzf h) (hzw h1 (W_ Y ov)) → hx_rn D (hzw h1 (W_ Y ov)) r' R') (hsv : hx_sub (hzf h) (hzw h1 (W_ Y ov)) → sv_ok D (hzw h1 (W_ Y ov)) p' sv') : cE D h1 Y (F, R', sv', hs', ib, ec, eo, ob) := by
  have hW := H.W
  have sub : hx_sub (hzf h) (hzw h1 (W_ Y ov)) := hzf_hzw l (fun z hz _ => hW z hz) (fun z c hz hn he => by
    simp only [W_, List.mem_cons, List.not_mem_nil, or_false, not_or] at hn
    rw [fr z hz hn.1 hn.2.2.2.1 hn.2.2.2.2.2.2.2.2.1, he])
  obtain ⟨op', d', r0, cap, t, p0, fnd0, dl0, fib, as0, gop, k1, k2, ⟨k3, k3'⟩, ⟨⟨ne, hd, g, k4, k4', k4''⟩, k5⟩, ⟨⟨f1, k6⟩, ⟨f2, k6'⟩, ⟨f3, k6''⟩⟩, ⟨ml, fo, k7, k7', k7''⟩, ⟨f4, k8⟩, k9, k10, k11⟩ := H
  rw [hx] at k1
  have efs := Option.some.inj k1
  simp only [Prod.mk.injEq, Sum.inr.injEq, true_and, x_fs, List.cons.injEq, Value.ref.injEq] at efs
  obtain ⟨e1, e2, _⟩ := efs
  subst e1 e2
  have tr : ∀ z e, h.2.2 z = some (true, e) → (∀ fs, e ≠ .inr (9, fs)) → (∀ fs, e ≠ .inr (3, fs)) → (∀ f, e ≠ .inl (4, 17, f)) → h1.2.2 z = some (true, e) := fun z e he n1 n2 n3 => by
    rw [fr z (w.lt he) (fun c => by rw [c, hx] at he; cases he; exact n1 _ rfl) (fun c => by rw [c, k4] at he; cases he; exact n2 _ rfl) (fun c => by rw [c, k4'] at he; cases he; exact n3 _ rfl), he]
  refine ⟨ov, w1, op, d, r', cap, t, p', fnd', dl', fib, as, gop, hx1, ⟨k2.1.sub sub, k2.2⟩, ⟨tr _ _ k3 (fun _ hc => by cases hc) (fun _ hc => by cases hc) (fun _ hc => by cases hc), k3'⟩, ⟨hq, hh sub⟩, ⟨⟨f1, tr _ _ k6 (fun _ hc => by cases hc) (fun _ hc => by cases hc) (fun _ hc => by cases hc)⟩, ⟨f2, tr _ _ k6' (fun _ hc => by cases hc) (fun _ hc => by cases hc) (fun _ hc => by cases hc)⟩, ⟨f3, tr _ _ k6'' (fun _ hc => by cases hc) (fun _ hc => by cases hc) (fun _ hc => by cases hc)⟩⟩, ⟨ml, fo, tr _ _ k7 (fun _ hc => by cases hc) (fun _ hc => by cases hc) (fun _ hc => by cases hc), tr _ _ k7' (fun _ hc => by cases hc) (fun _ hc => by cases hc) (fun _ hc => by cases hc), k7''⟩, ⟨f4, tr _ _ k8 (fun _ hc => by cases hc) (fun _ hc => by cases hc) (fun _ hc => by cases hc)⟩, k9, k10.sub sub, hr sub, hsv sub⟩
/-- the history behind a change -/
def hsN (hs : List RN) (R : RN) : List RN := (if hs.length = 8 then hs.tail else hs) ++ [R]
theorem c_changed {D : gx_D} {h : HX} {Y : YT} {A : AT} {op d r : Nat} {p : Option Nat} {fnd dl : Int32} {as : List Nat}
    (hx : h.2.2 Y.1 = some (true, .inr (9, x_fs op Y.2.1 d r Y.2.2.1 Y.2.2.2.2.1 Y.2.2.2.2.2.1 Y.2.2.2.2.2.2.1 Y.2.2.2.2.2.2.2.1 p (nI A.2.2.2.2.1.length) A.2.2.2.2.2.1 A.2.2.2.2.2.2.1 fnd dl))) (w : hx_wf h) (hq : dq h Y.2.2.1 Y.2.2.2.1 as) (hh : hs_ok D (hzf h) as A.2.2.2.1) (hr : hx_rn D (hzf h) r A.2.1) (hA : a_ok A) :
    ∃ hb mc fe f1 f2 f3 f4 f5 it as', f_X1_changed D h Y.1 = some (some h.1, hx_ap h.1 hb (rnB h.1 mc A.2.1.iv.length fe f1 f2 f3 f4 f5 (nI (cf_c A.2.1.cf)) A.2.1.ac (nI A.2.1.tr.length) ++ [it]) 107) ∧ rnC D (hzf h) A.2.1 fe f1 f2 f3 f4 f5 ∧ hb.1 = h.1 ∧ hb.2.1 = h.2.1 ∧ hb.2.2 Y.1 = some (true, .inr (9, x_fs op Y.2.1 d h.1 Y.2.2.1 Y.2.2.2.2.1 Y.2.2.2.2.2.1 Y.2.2.2.2.2.2.1 Y.2.2.2.2.2.2.2.1 p (nI A.2.2.2.2.1.length) A.2.2.2.2.2.1 A.2.2.2.2.2.2.1 fnd dl)) ∧ dq hb Y.2.2.1 Y.2.2.2.1 as' ∧ hs_ok D (hzf h) as' (hsN A.2.2.2.1 A.2.1) ∧ ∀ z, z ≠ Y.1 → z ≠ Y.2.2.1 → z ≠ Y.2.2.2.1 → hb.2.2 z = h.2.2 z := by
  have hx0 := hx
  obtain ⟨ne, hd0, g0, k4, k4', _⟩ := id hq
  have n1 : Y.1 ≠ Y.2.2.1 := fun e => by rw [e, k4] at hx; cases hx
  have n2 : Y.1 ≠ Y.2.2.2.1 := fun e => by rw [e, k4'] at hx; cases hx
  obtain ⟨hA1, hA2, hA3, hA4, hA5, hA6⟩ := hA
  have tl20 := hA2.2.2.2.2.2.2.2
  -- the deque first
  have pop : ∃ h10 as1, hx_kp h h10 [Y.2.2.1, Y.2.2.2.1] ∧ dq h10 Y.2.2.1 Y.2.2.2.1 as1 ∧ as1.length < 8 ∧ hs_ok D (hzf h) as1 (if A.2.2.2.1.length = 8 then A.2.2.2.1.tail else A.2.2.2.1) ∧ f_X1_changed D h Y.1 = f_X1_changed_b20 D h10 Y.1 := by
    have sz := dq_size (D := D) hq
    rw [hh.1] at sz
    unfold f_X1_changed
    simp only [(hx_ob.mk hx).is (show 9 ∈ [9] by decide), (hx_ob.mk hx).gr (show 9 ∈ [9] by decide) (k := 8) (r := some Y.2.2.1) rfl, Option.bind_some, sz]
    by_cases c : A.2.2.2.1.length = 8
    · rw [if_pos c, if_pos (show nI A.2.2.2.1.length = 8 by rw [c]; rfl)]
      cases e : as with
      | nil => rw [e] at hh; have := hh.1; rw [c] at this; cases this
      | cons a as1 =>
        rw [e] at hq hh
        obtain ⟨h10, e1, e2, e3⟩ := dq_first (D := D) hq
        have l1 := hh.1
        simp only [List.length_cons] at l1
        refine ⟨h10, as1, e3, e2, by omega, ⟨by rw [List.length_tail]; omega, fun k a' R' h1 h2 => ?_⟩, by simp only [gx_b2, e1, Option.bind_some]⟩
        refine hh.2 (k + 1) a' R' h1 ?_
        rw [← h2, List.getElem?_tail]
    · rw [if_neg c, if_neg (show ¬ nI A.2.2.2.1.length = 8 from nI_ne (b := 8) (by omega) (by decide) c)]
      exact ⟨h, as, hx_kp.rf, hq, by have := hh.1; omega, hh, rfl⟩
  obtain ⟨h10, as1, p1, p2, p3, p4, p5⟩ := pop
  have hx10 : h10.2.2 Y.1 = _ := (p1.2.2 Y.1 (by simp [n1, n2])).trans hx
  have s10 : hx_sub (hzf h) h10 := fun z c e => by
    obtain ⟨c1, c2, c3⟩ := hzf_eq e
    rw [p1.2.2 z, c3]
    simp only [List.mem_cons, List.not_mem_nil, or_false, not_or]
    obtain ⟨b, x⟩ := c
    simp only at c2
    subst c2
    exact ⟨fun e => (by rw [e, k4] at c3; cases c3), fun e => (by rw [e, k4'] at c3; cases c3)⟩
  obtain ⟨i, a1, a2, a3, a4, a5, ge, gt, q1, _⟩ := hr.sub s10
  obtain ⟨h15, b1, b2, b3⟩ := dq_add (D := D) p2 p3 q1
  have b4 := p1.tr b3
  have hx15 : h15.2.2 Y.1 = _ := (b4.2.2 Y.1 (by simp [n1, n2])).trans hx
  have s15 : hx_sub (hzf h) h15 := fun z c e => by
    obtain ⟨c1, c2, c3⟩ := hzf_eq e
    rw [b4.2.2 z, c3]
    simp only [List.mem_cons, List.not_mem_nil, or_false, not_or]
    obtain ⟨b, x⟩ := c
    simp only at c2
    subst c2
    exact ⟨fun e => (by rw [e, k4] at c3; cases c3), fun e => (by rw [e, k4'] at c3; cases c3)⟩
  have w15 : hx_wf h15 := fun z hz => by
    rw [b4.1] at hz
    rw [b4.2.2 z, w z hz]
    simp only [List.mem_cons, List.not_mem_nil, or_false, not_or]
    have := w.lt k4
    have := w.lt k4'
    omega
  obtain ⟨mc, fe, f1, f2, f3, f4, f5, it, t1, t2⟩ := c_twin (D := D) w15 s15 hr tl20
  rw [b4.1] at t1
  have hxl := w.lt hx
  obtain ⟨h16, e16, c16⟩ := hx_pv_e (cis := [9]) (k := 6) (v := va_rf (some h.1)) hx15 (by decide) (by simp [x_fs])
  refine ⟨h16, mc, fe, f1, f2, f3, f4, f5, it, as1 ++ [r], ?_, t2, by rw [c16.1, b4.1], by rw [c16.2.1, b4.2.1], ?_, ?_, ⟨?_, fun k a R' h1 h2 => ?_⟩, fun z z1 z2 z3 => ?_⟩
  · rw [p5]
    have g6 : ∀ B s, hx_gr (hx_ap h.1 h16 B s) Y.1 [9] 6 = some (some h.1) := fun B s => by
      rw [hx_gr_r, ap_gvo hxl, (hx_ob.mk (b := true) c16.2.2.1).gv (show 9 ∈ [9] by decide)]
      rfl
    have e16' : ∀ B s, hx_pv (hx_ap h.1 h15 B s) Y.1 [9] 6 (va_rf (some h.1)) = some (hx_ap h.1 h16 B s) := fun B s => by
      rw [ap_pvo hxl, e16]
      rfl
    unfold f_X1_changed_b20
    simp only [(hx_ob.mk hx10).gr (show 9 ∈ [9] by decide) (k := 8) (r := some Y.2.2.1) rfl, (hx_ob.mk hx10).gr (show 9 ∈ [9] by decide) (k := 6) (r := some r) rfl, Option.bind_some, b1, (hx_ob.mk hx15).gr (show 9 ∈ [9] by decide) (k := 6) (r := some r) rfl, gx_b2, t1, hx_pr, e16', g6]
  · rw [c16.2.2.1]
    rfl
  · obtain ⟨m1, hd, g, m2, m3, m4⟩ := b2
    exact ⟨m1, hd, g, by rw [c16.2.2.2 _ (fun e => n1 e.symm)]; exact m2, by rw [c16.2.2.2 _ (fun e => n2 e.symm)]; exact m3, m4⟩
  · unfold hsN
    simp only [List.length_append, List.length_singleton]
    rw [p4.1]
  · unfold hsN at h2
    have pl := p4.1
    by_cases c : k < as1.length
    · rw [List.getElem?_append_left c] at h1
      rw [List.getElem?_append_left (by omega)] at h2
      exact p4.2 k a R' h1 h2
    · rw [List.getElem?_append_right (by omega)] at h1 h2
      obtain ⟨c2, c3⟩ := List.getElem?_eq_some_iff.1 h1
      simp only [List.length_singleton] at c2
      rw [show k - as1.length = 0 by omega] at h1
      rw [← pl, show k - as1.length = 0 by omega] at h2
      cases h1
      cases h2
      exact hr
  · rw [c16.2.2.2 z z1, b4.2.2 z (by simp [z2, z3])]
