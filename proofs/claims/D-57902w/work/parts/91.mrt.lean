/-! the model runs a script -/
set_option maxRecDepth 100000
set_option linter.unusedSimpArgs false
/-- a count that is small -/
def acB (n : Nat) (R : RN) : Prop := ∃ m, m ≤ n ∧ R.ac = nI m
theorem acB.up {n m : Nat} {R : RN} (h : acB n R) (hm : n ≤ m) : acB m R := by
  obtain ⟨k, h1, h2⟩ := h
  exact ⟨k, by omega, h2⟩
theorem acB_fire {n : Nat} {F : DF} {R : RN} {e : Nat} (h : acB n R) : acB (n + 1) (rnFire F R e) := by
  obtain ⟨m, h1, h2⟩ := h
  unfold rnFire
  split
  · exact ⟨m + 1, by omega, by show R.ac + 1 = _; rw [h2, nI_1]⟩
  · exact ⟨m, by omega, h2⟩
theorem acB_do {n : Nat} {F : DF} {R R' : RN} {c : CMD} (hc : cmd_ok F c) (h : acB n R) (e : doC F R c = some R') : acB (n + 1) R' := by
  obtain ⟨k, u, v⟩ := c
  rcases hc with ⟨rfl, h1⟩ | ⟨rfl, h1, h2⟩ | rfl | rfl
  · cases e; exact acB_fire h
  · unfold doC at e
    simp only at e
    split at e
    · cases e; exact h.up (by omega)
    · cases e
  · cases e; exact h.up (by omega)
  · cases e; exact ⟨0, by omega, rfl⟩
theorem acB_run {F : DF} : ∀ (l : List CMD) (n : Nat) (R : RN), (∀ c, c ∈ l → cmd_ok F c) → acB n R → acB (n + l.length) (runC F l R).2
  | [], n, R, _, h => h
  | c :: l, n, R, hc, h => by
    unfold runC
    cases e : doC F R c with
    | none => exact h.up (by simp)
    | some R' => exact (acB_run l (n + 1) R' (fun d hd => hc d (by simp [hd])) (acB_do (hc c (by simp)) h e)).up (by simp only [List.length_cons]; omega)
theorem pScr_i {ib : List Nat} {F : DF} : ∀ (N : Nat) (cs : List CMD) (p : Nat) (v : List CMD × Nat), cmds_ok F cs → pScr ib F N cs p = .inr v → cmds_ok F v.1
  | 0, cs, p, v, _, h => by cases h
  | N + 1, cs, p, v, hc, h => by
    unfold pScr at h
    split at h
    · cases h; exact hc
    · obtain ⟨cs', p1, h1, h2⟩ := pb_r (v := v.1) (q := v.2) h
      exact pScr_i N cs' p1 v (pOne_i hc h1) h2
section MRT
variable {D : gx_D} {b : HX} {o : Nat} {F : DF} {cs : List CMD}
theorem m_does {s : MS} {R : RN} {k n : Nat} {c : CMD} (H : mM s F R) (C : mcs s cs) (hk : cs[k]? = some c) (hc : cmd_ok F c) (hn : acB n R) (hn1 : n < 10000) : ∃ bb t, f_X9_does D b o s (nI k) = some (bb, t) ∧ mR s t ∧ (match doC F R c with
    | some R' => bb = true ∧ m_df (t.2 0) F ∧ m_rn (t.2 0) R'
    | none => bb = false ∧ t = s) := by
  have hkl := (List.getElem?_eq_some_iff.1 hk).1
  have c30 := C.2.1
  obtain ⟨e8, e91, e92⟩ := C.2.2 k c hk
  have hF := H.2.2.1
  have hq := H.cf
  have w2 : (2 : Int32) * nI k = nI (2 * k) := by rw [show (2 : Int32) = nI 2 from rfl, pk_mul]
  have r : f_X9_does D b o s (nI k) = if nI c.1 = (1 : Int32) then gx_b2 (f_X9_fires D b o s (s.2 9 (2 * k))) fun x6 h7 => if x6 < 0 then some (false, h7) else some (true, h7) else if nI c.1 = (2 : Int32) then (f_X9_maySet D b o s (s.2 9 (2 * k)) (s.2 9 (2 * k + 1))).bind fun b11 => if b11 = true then gx_b2 (f_X9_setsValue D b o s (s.2 9 (2 * k)) (s.2 9 (2 * k + 1))) fun x14 h15 => if x14 < 0 then some (false, h15) else some (true, h15) else some (false, s) else if nI c.1 = (3 : Int32) then gx_b2 (f_X9_resets D b o s) fun x19 h20 => if x19 < 0 then some (false, h20) else some (true, h20) else if nI c.1 < (1 : Int32) ∨ (3 : Int32) < nI c.1 then gx_b2 (f_X9_clears D b o s) fun x24 h25 => if x24 < 0 then some (false, h25) else some (true, h25) else none := by
    unfold f_X9_does
    rw [w2, ms_ai_n (j := 9) (by decide) rfl (show 2 * k < ms_len 9 from by show _ < 62; omega), Option.bind_some, nI_1, ms_ai_n (j := 9) (by decide) rfl (show 2 * k + 1 < ms_len 9 from by show _ < 62; omega), Option.bind_some, ms_ai_n (j := 8) (by decide) rfl (show k < ms_len 8 from by show _ < 31; omega), Option.bind_some, e8]
  rw [r]
  obtain ⟨c1, u, v⟩ := c
  rcases hc with ⟨rfl, h1⟩ | ⟨rfl, h1, h2⟩ | rfl | rfl
  · have h1 : u < F.en.length := h1
    have e9 : s.2 9 (2 * k) = nI u := e91 rfl
    obtain ⟨t, et, t1, t2, t3, t4⟩ := m_fires (D := D) (b := b) (o := o) H h1
    rw [if_pos (show nI 1 = (1 : Int32) from rfl), e9, et, pl_b2_s, if_neg (nI_pos (by have := vdN_lt (ts := F.ts) (is := R.iv) (q := R.cf) (e := u); omega))]
    exact ⟨true, t, rfl, ⟨t3, t4⟩, rfl, t1, t2⟩
  · have h1 : u < F.vn.length := h1
    have h2 : v < 10 := h2
    obtain ⟨e90, e91'⟩ := e92 rfl
    have e90 : s.2 9 (2 * k) = nI u := e90
    have e91' : s.2 9 (2 * k + 1) = nI v := e91'
    have u3 : u < 3 := by have := hF.2.2.1.2; omega
    rw [if_neg (show ¬ nI 2 = (1 : Int32) by decide), if_pos (show nI 2 = (2 : Int32) from rfl), e90, e91', m_maySet H u3 h2, Option.bind_some]
    have d1 : doC F R (2, u, v) = if (brk R.iv (cf_set R.cf u v)).isNone = true then some (rnSet R u v) else none := rfl
    rw [d1]
    by_cases cb : (brk R.iv (cf_set R.cf u v)).isNone = true
    · rw [if_pos cb, if_pos cb]
      obtain ⟨t, et, t1, t2, t3⟩ := m_setsValue (D := D) (b := b) (o := o) H u3 h2
      have cv := cf_val_lt hq u
      rw [et, pl_b2_s, if_neg (nI_pos (by omega))]
      exact ⟨true, t, rfl, t3, rfl, t1, t2⟩
    · rw [if_neg cb, if_neg cb]
      exact ⟨false, s, rfl, ⟨fun _ _ => rfl, fun _ _ _ => rfl⟩, rfl, rfl⟩
  · obtain ⟨t, et, t1, t2, t3⟩ := m_resets (D := D) (b := b) (o := o) H
    rw [if_neg (show ¬ nI 3 = (1 : Int32) by decide), if_neg (show ¬ nI 3 = (2 : Int32) by decide), if_pos (show nI 3 = (3 : Int32) from rfl), et, pl_b2_s, if_neg (nI_pos (by have := hq.1; omega))]
    exact ⟨true, t, rfl, t3, rfl, t1, t2⟩
  · obtain ⟨t, et, t1, t2, t3⟩ := m_clears (D := D) (b := b) (o := o) H
    obtain ⟨m, m1, m2⟩ := hn
    rw [if_neg (show ¬ nI 4 = (1 : Int32) by decide), if_neg (show ¬ nI 4 = (2 : Int32) by decide), if_neg (show ¬ nI 4 = (3 : Int32) by decide), if_pos (show nI 4 < (1 : Int32) ∨ (3 : Int32) < nI 4 by decide), et, pl_b2_s, m2, if_neg (nI_pos (by omega))]
    exact ⟨true, t, rfl, t3, rfl, t1, t2⟩
theorem mR.tr {a b c : MS} (x : mR a b) (y : mR b c) : mR a c := ⟨fun q h => (y.1 q h).trans (x.1 q h), fun q h1 h2 => (y.2 q h1 h2).trans (x.2 q h1 h2)⟩
theorem m_runl (hc : ∀ c, c ∈ cs → cmd_ok F c) : ∀ (l : List CMD) (j f n : Nat) (R : RN) (s : MS), cs.drop j = l → j ≤ cs.length → mM s F R → mcs s cs → acB n R → n + l.length < 10000 → l.length < f → ∃ t, f_X9_runScript_b46 D b o f s (nI j) = some (nI (j + (runC F l R).1), t) ∧ mR s t ∧ m_df (t.2 0) F ∧ m_rn (t.2 0) (runC F l R).2 := by
  intro l
  induction l with
  | nil =>
    intro j f n R s hl hj H C hn hn2 hf
    obtain ⟨f, rfl⟩ : ∃ g, f = g + 1 := ⟨f - 1, by omega⟩
    have c30 := C.2.1
    have ej : j = cs.length := by
      have := congrArg List.length hl
      rw [List.length_drop] at this
      have : cs.length - j = 0 := this
      omega
    refine ⟨s, ?_, ⟨fun _ _ => rfl, fun _ _ _ => rfl⟩, H.1, H.2.1⟩
    simp only [f_X9_runScript_b46, C.1, if_pos (nI_le (show cs.length ≤ j by omega) (show j < 2 ^ 31 by omega))]
    rfl
  | cons c l ih =>
    intro j f n R s hl hj H C hn hn2 hf
    obtain ⟨f, rfl⟩ : ∃ g, f = g + 1 := ⟨f - 1, by omega⟩
    have c30 := C.2.1
    have hk : cs[j]? = some c := by
      have := congrArg (fun l => l[0]?) hl
      simpa using this
    have jl := (List.getElem?_eq_some_iff.1 hk).1
    have hl2 : cs.drop (j + 1) = l := by
      rw [← List.drop_drop, hl]
      rfl
    have cok := hc c (List.mem_of_getElem? hk)
    simp only [List.length_cons] at hn2 hf
    obtain ⟨bb, t, e1, Fr, M⟩ := m_does (D := D) (b := b) (o := o) H C hk cok hn (by omega)
    have st : f_X9_runScript_b46 D b o (f + 1) s (nI j) = if bb = true then f_X9_runScript_b46 D b o f t (nI (j + 1)) else some (nI j, t) := by
      simp only [f_X9_runScript_b46, C.1, if_neg (nI_ge jl (show cs.length < 2 ^ 31 by omega)), e1, pl_b2_s, gx_c1]
    rw [st]
    unfold runC
    cases e : doC F R c with
    | none =>
      rw [e] at M
      obtain ⟨rfl, rfl⟩ := M
      rw [if_neg Bool.false_ne_true]
      exact ⟨t, rfl, Fr, H.1, H.2.1⟩
    | some R' =>
      rw [e] at M
      obtain ⟨rfl, m1, m2⟩ := M
      rw [if_pos rfl]
      have H' : mM t F R' := ⟨m1, m2, H.2.2.1, doC_ok H.2.2.1 H.2.2.2 cok e⟩
      have C' : mcs t cs := C.of (Fr.2 26 (by decide) (by decide)) (Fr.1 8 (by decide)) (Fr.1 9 (by decide))
      obtain ⟨t2, r1, r2, r3, r4⟩ := ih (j + 1) f (n + 1) R' t hl2 (by omega) H' C' (acB_do cok hn e) (by omega) (by omega)
      refine ⟨t2, ?_, Fr.tr r2, r3, r4⟩
      rw [r1]
      simp only [Nat.add_assoc, Nat.add_comm 1]
theorem mc_runScript {s : MS} {A : AT} {n : Nat} (KS : KM D b o) (H : mI s A) (hA : a_ok A) (hb : ib_ok A.2.2.2.2.1) (hnc : nc_ok A.1.en ∧ nc_ok A.1.vn) (hn : acB n A.2.1) (hn1 : n < 9000) : ∃ r t A', f_X9_runScript D b o s = some (r, t) ∧ mI t A' ∧ (match pScript A.2.2.2.2.1 A.1 with
    | .inl e => r = -1 ∧ A' = (A.1, A.2.1, A.2.2.1, A.2.2.2.1, [], nI e.1, nI e.2, A.2.2.2.2.2.2.2)
    | .inr cs => r = nI (runC A.1 cs A.2.1).1 ∧ A' = (A.1, (runC A.1 cs A.2.1).2, A.2.2.1, hsN A.2.2.2.1 A.2.1, [], 0, -1, A.2.2.2.2.2.2.2)) := by
  obtain ⟨F, R, sv, hs, ib, ec, eo, ob⟩ := A
  have hb : ib_ok ib := hb
  obtain ⟨q1, q2, q3, q4, q5, q6, q7, q8⟩ := id H
  have q5 : m_in s ib := q5
  have q1 : m_df (s.2 0) F := q1
  have hF : df_ok F := hA.1
  have hR : rn_ok F R := hA.2.1
  have I1 : m_in (ms_p s 6 0) ib := q5
  obtain ⟨s5, e5, T5, o5, f5, z26, a5⟩ := m_startsText (D := D) (b := b) (o := o) I1 hb
  have hl := hb.1
  have NE : mnL (s5.2 0) 427 1 F.en := by
    rw [a5]
    exact ⟨q1.2.2.2.2.2.1, q1.2.1, by decide, by have := hF.2.1.2; omega, by have := hF.2.1.2; omega, hF.2.2.2.2.2.1, hnc.1⟩
  have NV : mnL (s5.2 0) 483 2 F.vn := by
    rw [a5]
    exact ⟨q1.2.2.2.2.2.2.1, q1.2.2.1, by decide, by have := hF.2.2.1.2; omega, by have := hF.2.2.1.2; omega, hF.2.2.2.2.2.2.1, hnc.2⟩
  have C5 : mcs s5 [] := ⟨z26, by decide, fun k c hk => by simp at hk⟩
  obtain ⟨s8, F8, M8⟩ := m_sloop (F := F) KS hb 701 701 0 s5 [] (gx_fuel - 1) 1000 (Nat.le_refl _) (by omega) (Nat.zero_le _) T5 NE NV C5 (by rw [pl_fl]; decide) (by decide)
  have gf : gx_fuel - 1 + 1 = gx_fuel := by rw [pl_fl]
  rw [gf] at M8
  obtain ⟨s10, e10, f10, z13, z14, z15, a10⟩ := m_endsText (D := D) (b := b) (o := o) (s := s8)
  have fr : ∀ j, (j < 16 ∨ 22 < j) → j ≠ 26 → j ≠ 6 → j ≠ 13 → j ≠ 14 → j ≠ 15 → s10.1 j = s.1 j := fun j h1 h2 h3 h4 h5 h6 => by rw [f10 j h4 h5 h6, F8.1.1 j h1 h2, f5 j h1 h2, ms_p1n h3]
  have ar : ∀ q, q ≠ 7 → q ≠ 8 → q ≠ 9 → s10.2 q = s.2 q := fun q h7 h8 h9 => by rw [a10, F8.2 q h7 h8 h9, a5]; rfl
  have st : f_X9_runScript D b o s = f_X9_runScript_b11 D b o gx_fuel s5 true := by
    unfold f_X9_runScript
    show ((some (ms_p s 6 0)).bind fun h1 => _) = _
    rw [Option.bind_some, e5, Option.bind_some]
  rw [st]
  show ∃ r t A', _ ∧ mI t A' ∧ (match pScript ib F with
    | .inl e => r = -1 ∧ A' = (F, R, sv, hs, [], nI e.1, nI e.2, ob)
    | .inr cs => r = nI (runC F cs R).1 ∧ A' = (F, (runC F cs R).2, sv, hsN hs R, [], 0, -1, ob))
  have pe : pScript ib F = match pScr ib F 1000 [] 0 with
      | .inl e => .inl e
      | .inr v => .inr v.1 := rfl
  have nin : ∀ t : MS, t.1 13 = 0 → m_in t [] := fun t h => ⟨h, fun k c hk => by simp at hk⟩
  have base : ∀ (x y : Int32), s8.1 16 = x → s8.1 17 = y → mI s10 (F, R, sv, hs, [], x, y, ob) := fun x y hx hy => by
    obtain ⟨o1, o2, o3⟩ := H.oth (t := s10) (fun j hj => fr j (by omega) (by omega) (by omega) (by omega) (by omega) (by omega)) (fun q hq => ar q (by omega) (by omega) (by omega))
    refine ⟨?_, ?_, o1, o2, nin s10 z13, by rw [z14]; exact hx, by rw [z15]; exact hy, o3⟩
    · rw [ar 0 (by decide) (by decide) (by decide)]; exact q1
    · rw [ar 0 (by decide) (by decide) (by decide)]; exact q2
  rw [pe]
  cases em : pScr ib F 1000 [] 0 with
  | inl e =>
    rw [em] at M8
    obtain ⟨m1, m2, m3⟩ := M8
    refine ⟨-1, s10, _, ?_, base _ _ m2 m3, rfl, rfl⟩
    rw [m1]
    unfold f_X9_runScript_b30
    rw [e10, Option.bind_some, if_neg Bool.false_ne_true]
  | inr v =>
    rw [em] at M8
    obtain ⟨m1, m2, m3⟩ := M8
    have x17 : s8.1 17 = -1 := (F8.1.2 m2.2.1).2.trans o5
    have H10 := base 0 (-1) m2.2.1 x17
    have hA10 : a_ok (F, R, sv, hs, [], (0 : Int32), (-1 : Int32), ob) := ⟨hA.1, hA.2.1, hA.2.2.1, hA.2.2.2.1, hA.2.2.2.2.1, by show 0 ≤ 700; decide, hA.2.2.2.2.2.2⟩
    obtain ⟨s11, e11, k1, k2, k3, k4⟩ := H10.rem (D := D) (b := b) (o := o) hA10
    have cok : cmds_ok F v.1 := pScr_i 1000 [] 0 v ⟨by decide, fun c hc => by simp at hc⟩ em
    · have C11 : mcs s11 v.1 := m3.of ((k3 26 (by decide)).trans (f10 26 (by decide) (by decide) (by decide))) ((k2 8 (by decide)).trans (a10 8)) ((k2 9 (by decide)).trans (a10 9))
      obtain ⟨t, r1, r2, r3, r4⟩ := m_runl (D := D) (b := b) (o := o) cok.2 v.1 0 gx_fuel n R s11 rfl (Nat.zero_le _) k4 C11 hn (by have := cok.1; omega) (by rw [pl_fl]; have := cok.1; omega)
      have RUN := H10.run (R' := (runC F v.1 R).2) k1 k2 k3 r2 r3 r4
      refine ⟨nI (runC F v.1 R).1, t, _, ?_, RUN, rfl, rfl⟩
      rw [m1]
      unfold f_X9_runScript_b30
      rw [e10, Option.bind_some, if_pos rfl, e11, Option.bind_some, show (0 : Int32) = nI 0 from rfl, r1, Nat.zero_add]
end MRT
