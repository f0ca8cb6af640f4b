/-! what holds between two calls -/
set_option maxRecDepth 100000
set_option linter.unusedSimpArgs false
/-- definition, run, saved run, history, input, error code and offset, output -/
abbrev AT : Type := DF × RN × Option RN × List RN × List Nat × Int32 × Int32 × List Nat
/-- the machine; its input, history, history's places, depths, firsts, queue, output; the cell of results -/
abbrev YT : Type := Nat × Nat × Nat × Nat × Nat × Nat × Nat × Nat × Nat
def hx_sb8 (h : HX) (ou ov cap : Nat) (cs : List Nat) : Prop := ∃ (ml : Int32) (fo : Nat → Int32), h.2.2 ou = some (true, .inr (1, [.ref ov, .int 0, .int ml, .int (nI cs.length)])) ∧ h.2.2 ov = some (true, .inl (1, cap, .inl fo)) ∧ cs.length ≤ cap ∧ cap ≤ 1000 ∧ (∀ (k c : Nat), cs[k]? = some c → fo k = nI c ∧ c < 128) ∧ ∀ k, k < cap → fits .byte (.int (fo k)) = true
/-- the cells that calls may write -/
def W_ (Y : YT) (ov : Nat) : List Nat := [Y.1, Y.2.2.2.2.2.2.2.2, Y.2.1, Y.2.2.1, Y.2.2.2.2.1, Y.2.2.2.2.2.1, Y.2.2.2.2.2.2.1, Y.2.2.2.2.2.2.2.1, Y.2.2.2.1, ov]
def hzw (h : HX) (W : List Nat) : HX := (h.1, h.2.1, fun q => if q < h.1 ∧ q ∉ W then (h.2.2 q).map fun c => (false, c.2) else none)
def sv_ok (D : gx_D) (G : HX) (p : Option Nat) : Option RN → Prop
  | none => p = none
  | some R => ∃ r, p = some r ∧ hx_rn D G r R
def hs_ok (D : gx_D) (G : HX) (as : List Nat) (hs : List RN) : Prop := as.length = hs.length ∧ ∀ (k a : Nat) (R : RN), as[k]? = some a → hs[k]? = some R → hx_rn D G a R
def x_fs (op inp d r hi de fi qu ou : Nat) (p : Option Nat) (il ec eo fnd dl : Int32) : List Value := [.ref op, .ref inp, .int il, .int ec, .int eo, .ref d, .ref r, va_rf p, .ref hi, .ref de, .ref fi, .ref qu, .int fnd, .int dl, .ref ou]
def a_ok (A : AT) : Prop := df_ok A.1 ∧ rn_ok A.1 A.2.1 ∧ (∀ R, A.2.2.1 = some R → rn_ok A.1 R) ∧ (∀ R, R ∈ A.2.2.2.1 → rn_ok A.1 R) ∧ A.2.2.2.1.length ≤ 8 ∧ A.2.2.2.2.1.length ≤ 700 ∧ A.2.2.2.2.2.2.2.length ≤ 60
/-- the component at h; its definitions and runs lie in G -/
def cG (D : gx_D) (h G : HX) (Y : YT) (ov : Nat) (A : AT) : Prop := ∃ (op d r cap t : Nat) (p : Option Nat) (fnd dl : Int32) (fib : Nat → Int32) (as : List Nat) (gop : Nat → Option Nat),
  h.2.2 Y.1 = some (true, .inr (9, x_fs op Y.2.1 d r Y.2.2.1 Y.2.2.2.2.1 Y.2.2.2.2.2.1 Y.2.2.2.2.2.2.1 Y.2.2.2.2.2.2.2.1 p (nI A.2.2.2.2.1.length) A.2.2.2.2.2.1 A.2.2.2.2.2.2.1 fnd dl)) ∧
  (hx_or G op t 6 gop ∧ 4 ≤ t ∧ ∀ k, k < 6 → gop k = some (D.2.2.1 (100 + k))) ∧
  (h.2.2 Y.2.1 = some (true, .inl (1, 700, .inl fib)) ∧ ∀ (k b : Nat), A.2.2.2.2.1[k]? = some b → fib k = (nI b).toInt8.toInt32 ∧ b < 256) ∧
  (dq h Y.2.2.1 Y.2.2.2.1 as ∧ hs_ok D G as A.2.2.2.1) ∧
  ((∃ f, h.2.2 Y.2.2.2.2.1 = some (true, .inl (0, 10000, .inl f))) ∧ (∃ f, h.2.2 Y.2.2.2.2.2.1 = some (true, .inl (0, 10000, .inl f))) ∧ ∃ f, h.2.2 Y.2.2.2.2.2.2.1 = some (true, .inl (0, 10000, .inl f))) ∧
  hx_sb8 h Y.2.2.2.2.2.2.2.1 ov cap A.2.2.2.2.2.2.2 ∧ (∃ f, h.2.2 Y.2.2.2.2.2.2.2.2 = some (true, .inl (2, 1, .inr (.inl f)))) ∧
  (Y.2.1 ≠ ov ∧ Y.2.2.2.2.1 ≠ Y.2.2.2.2.2.1 ∧ Y.2.2.2.2.1 ≠ Y.2.2.2.2.2.2.1 ∧ Y.2.2.2.2.2.1 ≠ Y.2.2.2.2.2.2.1) ∧
  hx_df D G d A.1 ∧ hx_rn D G r A.2.1 ∧ sv_ok D G p A.2.2.1
/-- behind a call -/
def cE (D : gx_D) (h : HX) (Y : YT) (A : AT) : Prop := ∃ ov, hx_wf h ∧ cG D h (hzw h (W_ Y ov)) Y ov A
/-- ahead of a call -/
def cI (D : gx_D) (h : HX) (Y : YT) (A : AT) : Prop := ∃ ov, hx_wf h ∧ cG D h (hzf h) Y ov A ∧ a_ok A ∧ gx_apt D ∧ gx_apt2 D
theorem hs_ok.sub {D : gx_D} {G G' : HX} {as : List Nat} {hs : List RN} (s : hx_sub G G') (H : hs_ok D G as hs) : hs_ok D G' as hs := ⟨H.1, fun k a R h1 h2 => (H.2 k a R h1 h2).sub s⟩
theorem sv_ok.sub {D : gx_D} {G G' : HX} {p : Option Nat} {sv : Option RN} (s : hx_sub G G') (H : sv_ok D G p sv) : sv_ok D G' p sv := by
  cases sv with
  | none => exact H
  | some R =>
    obtain ⟨r, h1, h2⟩ := H
    exact ⟨r, h1, h2.sub s⟩
theorem cG.sub {D : gx_D} {h G G' : HX} {Y : YT} {ov : Nat} {A : AT} (s : hx_sub G G') (H : cG D h G Y ov A) : cG D h G' Y ov A := by
  obtain ⟨op, d, r, cap, t, p, fnd, dl, fib, as, gop, h1, ⟨h2, h2'⟩, h3, ⟨h4, h5⟩, h6, h7, h8, h9, h10, h11, h12⟩ := H
  exact ⟨op, d, r, cap, t, p, fnd, dl, fib, as, gop, h1, ⟨h2.sub s, h2'⟩, h3, ⟨h4, h5.sub s⟩, h6, h7, h8, h9, h10.sub s, h11.sub s, h12.sub s⟩
/-- every cell that may be written is flagged so -/
theorem cG.W {D : gx_D} {h G : HX} {Y : YT} {ov : Nat} {A : AT} (H : cG D h G Y ov A) : ∀ z, z ∈ W_ Y ov → ∃ e, h.2.2 z = some (true, e) := by
  obtain ⟨op, d, r, cap, t, p, fnd, dl, fib, as, gop, h1, h2, ⟨h3, _⟩, ⟨⟨_, hd, g, h4, h4', _⟩, h5⟩, ⟨⟨_, h6⟩, ⟨_, h6'⟩, ⟨_, h6''⟩⟩, ⟨ml, fo, h7, h7', _⟩, ⟨_, h8⟩, _⟩ := H
  intro z hz
  simp only [W_, List.mem_cons, List.not_mem_nil, or_false] at hz
  rcases hz with e | e | e | e | e | e | e | e | e | e <;> rw [e] <;> exact ⟨_, by assumption⟩
theorem hzf_hzw {h h1 : HX} {W : List Nat} (l : h.1 ≤ h1.1) (hW : ∀ z, z ∈ W → z < h.1 → ∃ e, h.2.2 z = some (true, e)) (k : ∀ z c, z < h.1 → z ∉ W → h.2.2 z = some c → h1.2.2 z = some c) : hx_sub (hzf h) (hzw h1 W) := by
  intro z c e
  obtain ⟨c1, c2, c3⟩ := hzf_eq e
  obtain ⟨b, x⟩ := c
  simp only at c2
  subst c2
  have nW : z ∉ W := fun hz => by
    obtain ⟨e, he⟩ := hW z hz c1
    rw [c3] at he
    cases he
  show (if z < h1.1 ∧ z ∉ W then (h1.2.2 z).map fun c => (false, c.2) else none) = _
  rw [if_pos ⟨by omega, nW⟩, k z _ c1 nW c3]
  rfl
/-- the loop freezes -/
theorem law_fz_at {h : HX} {v1 v3 : Option Nat} {z : Nat} : (law_fz h v1 v3).2.2 z = match h.2.2 z with
  | some (b, e) => some (b && !law_F h v1 v3 z, e)
  | none => none := rfl
theorem law_W_of {D : gx_D} {h G : HX} {Y : YT} {ov : Nat} {A : AT} (H : cG D h G Y ov A) : law_W h Y.1 Y.2.2.2.2.2.2.2.2 = W_ Y ov := by
  obtain ⟨op, d, r, cap, t, p, fnd, dl, fib, as, gop, h1, h2, ⟨h3, _⟩, ⟨⟨_, hd, g, h4, h4', _⟩, h5⟩, h6, ⟨ml, fo, h7, h7', _⟩, _⟩ := H
  have e : ∀ k a, (x_fs op Y.2.1 d r Y.2.2.1 Y.2.2.2.2.1 Y.2.2.2.2.2.1 Y.2.2.2.2.2.2.1 Y.2.2.2.2.2.2.2.1 p (nI A.2.2.2.2.1.length) A.2.2.2.2.2.1 A.2.2.2.2.2.2.1 fnd dl)[k]? = some (.ref a) → law_ref h Y.1 k = a := fun k a hk => by
    unfold law_ref
    rw [h1]
    simp only
    rw [hk]
  have e1 := e 1 _ rfl
  have e8 := e 8 _ rfl
  have e9 := e 9 _ rfl
  have e10 := e 10 _ rfl
  have e11 := e 11 _ rfl
  have e14 := e 14 _ rfl
  have f1 : law_ref h Y.2.2.1 0 = Y.2.2.2.1 := by
    unfold law_ref
    rw [h4]
    rfl
  have f2 : law_ref h Y.2.2.2.2.2.2.2.1 0 = ov := by
    unfold law_ref
    rw [h7]
    rfl
  unfold law_W W_
  rw [e1, e8, e9, e10, e11, e14, f1, f2]
theorem cE.fz {D : gx_D} {h : HX} {Y : YT} {A : AT} (H : cE D h Y A) (hA : a_ok A) (h1 : gx_apt D) (h2 : gx_apt2 D) : cI D (law_fz h (some Y.1) (some Y.2.2.2.2.2.2.2.2)) Y A := by
  obtain ⟨ov, w, H⟩ := H
  have eW := law_W_of H
  have F : ∀ z, law_F h (some Y.1) (some Y.2.2.2.2.2.2.2.2) z = !decide (z ∈ W_ Y ov) := fun z => by
    show (!decide (z ∈ law_W h Y.1 Y.2.2.2.2.2.2.2.2)) = _
    rw [eW]
  have inW : ∀ z e, z ∈ W_ Y ov → h.2.2 z = some (true, e) → (law_fz h (some Y.1) (some Y.2.2.2.2.2.2.2.2)).2.2 z = some (true, e) := fun z e hz he => by
    rw [law_fz_at, he, F, decide_eq_true hz]
    rfl
  have sub : hx_sub (hzw h (W_ Y ov)) (hzf (law_fz h (some Y.1) (some Y.2.2.2.2.2.2.2.2))) := by
    intro z c e
    have e : (if z < h.1 ∧ z ∉ W_ Y ov then (h.2.2 z).map fun c => (false, c.2) else none) = some c := e
    by_cases c1 : z < h.1 ∧ z ∉ W_ Y ov
    · rw [if_pos c1] at e
      cases e2 : h.2.2 z with
      | none => rw [e2] at e; cases e
      | some v =>
        rw [e2] at e
        cases e
        refine hzf_of c1.1 ?_
        rw [law_fz_at, e2, F, decide_eq_false c1.2]
        obtain ⟨b, x⟩ := v
        cases b <;> rfl
    · rw [if_neg c1] at e
      cases e
  refine ⟨ov, fun q hq => ?_, ?_, hA, h1, h2⟩
  · rw [law_fz_at, w q hq]
  · refine cG.sub sub ?_
    obtain ⟨op, d, r, cap, t, p, fnd, dl, fib, as, gop, k1, k2, ⟨k3, k3'⟩, ⟨⟨ne, hd, g, k4, k4', k4''⟩, k5⟩, ⟨⟨f1, k6⟩, ⟨f2, k6'⟩, ⟨f3, k6''⟩⟩, ⟨ml, fo, k7, k7', k7''⟩, ⟨f4, k8⟩, k9⟩ := H
    exact ⟨op, d, r, cap, t, p, fnd, dl, fib, as, gop, inW _ _ (by simp [W_]) k1, k2, ⟨inW _ _ (by simp [W_]) k3, k3'⟩, ⟨⟨ne, hd, g, inW _ _ (by simp [W_]) k4, inW _ _ (by simp [W_]) k4', k4''⟩, k5⟩, ⟨⟨f1, inW _ _ (by simp [W_]) k6⟩, ⟨f2, inW _ _ (by simp [W_]) k6'⟩, ⟨f3, inW _ _ (by simp [W_]) k6''⟩⟩, ⟨ml, fo, inW _ _ (by simp [W_]) k7, inW _ _ (by simp [W_]) k7', k7''⟩, ⟨f4, inW _ _ (by simp [W_]) k8⟩, k9⟩
/-- the component's cells stay, all but those of a search -/
theorem cI.mx {D : gx_D} {h : HX} {Y : YT} {A : AT} (H : cI D h Y A) : ∃ (op d r : Nat) (p : Option Nat) (fnd dl : Int32), cs_mx D h Y.1 Y.2.2.2.2.1 Y.2.2.2.2.2.1 Y.2.2.2.2.2.2.1 (x_fs op Y.2.1 d r Y.2.2.1 Y.2.2.2.2.1 Y.2.2.2.2.2.1 Y.2.2.2.2.2.2.1 Y.2.2.2.2.2.2.2.1 p (nI A.2.2.2.2.1.length) A.2.2.2.2.2.1 A.2.2.2.2.2.2.1 fnd dl) A.1 A.2.1 := by
  obtain ⟨ov, w, ⟨op, d, r, cap, t, p, fnd, dl, fib, as, gop, h1, h2, h3, h4, ⟨⟨f1, h6⟩, ⟨f2, h6'⟩, ⟨f3, h6''⟩⟩, h7, h8, ⟨h9, n1, n2, n3⟩, h10, h11, h12⟩, hA, ap1, ap2⟩ := H
  exact ⟨op, d, r, p, fnd, dl, h1, rfl, ⟨rfl, rfl, rfl⟩, ⟨d, r, rfl, rfl, h10, h11⟩, ⟨⟨f1, h6⟩, ⟨f2, h6'⟩, ⟨f3, h6''⟩⟩, ⟨w.lt h1, w.lt h6, w.lt h6', w.lt h6'', n1, n2, n3⟩, hA.1, ap1, ap2, hA.2.1.2.2.1⟩
theorem cI.vm {D : gx_D} {h : HX} {Y : YT} {A : AT} (H : cI D h Y A) : hx_vm D h Y.1 A.1 A.2.1 := by
  obtain ⟨op, d, r, p, fnd, dl, hx, hl, _, ⟨d', r', f5, f6, h1, h2⟩, _⟩ := H.mx
  exact ⟨d', r', _, hx_ob.mk hx, f5, f6, h1.sub hzf_sub, h2.sub hzf_sub⟩
/-- nothing old has changed -/
theorem cI.same {D : gx_D} {h h1 : HX} {Y : YT} {A : AT} (H : cI D h Y A) (l : h.1 ≤ h1.1) (w1 : hx_wf h1) (k : ∀ z, z < h.1 → h1.2.2 z = h.2.2 z) : cE D h1 Y A := by
  obtain ⟨ov, w, H, hA, ap1, ap2⟩ := H
  have hW := H.W
  have sub : hx_sub (hzf h) (hzw h1 (W_ Y ov)) := hzf_hzw l (fun z hz _ => hW z hz) (fun z c hz _ he => by rw [k z hz, he])
  refine ⟨ov, w1, cG.sub sub ?_⟩
  have tr : ∀ z c, h.2.2 z = some c → h1.2.2 z = some c := fun z c he => by rw [k z (w.lt he), he]
  obtain ⟨op, d, r, cap, t, p, fnd, dl, fib, as, gop, k1, k2, ⟨k3, k3'⟩, ⟨⟨ne, hd, g, k4, k4', k4''⟩, k5⟩, ⟨⟨f1, k6⟩, ⟨f2, k6'⟩, ⟨f3, k6''⟩⟩, ⟨ml, fo, k7, k7', k7''⟩, ⟨f4, k8⟩, k9⟩ := H
  exact ⟨op, d, r, cap, t, p, fnd, dl, fib, as, gop, tr _ _ k1, k2, ⟨tr _ _ k3, k3'⟩, ⟨⟨ne, hd, g, tr _ _ k4, tr _ _ k4', k4''⟩, k5⟩, ⟨⟨f1, tr _ _ k6⟩, ⟨f2, tr _ _ k6'⟩, ⟨f3, tr _ _ k6''⟩⟩, ⟨ml, fo, tr _ _ k7, tr _ _ k7', k7''⟩, ⟨f4, tr _ _ k8⟩, k9⟩
theorem cI.skip {D : gx_D} {h : HX} {Y : YT} {A : AT} {k n : Nat} (H : cI D h Y A) : cE D (hx_skip h k n) Y A := H.same (Nat.le_add_right _ _) (fun q hq => by
  show (if q < h.1 then h.2.2 q else none) = none
  have : h.1 + k ≤ q := hq
  rw [if_neg (by omega)]) (fun z hz => by
  show (if z < h.1 then h.2.2 z else none) = _
  rw [if_pos hz])
theorem cI.E {D : gx_D} {h : HX} {Y : YT} {A : AT} (H : cI D h Y A) : cE D h Y A := H.same (Nat.le_refl _) H.choose_spec.1 fun _ _ => rfl
/-- behind a search -/
theorem cI.srch {D : gx_D} {h h1 : HX} {Y : YT} {A : AT} {op d r : Nat} {p : Option Nat} {fnd dl fnd' dl' : Int32} {kc ks : Nat} (H : cI D h Y A) (w1 : hx_wf h1)
    (P : cs_post h h1 Y.1 Y.2.2.2.2.1 Y.2.2.2.2.2.1 Y.2.2.2.2.2.2.1 (x_fs op Y.2.1 d r Y.2.2.1 Y.2.2.2.2.1 Y.2.2.2.2.2.1 Y.2.2.2.2.2.2.1 Y.2.2.2.2.2.2.2.1 p (nI A.2.2.2.2.1.length) A.2.2.2.2.2.1 A.2.2.2.2.2.2.1 fnd dl) fnd' dl' kc ks)
    (hfs : h.2.2 Y.1 = some (true, .inr (9, x_fs op Y.2.1 d r Y.2.2.1 Y.2.2.2.2.1 Y.2.2.2.2.2.1 Y.2.2.2.2.2.2.1 Y.2.2.2.2.2.2.2.1 p (nI A.2.2.2.2.1.length) A.2.2.2.2.2.1 A.2.2.2.2.2.2.1 fnd dl))) : cE D h1 Y A := by
  obtain ⟨ov, w, H, hA, ap1, ap2⟩ := H
  have hW := H.W
  obtain ⟨⟨p1, p2, p3, p4⟩, q1, q2, q3⟩ := P
  have sub : hx_sub (hzf h) (hzw h1 (W_ Y ov)) := hzf_hzw p1 (fun z hz _ => hW z hz) (fun z c hz hn he => by
    simp only [W_, List.mem_cons, List.not_mem_nil, or_false, not_or] at hn
    rw [q1 z hz hn.1 hn.2.2.2.2.1 hn.2.2.2.2.2.1 hn.2.2.2.2.2.2.1, he])
  refine ⟨ov, w1, cG.sub sub ?_⟩
  obtain ⟨op', d', r', cap, t, p', fnd0, dl0, fib, as, gop, k1, k2, ⟨k3, k3'⟩, ⟨⟨ne, hd, g, k4, k4', k4''⟩, k5⟩, ⟨⟨f1, k6⟩, ⟨f2, k6'⟩, ⟨f3, k6''⟩⟩, ⟨ml, fo, k7, k7', k7''⟩, ⟨f4, k8⟩, k9, k10⟩ := H
  have efs : x_fs op' Y.2.1 d' r' Y.2.2.1 Y.2.2.2.2.1 Y.2.2.2.2.2.1 Y.2.2.2.2.2.2.1 Y.2.2.2.2.2.2.2.1 p' (nI A.2.2.2.2.1.length) A.2.2.2.2.2.1 A.2.2.2.2.2.2.1 fnd0 dl0 = x_fs op Y.2.1 d r Y.2.2.1 Y.2.2.2.2.1 Y.2.2.2.2.2.1 Y.2.2.2.2.2.2.1 Y.2.2.2.2.2.2.2.1 p (nI A.2.2.2.2.1.length) A.2.2.2.2.2.1 A.2.2.2.2.2.2.1 fnd dl := by
    rw [k1] at hfs
    have := Option.some.inj hfs
    simp only [Prod.mk.injEq, Sum.inr.injEq, true_and] at this
    exact this
  have tr : ∀ z e, h.2.2 z = some (true, e) → (∀ v, h.2.2 Y.1 = some (true, v) → e ≠ v) → (∀ f, e ≠ .inl (0, 10000, .inl f)) → h1.2.2 z = some (true, e) := fun z e he n1 n2 => by
    rw [q1 z (w.lt he) (fun c => by rw [c, k1] at he; exact n1 _ k1 (by cases he; rfl)) (fun c => by rw [c, k6] at he; cases he; exact n2 _ rfl) (fun c => by rw [c, k6'] at he; cases he; exact n2 _ rfl) (fun c => by rw [c, k6''] at he; cases he; exact n2 _ rfl), he]
  have ex : cs_x (x_fs op Y.2.1 d r Y.2.2.1 Y.2.2.2.2.1 Y.2.2.2.2.2.1 Y.2.2.2.2.2.2.1 Y.2.2.2.2.2.2.2.1 p (nI A.2.2.2.2.1.length) A.2.2.2.2.2.1 A.2.2.2.2.2.2.1 fnd dl) fnd' dl' = x_fs op Y.2.1 d r Y.2.2.1 Y.2.2.2.2.1 Y.2.2.2.2.2.1 Y.2.2.2.2.2.2.1 Y.2.2.2.2.2.2.2.1 p (nI A.2.2.2.2.1.length) A.2.2.2.2.2.1 A.2.2.2.2.2.2.1 fnd' dl' := rfl
  rw [ex] at q2
  simp only [x_fs, List.cons.injEq, Value.ref.injEq] at efs
  obtain ⟨e1, _, _, _, _, e2, e3, e4, _⟩ := efs
  have ep : p' = p := by
    cases p' <;> cases p <;> simp [va_rf] at e4
    · rfl
    · rw [e4]
  subst e1 e2 e3 ep
  refine ⟨op', d', r', cap, t, p', fnd', dl', fib, as, gop, q2, k2, ⟨tr _ _ k3 (fun v hv => ?_) (fun f hf => by cases hf), k3'⟩, ⟨⟨ne, hd, g, tr _ _ k4 (fun v hv => ?_) (fun f hf => by cases hf), tr _ _ k4' (fun v hv => ?_) (fun f hf => by cases hf), k4''⟩, k5⟩, q3, ⟨ml, fo, tr _ _ k7 (fun v hv => ?_) (fun f hf => by cases hf), tr _ _ k7' (fun v hv => ?_) (fun f hf => by cases hf), k7''⟩, ⟨f4, tr _ _ k8 (fun v hv => ?_) (fun f hf => by cases hf)⟩, k9, k10⟩ <;> (rw [k1] at hv; cases hv; intro hc; cases hc)
