/-! the component's runScript -/
set_option maxRecDepth 100000
set_option linter.unusedSimpArgs false
section CRN
variable {D : gx_D} {h9 hb : HX} {Y : YT} {A : AT} {a ca : Nat} {cs : List CMD}
/-- a run in its block, some commands done -/
def RZ (D : gx_D) (h9 hb : HX) (j : Nat) (R : RN) (z : HX) : Prop := ∃ (mc : Int32) (fe : Nat → Option Nat) (f1 f2 f3 f4 f5 : Nat → Int32) (tl : List gx_E) (s : Nat), z = hx_ap h9.1 hb (rnB h9.1 mc R.iv.length fe f1 f2 f3 f4 f5 (nI (cf_c R.cf)) R.ac (nI R.tr.length) ++ tl) s ∧ rnC D (hzf h9) R fe f1 f2 f3 f4 f5 ∧ tl.length ≤ 1 + j ∧ s ≤ 107 + 3 * j
/-- what the loop reads: the parser, the commands -/
def RP (h9 hb : HX) (x a ca : Nat) (cs : List CMD) : Prop := (∃ fl pf, h9.2.2 a = some (fl, .inr (18, pf)) ∧ pf[6]? = some (.ref ca) ∧ pf[7]? = some (.int (nI cs.length)) ∧ pf[8]? = some (.ref x)) ∧ CA h9 a ca cs ∧ ∀ z c, h9.2.2 z = some c → (∃ fl ci fs, c = (fl, .inr (ci, fs)) ∧ ci ∈ [18, 19, 20, 21, 22]) ∨ (∃ fl m f, c = (fl, .inl (6, m, f))) → z < h9.1 ∧ hb.2.2 z = h9.2.2 z
theorem RP.at {x : Nat} {B : List gx_E} {s : Nat} (P : RP h9 hb x a ca cs) : (hx_gr (hx_ap h9.1 hb B s) a [18] 6 = some (some ca) ∧ hx_gi (hx_ap h9.1 hb B s) a [18] 7 = some (nI cs.length) ∧ hx_gr (hx_ap h9.1 hb B s) a [18] 8 = some (some x)) ∧ ∀ k c, cs[k]? = some c → ∃ b, hx_ar (hx_ap h9.1 hb B s) ca (nI k) = some (some b) ∧ cmdO h9 a b c ∧ ∀ B s, cmdO (hx_ap h9.1 hb B s) a b c := by
  obtain ⟨⟨fl, pf, p1, p2, p3, p4⟩, ⟨f, c1, c2, c3⟩, pr⟩ := P
  obtain ⟨l1, e1⟩ := pr a _ p1 (Or.inl ⟨_, _, _, rfl, by decide⟩)
  obtain ⟨l2, e2⟩ := pr ca _ c1 (Or.inr ⟨_, _, _, rfl⟩)
  have o : hx_ob (hx_ap h9.1 hb B s) a 18 pf := ⟨fl, (ap_old l1).trans (e1.trans p1)⟩
  have oa : hx_or (hx_ap h9.1 hb B s) ca 6 30 f := ⟨true, (ap_old l2).trans (e2.trans c1)⟩
  refine ⟨⟨o.gr (by decide) (r := some ca) p2, o.gi (by decide) p3, o.gr (by decide) (r := some x) p4⟩, fun k c hk => ?_⟩
  obtain ⟨b, b1, b2⟩ := c3 k c hk
  have hkl := (List.getElem?_eq_some_iff.1 hk).1
  refine ⟨b, by rw [oa.ar (by decide) (by omega) (by decide), b1], b2, fun B s => ?_⟩
  obtain ⟨fl', ci, fs, e3, m⟩ := b2.ci
  obtain ⟨l3, e4⟩ := pr b _ e3 (Or.inl ⟨_, _, _, rfl, List.mem_cons_of_mem _ m⟩)
  exact b2.mov ((ap_old l3).trans e4)
theorem c_exec {x : Nat} {c : CMD} {b j k : Nat} {R : RN} {z : HX} (hx : x = Y.1) (hap : gx_apt D) (hne : gx_apt2 D) (G : chg D h9 hb Y A) (hA : df_ok A.1) (hR : rn_ok A.1 R) (P : RP h9 hb x a ca cs) (hk : cs[k]? = some c) (hb' : ∀ B s, cmdO (hx_ap h9.1 hb B s) a b c) (hc : cmd_ok A.1 c) (Z : RZ D h9 hb j R z) :
    ∃ z', (match doC A.1 R c with
      | some R' => RZ D h9 hb (j + 1) R' z' ∧ ∀ {γ : Type} (K : HX → Bool → Option γ), (if hx_isb z b [19] = true then gx_b2 (f_X15_execute D z b) fun b13 h14 => K h14 b13 else if hx_isb z b [20] = true then gx_b2 (f_X16_execute D z b) fun b18 h19 => K h19 b18 else if hx_isb z b [21] = true then gx_b2 (f_X17_execute D z b) fun b22 h23 => K h23 b22 else if hx_isb z b [22] = true then gx_b2 (f_X18_execute D z b) fun b26 h27 => K h27 b26 else none) = K z' true
      | none => z' = z ∧ ∀ {γ : Type} (K : HX → Bool → Option γ), (if hx_isb z b [19] = true then gx_b2 (f_X15_execute D z b) fun b13 h14 => K h14 b13 else if hx_isb z b [20] = true then gx_b2 (f_X16_execute D z b) fun b18 h19 => K h19 b18 else if hx_isb z b [21] = true then gx_b2 (f_X17_execute D z b) fun b22 h23 => K h23 b22 else if hx_isb z b [22] = true then gx_b2 (f_X18_execute D z b) fun b26 h27 => K h27 b26 else none) = K z false) := by
  subst hx
  obtain ⟨mc, fe, f1, f2, f3, f4, f5, tl, s, hz, C, lt, ls⟩ := Z
  have hq := hR.2.2.1
  have vm := G.vm (mc := mc) (tl := tl) (s := s) C
  obtain ⟨dd, GX⟩ := G.x
  have P8 : ∀ B s, hx_gr (hx_ap h9.1 hb B s) a [18] 8 = some (some Y.1) := fun B s => P.at.1.2.2
  have wz : hx_wf z := by rw [hz]; exact ap_wf
  obtain ⟨c1, u, v⟩ := c
  rcases hc with ⟨rfl, h1⟩ | ⟨rfl, h1, h2⟩ | rfl | rfl
  · -- fire
    have h1 : u < A.1.en.length := h1
    have hb' : ∀ B s, hx_ob (hx_ap h9.1 hb B s) b 19 [.int (nI u), .ref a] := hb'
    have ob := hb' (rnB h9.1 mc R.iv.length fe f1 f2 f3 f4 f5 (nI (cf_c R.cf)) R.ac (nI R.tr.length) ++ tl) s
    rw [← hz] at ob vm
    have e8 := hA.2.1.2
    obtain ⟨s3, l3, oc⟩ := c_outcome (e := u) wz hap hne vm hA.trs hq (by omega)
    obtain ⟨o, ho⟩ : ∃ o, o = z.1 := ⟨_, rfl⟩
    have zl : z.1 = h9.1 + (rnB h9.1 mc R.iv.length fe f1 f2 f3 f4 f5 (nI (cf_c R.cf)) R.ac (nI R.tr.length) ++ tl).length := by rw [hz]; rfl
    have e8' : hx_ap z.1 z [ocE A.1 R u] s3 = hx_ap h9.1 hb (rnB h9.1 mc R.iv.length fe f1 f2 f3 f4 f5 (nI (cf_c R.cf)) R.ac (nI R.tr.length) ++ (tl ++ [ocE A.1 R u])) (s + s3) := by
      rw [zl]
      rw [hz, ap_ap, List.append_assoc]
    rw [e8'] at oc
    have hoc : ∀ (li : Nat) fe' f1 f2 f3 f4 f5 cf ac t s', ∀ ci fs, ocE A.1 R u = .inr (ci, fs) → hx_ob (hx_ap h9.1 hb (rnB h9.1 mc li fe' f1 f2 f3 f4 f5 cf ac t ++ (tl ++ [ocE A.1 R u])) s') z.1 ci fs := fun li fe' f1 f2 f3 f4 f5 cf ac t s' ci fs hh => by
      refine ⟨true, ?_⟩
      have : z.1 = h9.1 + (8 + tl.length) := by rw [zl, List.length_append]; rfl
      rw [this, ap_at, ← List.append_assoc, List.getElem?_append_right (by rw [List.length_append]; show 8 + _ ≤ _; omega), List.length_append]
      show Option.map _ ([ocE A.1 R u][8 + tl.length - (8 + tl.length)]?) = _
      rw [Nat.sub_self, ← hh]
      rfl
    have d1 : doC A.1 R (1, u, v) = some (rnFire A.1 R u) := rfl
    rw [d1]
    have pre : ∀ {γ : Type} (K : HX → Bool → Option γ), (if hx_isb z b [19] = true then gx_b2 (f_X15_execute D z b) fun b13 h14 => K h14 b13 else if hx_isb z b [20] = true then gx_b2 (f_X16_execute D z b) fun b18 h19 => K h19 b18 else if hx_isb z b [21] = true then gx_b2 (f_X17_execute D z b) fun b22 h23 => K h23 b22 else if hx_isb z b [22] = true then gx_b2 (f_X18_execute D z b) fun b26 h27 => K h27 b26 else none) = gx_b2 (f_X15_execute D z b) fun b13 h14 => K h14 b13 := fun K => by
      rw [hx_isb_ob ob, if_pos (by decide)]
    have ex : f_X15_execute D z b = if hx_isb (hx_ap h9.1 hb (rnB h9.1 mc R.iv.length fe f1 f2 f3 f4 f5 (nI (cf_c R.cf)) R.ac (nI R.tr.length) ++ (tl ++ [ocE A.1 R u])) (s + s3)) z.1 [23] = true then (f_X19_applyTo D (hx_ap h9.1 hb (rnB h9.1 mc R.iv.length fe f1 f2 f3 f4 f5 (nI (cf_c R.cf)) R.ac (nI R.tr.length) ++ (tl ++ [ocE A.1 R u])) (s + s3)) z.1 (some h9.1)).bind fun h17 => some (true, h17) else if hx_isb (hx_ap h9.1 hb (rnB h9.1 mc R.iv.length fe f1 f2 f3 f4 f5 (nI (cf_c R.cf)) R.ac (nI R.tr.length) ++ (tl ++ [ocE A.1 R u])) (s + s3)) z.1 [24] = true then (f_X20_applyTo D (hx_ap h9.1 hb (rnB h9.1 mc R.iv.length fe f1 f2 f3 f4 f5 (nI (cf_c R.cf)) R.ac (nI R.tr.length) ++ (tl ++ [ocE A.1 R u])) (s + s3)) z.1 (some h9.1)).bind fun h20 => some (true, h20) else none := by
      unfold f_X15_execute
      have p8 := P8 (rnB h9.1 mc R.iv.length fe f1 f2 f3 f4 f5 (nI (cf_c R.cf)) R.ac (nI R.tr.length) ++ tl) s
      rw [← hz] at p8
      rw [ob.is (by decide), Option.bind_some, ob.gr (by decide) (k := 1) (r := some a) rfl, Option.bind_some, Option.bind_some, p8, Option.bind_some, ob.gi (by decide) (k := 0) (x := nI u) rfl, Option.bind_some, Option.bind_some, oc, pl_b2_s, (hb' _ _).gr (by decide) (k := 1) (r := some a) rfl, Option.bind_some, Option.bind_some, P8, Option.bind_some, Option.bind_some, (GX _ _).1, Option.bind_some, Option.bind_some]
    have nn := nxN_of (F := A.1) (R := R) (q := R.cf) (e := u)
    cases cc : nxN A.1.ts R.iv R.cf u with
    | none =>
      have o1 : ocE A.1 R u = .inr (23, [.int (nI (vdN A.1.ts R.iv R.cf u))]) := by
        unfold ocE
        rw [cc]
      have o2 : rnFire A.1 R u = rnRej R (vdN A.1.ts R.iv R.cf u) := by
        unfold rnFire
        rw [cc]
      obtain ⟨g3, a1, a2⟩ := c_applyR (tl := tl ++ [ocE A.1 R u]) (s := s + s3) (hb := hb) (n := h9.1) (mc := mc) (v := vdN A.1.ts R.iv R.cf u) C vdN_lt (hoc _ _ _ _ _ _ _ _ _ _ _ _ _ o1)
      refine ⟨_, ⟨mc, fe, f1, f2, g3, f4, f5, tl ++ [ocE A.1 R u], s + s3, by rw [o2], by rw [o2]; exact a2, by rw [List.length_append, List.length_singleton]; omega, by omega⟩, fun K => ?_⟩
      rw [pre, ex, hx_isb_ob (hoc _ _ _ _ _ _ _ _ _ _ _ _ _ o1), if_pos (by decide), a1, Option.bind_some, pl_b2_s]
    | some q =>
      obtain ⟨t1, k', t2⟩ := toN_of cc
      have o1 : ocE A.1 R u = .inr (24, [.int (nI u), .int (nI k'), .int (nI (cf_c q))]) := by unfold ocE; rw [cc, t2]
      have o2 : rnFire A.1 R u = rnAcc R q u k' := by unfold rnFire; rw [cc, t2]
      have kl := chN_lt t2
      obtain ⟨g1, g2, g4, g5, a1, a2⟩ := c_applyA (tl := tl ++ [ocE A.1 R u]) (s := s + s3) (hb := hb) (n := h9.1) (mc := mc) (e := u) (k := k') (q := q) C (nxN_ok hA.trs hq cc) (by have := hA.2.2.2.1; omega) hR.2.2.2.2.2.2.2 (fun _ _ _ _ _ _ _ _ => hoc _ _ _ _ _ _ _ _ _ _ _ _ _ o1)
      refine ⟨_, ⟨mc, fe, g1, g2, f3, g4, g5, tl ++ [ocE A.1 R u], s + s3, by rw [o2], by rw [o2]; exact a2, by rw [List.length_append, List.length_singleton]; omega, by omega⟩, fun K => ?_⟩
      rw [pre, ex, hx_isb_ob (hoc _ _ _ _ _ _ _ _ _ _ _ _ _ o1), if_neg (by decide), hx_isb_ob (hoc _ _ _ _ _ _ _ _ _ _ _ _ _ o1), if_pos (by decide), a1, Option.bind_some, pl_b2_s]
  · -- set
    have h1 : u < A.1.vn.length := h1
    have h2 : v < 10 := h2
    have hb' : ∀ B s, hx_ob (hx_ap h9.1 hb B s) b 20 [.int (nI u), .int (nI v), .ref a] := hb'
    have ob := hb' (rnB h9.1 mc R.iv.length fe f1 f2 f3 f4 f5 (nI (cf_c R.cf)) R.ac (nI R.tr.length) ++ tl) s
    have p8 := P8 (rnB h9.1 mc R.iv.length fe f1 f2 f3 f4 f5 (nI (cf_c R.cf)) R.ac (nI R.tr.length) ++ tl) s
    have u3 : u < 3 := by have := hA.2.2.1.2; omega
    have cs0 := (c_canSet hap vm hq u3 h2).1
    obtain ⟨t1, t2⟩ := c_set (mc := mc) (tl := tl) (s := s) hap G C hq u3 h2
    rw [← hz] at ob p8 cs0 t1
    have pre : ∀ {γ : Type} (K : HX → Bool → Option γ), (if hx_isb z b [19] = true then gx_b2 (f_X15_execute D z b) fun b13 h14 => K h14 b13 else if hx_isb z b [20] = true then gx_b2 (f_X16_execute D z b) fun b18 h19 => K h19 b18 else if hx_isb z b [21] = true then gx_b2 (f_X17_execute D z b) fun b22 h23 => K h23 b22 else if hx_isb z b [22] = true then gx_b2 (f_X18_execute D z b) fun b26 h27 => K h27 b26 else none) = gx_b2 (f_X16_execute D z b) fun b13 h14 => K h14 b13 := fun K => by
      rw [hx_isb_ob ob, if_neg (by decide), hx_isb_ob ob, if_pos (by decide)]
    have d1 : doC A.1 R (2, u, v) = if (brk R.iv (cf_set R.cf u v)).isNone = true then some (rnSet R u v) else none := rfl
    rw [d1]
    by_cases cb : (brk R.iv (cf_set R.cf u v)).isNone = true
    · rw [if_pos cb]
      rw [cb] at cs0
      refine ⟨_, ⟨mc, fe, f1, f2, f3, f4, f5, tl, s, rfl, t2, by omega, by omega⟩, fun K => ?_⟩
      have cv := cf_val_lt hq u
      rw [pre]
      unfold f_X16_execute
      rw [ob.is (by decide), Option.bind_some, ob.gr (by decide) (k := 2) (r := some a) rfl, Option.bind_some, Option.bind_some, p8, Option.bind_some, ob.gi (by decide) (k := 0) (x := nI u) rfl, Option.bind_some, ob.gi (by decide) (k := 1) (x := nI v) rfl, Option.bind_some, Option.bind_some, cs0, Option.bind_some, if_pos rfl, Option.bind_some, Option.bind_some, p8, Option.bind_some, Option.bind_some, Option.bind_some, Option.bind_some, t1, pl_b2_s, if_neg (nI_pos (by omega)), pl_b2_s]
    · rw [if_neg cb]
      have cb' : (brk R.iv (cf_set R.cf u v)).isNone = false := by cases h : (brk R.iv (cf_set R.cf u v)).isNone with | true => exact absurd h cb | false => rfl
      rw [cb'] at cs0
      refine ⟨z, rfl, fun K => ?_⟩
      rw [pre]
      unfold f_X16_execute
      rw [ob.is (by decide), Option.bind_some, ob.gr (by decide) (k := 2) (r := some a) rfl, Option.bind_some, Option.bind_some, p8, Option.bind_some, ob.gi (by decide) (k := 0) (x := nI u) rfl, Option.bind_some, ob.gi (by decide) (k := 1) (x := nI v) rfl, Option.bind_some, Option.bind_some, cs0, Option.bind_some, if_neg Bool.false_ne_true, pl_b2_s]
  · -- reset
    have hb' : ∀ B s, hx_ob (hx_ap h9.1 hb B s) b 21 [.ref a] := hb'
    have ob := hb' (rnB h9.1 mc R.iv.length fe f1 f2 f3 f4 f5 (nI (cf_c R.cf)) R.ac (nI R.tr.length) ++ tl) s
    have p8 := P8 (rnB h9.1 mc R.iv.length fe f1 f2 f3 f4 f5 (nI (cf_c R.cf)) R.ac (nI R.tr.length) ++ tl) s
    obtain ⟨t1, t2⟩ := c_restart (mc := mc) (tl := tl) (s := s) G C hq
    rw [← hz] at ob p8 t1
    have q1 := hq.1
    refine ⟨_, ⟨mc, fe, f1, f2, f3, f4, f5, tl, s, rfl, t2, by omega, by omega⟩, fun K => ?_⟩
    rw [hx_isb_ob ob, if_neg (by decide), hx_isb_ob ob, if_neg (by decide), hx_isb_ob ob, if_pos (by decide)]
    unfold f_X17_execute
    rw [ob.is (by decide), Option.bind_some, ob.gr (by decide) (k := 0) (r := some a) rfl, Option.bind_some, Option.bind_some, p8, Option.bind_some, Option.bind_some, t1, pl_b2_s, if_neg (nI_pos (by omega)), pl_b2_s]
  · -- clear
    have hb' : ∀ B s, hx_ob (hx_ap h9.1 hb B s) b 22 [.ref a] := hb'
    have ob := hb' (rnB h9.1 mc R.iv.length fe f1 f2 f3 f4 f5 (nI (cf_c R.cf)) R.ac (nI R.tr.length) ++ tl) s
    have p8 := P8 (rnB h9.1 mc R.iv.length fe f1 f2 f3 f4 f5 (nI (cf_c R.cf)) R.ac (nI R.tr.length) ++ tl) s
    have g6 := (GX (rnB h9.1 mc R.iv.length fe f1 f2 f3 f4 f5 (nI (cf_c R.cf)) R.ac (nI R.tr.length) ++ tl) s).1
    obtain ⟨g1, g2, g3, k1, k2, k3, k4⟩ := c_clear (D := D) (h := hb) (n := h9.1) (li := R.iv.length) (s := s) (q := R.cf) (mc := mc) (ac := R.ac) (tr := nI R.tr.length) (fe := fe) (f1 := f1) (f2 := f2) (f3 := f3) (f4 := f4) (f5 := f5) (tl := tl) hq
    rw [← hz] at ob p8 k1 g6
    refine ⟨hx_ap h9.1 hb (rnB h9.1 mc (rnClr R).iv.length fe g1 g2 g3 f4 f5 (nI (cf_c (rnClr R).cf)) (rnClr R).ac (nI (rnClr R).tr.length) ++ tl) s, ⟨mc, fe, g1, g2, g3, f4, f5, tl, s, rfl, ⟨C.1, C.2.1, k2, k3, k4, fun k hk => absurd hk (Nat.not_lt_zero k)⟩, by omega, by omega⟩, fun K => ?_⟩
    rw [hx_isb_ob ob, if_neg (by decide), hx_isb_ob ob, if_neg (by decide), hx_isb_ob ob, if_neg (by decide), hx_isb_ob ob, if_pos (by decide)]
    unfold f_X18_execute
    rw [ob.is (by decide), Option.bind_some, ob.gr (by decide) (k := 0) (r := some a) rfl, Option.bind_some, Option.bind_some, p8, Option.bind_some, Option.bind_some, g6, Option.bind_some, Option.bind_some, k1, Option.bind_some, pl_b2_s]
    rfl
theorem c_runl (hap : gx_apt D) (hne : gx_apt2 D) (G : chg D h9 hb Y A) (hA : df_ok A.1) (P : RP h9 hb Y.1 a ca cs) (hc : ∀ c, c ∈ cs → cmd_ok A.1 c) (h30 : cs.length ≤ 30) : ∀ (l : List CMD) (j f : Nat) (R : RN) (z : HX), cs.drop j = l → j ≤ cs.length → rn_ok A.1 R → RZ D h9 hb j R z → l.length < f → ∃ z', f_X1_run_b7 D f z (some a) (nI j) = some (nI (j + (runC A.1 l R).1), z') ∧ RZ D h9 hb 30 (runC A.1 l R).2 z' ∧ rn_ok A.1 (runC A.1 l R).2 := by
  intro l
  induction l with
  | nil =>
    intro j f R z hl hj hR Z hf
    obtain ⟨f, rfl⟩ : ∃ g, f = g + 1 := ⟨f - 1, by omega⟩
    have ej : j = cs.length := by
      have := congrArg List.length hl
      rw [List.length_drop] at this
      have : cs.length - j = 0 := this
      omega
    obtain ⟨mc, fe, f1, f2, f3, f4, f5, tl, s, hz, C, lt, ls⟩ := id Z
    have p := (P.at (B := rnB h9.1 mc R.iv.length fe f1 f2 f3 f4 f5 (nI (cf_c R.cf)) R.ac (nI R.tr.length) ++ tl) (s := s)).1
    rw [← hz] at p
    refine ⟨z, ?_, ⟨mc, fe, f1, f2, f3, f4, f5, tl, s, hz, C, by omega, by omega⟩, hR⟩
    simp only [f_X1_run_b7, Option.bind_some, p.2.1, if_pos (nI_le (show cs.length ≤ j by omega) (show j < 2 ^ 31 by omega))]
    rfl
  | cons c l ih =>
    intro j f R z hl hj hR Z hf
    obtain ⟨f, rfl⟩ : ∃ g, f = g + 1 := ⟨f - 1, by omega⟩
    have hk : cs[j]? = some c := by
      have := congrArg (fun l => l[0]?) hl
      simpa using this
    have jl := (List.getElem?_eq_some_iff.1 hk).1
    have hl2 : cs.drop (j + 1) = l := by
      rw [← List.drop_drop, hl]
      rfl
    obtain ⟨mc, fe, f1, f2, f3, f4, f5, tl, s, hz, C, lt, ls⟩ := id Z
    obtain ⟨p, pk⟩ := P.at (B := rnB h9.1 mc R.iv.length fe f1 f2 f3 f4 f5 (nI (cf_c R.cf)) R.ac (nI R.tr.length) ++ tl) (s := s)
    obtain ⟨b, b1, b2, b3⟩ := pk j c hk
    rw [← hz] at p b1
    have cok := hc c (List.mem_of_getElem? hk)
    obtain ⟨z', M⟩ := c_exec (k := j) rfl hap hne G hA hR P hk b3 cok Z
    have st : f_X1_run_b7 D (f + 1) z (some a) (nI j) = (if hx_isb z b [19] = true then gx_b2 (f_X15_execute D z b) fun b13 h14 => f_X1_run_b24 D (f_X1_run_b7 D f) h14 (some a) (nI j) b13 else if hx_isb z b [20] = true then gx_b2 (f_X16_execute D z b) fun b18 h19 => f_X1_run_b24 D (f_X1_run_b7 D f) h19 (some a) (nI j) b18 else if hx_isb z b [21] = true then gx_b2 (f_X17_execute D z b) fun b22 h23 => f_X1_run_b24 D (f_X1_run_b7 D f) h23 (some a) (nI j) b22 else if hx_isb z b [22] = true then gx_b2 (f_X18_execute D z b) fun b26 h27 => f_X1_run_b24 D (f_X1_run_b7 D f) h27 (some a) (nI j) b26 else none) := by
      simp only [f_X1_run_b7, Option.bind_some, p.2.1, if_neg (nI_ge jl (show cs.length < 2 ^ 31 by omega)), p.1, b1]
    rw [st]
    unfold runC
    cases e : doC A.1 R c with
    | none =>
      rw [e] at M
      obtain ⟨rfl, M2⟩ := M
      refine ⟨z', ?_, ⟨mc, fe, f1, f2, f3, f4, f5, tl, s, hz, C, by omega, by omega⟩, hR⟩
      rw [M2 (fun h b => f_X1_run_b24 D (f_X1_run_b7 D f) h (some a) (nI j) b)]
      unfold f_X1_run_b24
      rw [if_neg Bool.false_ne_true]
      rfl
    | some R' =>
      rw [e] at M
      obtain ⟨Z', M2⟩ := M
      obtain ⟨z2, r1, r2, r3⟩ := ih (j + 1) f R' z' hl2 (by omega) (doC_ok hA hR cok e) Z' (by simp only [List.length_cons] at hf; omega)
      refine ⟨z2, ?_, r2, r3⟩
      rw [M2 (fun h b => f_X1_run_b24 D (f_X1_run_b7 D f) h (some a) (nI j) b)]
      unfold f_X1_run_b24
      rw [if_pos rfl, gx_c1, r1]
      simp only [Nat.add_assoc, Nat.add_comm 1]
end CRN
