/-! the component's parser: signs, texts, numbers -/
set_option maxRecDepth 100000
set_option linter.unusedSimpArgs false
/-- what the parser finds ready: the machine, its input, the constants -/
def EV (D : gx_D) (g : HX) (x inp : Nat) (ib : List Nat) : Prop := (∃ op t gop fs, hx_ob g x 9 fs ∧ fs[0]? = some (.ref op) ∧ fs[1]? = some (.ref inp) ∧ fs[2]? = some (.int (nI ib.length)) ∧ hx_or g op t 6 gop ∧ 4 ≤ t ∧ ∀ k, k < 6 → gop k = some (D.2.2.1 (100 + k))) ∧ (∃ fib : Nat → Int32, hx_oi g inp 1 700 fib ∧ ∀ (k b : Nat), ib[k]? = some b → fib k = (nI b).toInt8.toInt32) ∧ ib_ok ib ∧ (∀ (i : Nat) (cs : List Nat), kcs[i]? = some cs → hx_str g (D.2.2.1 i) cs) ∧ (∃ v, hx_ob g (D.2.2.1 8) 2 [va_rf (some v), .int 0, .int 0, .int 1]) ∧ (∃ m f, hx_oi g (D.2.2.1 135) 1 m f ∧ 58 ≤ m ∧ m < 1000 ∧ ∀ k, k < 10 → f (48 + k) = nI k) ∧ ∀ i j, i < 5 → j < 5 → D.2.2.1 (120 + i) = D.2.2.1 (120 + j) → i = j
theorem EV.k {D : gx_D} {g h : HX} {x inp n i : Nat} {ib cs : List Nat} (E : EV D g x inp ib) (B : HB g n h) (hi : kcs[i]? = some cs) : hx_str h (D.2.2.1 i) cs := (E.2.2.2.1 i cs hi).sub B.2.1
theorem EV.ok {D : gx_D} {g : HX} {x inp : Nat} {ib : List Nat} (E : EV D g x inp ib) : ib_ok ib := E.2.2.1
theorem EV.t {D : gx_D} {g : HX} {x inp : Nat} {ib : List Nat} (E : EV D g x inp ib) {i j : Nat} (hi : i < 5) (hj : j < 5) : (some (D.2.2.1 (120 + i)) = some (D.2.2.1 (120 + j))) ↔ i = j := ⟨fun e => E.2.2.2.2.2.2 i j hi hj (Option.some.inj e), fun e => by rw [e]⟩
theorem EV.w8 {D : gx_D} {g h : HX} {x inp n : Nat} {ib : List Nat} (E : EV D g x inp ib) (B : HB g n h) : wst h (D.2.2.1 8) [] := by
  obtain ⟨v, fl, hv⟩ := E.2.2.2.2.1
  obtain ⟨v', b, c, f, ⟨fl', h1⟩, h2, h3, h4⟩ := E.k B (i := 8) (cs := []) rfl
  have hv := B.2.1 _ _ hv
  rw [hv] at h1
  have e := Option.some.inj h1
  simp only [Prod.mk.injEq, Sum.inr.injEq, true_and, List.cons.injEq, va_rf_s, Value.ref.injEq] at e
  obtain ⟨_, rfl, _⟩ := e
  exact ⟨fl, v, f, 0, 1, hv, h2, h3, h4, fun e => absurd rfl e, fun _ => rfl, fun _ e => by cases e⟩
/-- a parser's cell -/
def pcl (h : HX) (a ci x : Nat) (rest : List Value) (st nx vl : Int32) (wd tk : Option Nat) : Prop := (ci = 16 ∨ ci = 18) ∧ h.2.2 a = some (true, .inr (ci, .int st :: .int nx :: .int vl :: va_rf wd :: va_rf tk :: .ref x :: rest))
section PCL
variable {h : HX} {a ci x : Nat} {rest : List Value} {st nx vl : Int32} {wd tk : Option Nat}
theorem pcl.cm (P : pcl h a ci x rest st nx vl wd tk) : ci ∈ [16, 18] := by
  rcases P.1 with e | e <;> rw [e] <;> decide
theorem pcl.g (P : pcl h a ci x rest st nx vl wd tk) : hx_is h a [16, 18] = some () ∧ hx_gi h a [16, 18] 0 = some st ∧ hx_gi h a [16, 18] 1 = some nx ∧ hx_gi h a [16, 18] 2 = some vl ∧ hx_gr h a [16, 18] 3 = some wd ∧ hx_gr h a [16, 18] 4 = some tk ∧ hx_gr h a [16, 18] 5 = some (some x) := by
  have o := hx_ob.mk P.2
  exact ⟨o.is P.cm, o.gi P.cm rfl, o.gi P.cm rfl, o.gi P.cm rfl, o.gr P.cm rfl, o.gr P.cm rfl, o.gr P.cm rfl⟩
theorem pcl.is1 (P : pcl h a ci x rest st nx vl wd tk) : hx_is h a [ci] = some () := (hx_ob.mk P.2).is (by simp)
theorem pcl.s0 (P : pcl h a ci x rest st nx vl wd tk) (y : Int32) : ∃ h1, hx_pi h a [16, 18] 0 y = some h1 ∧ pcl h1 a ci x rest y nx vl wd tk ∧ hx_kp h h1 [a] := by
  obtain ⟨h1, e, c⟩ := hx_pv_e (cis := [16, 18]) (k := 0) (v := .int y) P.2 P.cm (by simp)
  exact ⟨h1, e, ⟨P.1, c.2.2.1⟩, c.kp (by simp)⟩
theorem pcl.s1 (P : pcl h a ci x rest st nx vl wd tk) (y : Int32) : ∃ h1, hx_pi h a [16, 18] 1 y = some h1 ∧ pcl h1 a ci x rest st y vl wd tk ∧ hx_kp h h1 [a] := by
  obtain ⟨h1, e, c⟩ := hx_pv_e (cis := [16, 18]) (k := 1) (v := .int y) P.2 P.cm (by simp)
  exact ⟨h1, e, ⟨P.1, c.2.2.1⟩, c.kp (by simp)⟩
theorem pcl.s2 (P : pcl h a ci x rest st nx vl wd tk) (y : Int32) : ∃ h1, hx_pi h a [16, 18] 2 y = some h1 ∧ pcl h1 a ci x rest st nx y wd tk ∧ hx_kp h h1 [a] := by
  obtain ⟨h1, e, c⟩ := hx_pv_e (cis := [16, 18]) (k := 2) (v := .int y) P.2 P.cm (by simp)
  exact ⟨h1, e, ⟨P.1, c.2.2.1⟩, c.kp (by simp)⟩
theorem pcl.s3 (P : pcl h a ci x rest st nx vl wd tk) (y : Option Nat) : ∃ h1, hx_pr h a [16, 18] 3 y = some h1 ∧ pcl h1 a ci x rest st nx vl y tk ∧ hx_kp h h1 [a] := by
  obtain ⟨h1, e, c⟩ := hx_pv_e (cis := [16, 18]) (k := 3) (v := va_rf y) P.2 P.cm (by simp)
  exact ⟨h1, e, ⟨P.1, c.2.2.1⟩, c.kp (by simp)⟩
theorem pcl.s4 (P : pcl h a ci x rest st nx vl wd tk) (y : Option Nat) : ∃ h1, hx_pr h a [16, 18] 4 y = some h1 ∧ pcl h1 a ci x rest st nx vl wd y ∧ hx_kp h h1 [a] := by
  obtain ⟨h1, e, c⟩ := hx_pv_e (cis := [16, 18]) (k := 4) (v := va_rf y) P.2 P.cm (by simp)
  exact ⟨h1, e, ⟨P.1, c.2.2.1⟩, c.kp (by simp)⟩
theorem pcl.kx {h1 : HX} {L : List Nat} {k : Nat} (P : pcl h a ci x rest st nx vl wd tk) (w : hx_wf h) (X : kx h h1 L k) (hL : a ∉ L) : pcl h1 a ci x rest st nx vl wd tk := ⟨P.1, X.at w hL P.2⟩
end PCL
theorem b256 : ∀ n, n < 256 → (nI n).toInt8.toInt32 &&& 255 = nI n := by decide +kernel
theorem c_at {D : gx_D} {g h : HX} {x inp n a ci k : Nat} {ib : List Nat} {rest : List Value} {st nx vl : Int32} {wd tk : Option Nat} (E : EV D g x inp ib) (B : HB g n h) (P : pcl h a ci x rest st nx vl wd tk) (hk : k < 2 ^ 31) : f_X10_at D h a (nI k) = some (atI ib k) := by
  obtain ⟨⟨op, t, gop, fs, x1, x2, x3, x4, _⟩, ⟨fib, i1, i2⟩, ok, _⟩ := E
  have x1 := x1.sub B.2.1
  have i1 := i1.sub B.2.1
  have hl := ok.1
  obtain ⟨g1, g2, g3, g4, g5, g6, g7⟩ := P.g
  unfold f_X10_at atI
  simp only [g1, g7, Option.bind_some, x1.gi (show 9 ∈ [9] by decide) x4, x1.gr (show 9 ∈ [9] by decide) (k := 1) (r := some inp) x3]
  cases e : ib[k]? with
  | none =>
    have := List.getElem?_eq_none_iff.1 e
    rw [if_pos (nI_le this hk)]
  | some c =>
    have lt := (List.getElem?_eq_some_iff.1 e).1
    rw [if_neg (nI_ge lt (by omega)), i1.ai (by omega) (by decide), Option.bind_some, i2 k c e, b256 c (ok.2 k c e)]
theorem c_eor {D : gx_D} {g h : HX} {x inp n a ci p lo hi : Nat} {ib : List Nat} {rest : List Value} {st nx vl : Int32} {wd tk : Option Nat} (E : EV D g x inp ib) (B : HB g n h) (P : pcl h a ci x rest st nx vl wd tk) (hp : p ≤ ib.length) (hlo : lo < 256) (hhi : hi < 256) : f_X10_endOfRun D h a (nI p) (nI lo) (nI hi) = some (nI (rl (fun c => decide (lo ≤ c) && decide (c ≤ hi)) ib p)) := by
  have hl := E.ok.1
  unfold f_X10_endOfRun
  rw [P.g.1, Option.bind_some]
  obtain ⟨f, s, hs, e⟩ := wl_loop (F := fun f s => f_X10_endOfRun_b3 D f h a (nI lo) (nI hi) s) (I := fun i s => s = nI i) (ib := ib) (P := fun c => decide (lo ≤ c) && decide (c ≤ hi)) (p := p) hl hp (fun f i s c hi1 hi2 hc hP hs => by
    subst hs
    refine ⟨nI (i + 1), rfl, ?_⟩
    have r := atI_rng E.ok i lo hi hlo hhi
    rw [hc] at r
    simp only [f_X10_endOfRun_b3, c_at E B P (show i < 2 ^ 31 by omega), Option.bind_some, f_within, r, gx_c1]
    exact if_pos hP) (nI p) rfl
  rw [e]
  subst hs
  have r1 := rl_le (P := fun c => decide (lo ≤ c) && decide (c ≤ hi)) hp
  obtain ⟨q, hq⟩ : ∃ q, q = rl (fun c => decide (lo ≤ c) && decide (c ≤ hi)) ib p := ⟨_, rfl⟩
  rw [← hq] at r1 ⊢
  have r := atI_rng E.ok q lo hi hlo hhi
  simp only [f_X10_endOfRun_b3, c_at E B P (show q < 2 ^ 31 by omega), Option.bind_some, f_within, r]
  cases e2 : ib[q]? with
  | none => rfl
  | some c =>
    have := rl_out (P := fun c => decide (lo ≤ c) && decide (c ≤ hi)) (hq ▸ e2)
    simp only [this, if_neg Bool.false_ne_true]
/-- a text -/
theorem ap_cpyb {n : Nat} {h : HX} {B : List gx_E} {s j a m m0 : Nat} {b : Bool} {f : Nat → Int32} {x : Int32} (ha : a < n) (H : h.2.2 a = some (b, .inl (1, m0, .inl f))) (hx : x = nI m) (hm : m < 2 ^ 31) (hm0 : m ≤ m0) (hf : ∀ i, i < m → fits .byte (.int (f i)) = true) : hx_cpy (hx_ap n h B s) a 0 (n + j) 0 x = match B[j]? with
    | some (.inl (t', m', .inl g)) => if t' = 1 ∧ m ≤ m' then some (hx_ap n h (B.set j (.inl (1, m', .inl (va_cpy f g 0 0 m)))) s) else none
    | _ => none := by
  subst hx
  unfold hx_cpy
  rw [ap_old ha, H, ap_at]
  cases e : B[j]? with
  | none => rfl
  | some c =>
    have hj := (List.getElem?_eq_some_iff.1 e).1
    cases c with
    | inr x => rfl
    | inl x =>
      obtain ⟨t', m', u⟩ := x
      cases u with
      | inr y => rfl
      | inl g =>
        simp only [Option.map_some, nI_clamp hm, show (0 : Int32).toNatClampNeg = 0 from rfl, Nat.zero_add]
        by_cases c1 : t' = 1
        · subst c1
          by_cases c2 : m ≤ m'
          · rw [if_pos ⟨rfl, by decide, by decide, by decide, nI_pos' hm, hm0, c2, fun _ i hi => hf i hi⟩, if_pos ⟨rfl, c2⟩, ap_set hj]
          · rw [if_neg (fun h => c2 h.2.2.2.2.2.2.1), if_neg (fun h => c2 h.2)]
        · rw [if_neg (fun h => c1 h.1.symm), if_neg (fun h => c1 h.1)]
theorem c_toString {D : gx_D} {h : HX} {ou ov : Nat} {cs : List Nat} (w : hx_wf h) (H : hx_sb8 h ou ov 16 cs) (hl : cs.length ≤ 8) : ∃ f, f_J8_toString D h ou = some (some h.1, hx_ap h.1 h [.inr (2, [.ref (h.1 + 1), .int 0, .int 0, .int 0]), .inl (1, cs.length, .inl f)] (4 + cs.length)) ∧ ∀ (k c : Nat), cs[k]? = some c → f k = nI c ∧ c < 128 := by
  have len := sb_len (D := D) H
  have lt := sb_lt w H
  obtain ⟨ml, fo, h1, h2, h3, h4, h5, h6⟩ := H
  have o := hx_ob.mk h1
  have n0 := ap_new (n := h.1) (h := h) (B := []) (s := 0) (m := 4) (ci := 2) (fs := gx_df2)
  rw [ap_0 w] at n0
  refine ⟨va_cpy fo (fun _ => 0) 0 0 cs.length, ?_, fun k c hk => ?_⟩
  · unfold f_J8_toString
    rw [o.is (by decide), Option.bind_some, n0]
    have hb : ∀ B s, hx_ob (hx_ap h.1 h B s) ou 1 [.ref ov, .int 0, .int ml, .int (nI cs.length)] := fun B s => ⟨true, (ap_old lt.1).trans h1⟩
    have hsb : ∀ B s, hx_sb8 (hx_ap h.1 h B s) ou ov 16 cs := fun B s => ⟨ml, fo, (ap_old lt.1).trans h1, (ap_old lt.2).trans h2, h3, h4, h5, h6⟩
    have gv : ∀ B s, f_J7_getValue D (hx_ap h.1 h B s) ou = some (some ov) := fun B s => by
      unfold f_J7_getValue
      rw [(hb B s).is (by decide), Option.bind_some, (hb B s).gr (by decide) (k := 0) (r := some ov) rfl, Option.bind_some]
    have lenv : ∀ B s, hx_len (hx_ap h.1 h B s) ov = some 16 := fun B s => by
      rw [ap_leno lt.2, (hx_oi.mk h2).len]
      rfl
    have ne : ¬ nI cs.length = 16 := nI_ne (b := 16) (by omega) (by decide) (by omega)
    have z0 : nI cs.length - 0 = nI cs.length := Int32.sub_zero _
    have z16 : (16 : Int32) - 0 = 16 := by decide
    have mn : ∀ h : HX, f_J12_min D h 16 (nI cs.length) = some (nI cs.length) := fun h => by
      unfold f_J12_min
      rw [if_pos (show nI cs.length < (16 : Int32) from nI_lt (a := cs.length) (b := 16) (by omega) (by decide))]
    have ck : ∀ h : HX, f_J13_checkLength D h 0 (nI cs.length) = some () := fun h => by
      unfold f_J13_checkLength
      rw [if_pos (nI_pos' (by omega))]
    have cp : ∀ B s j, hx_cpy (hx_ap h.1 h B s) ov 0 (h.1 + j) 0 (nI cs.length) = _ := fun B s j => ap_cpyb (m := cs.length) (m0 := 16) lt.2 h2 rfl (by omega) h3 (fun i hi => h6 i (by omega))
    simp [f_J9_init, f_J9_init_2, gv, sb_len (hsb _ _), sb_isL (hsb _ _), f_J13_copyOfRange, f_J13_copyOfRange_b10, f_J13_copyOfRangeByte, lenv, ne, z0, z16, mn, ck, cp, gx_df2, ap_new, ap_pv, ap_pv0, ap_gv, ap_gv0, ap_is, ap_is0, ap_len, ap_len0, hx_gi_r, hx_gr_r, hx_pr, hx_pi, gx_b2, gx_bx, Nat.add_assoc, va_rf_s, va_rf_n, hx_okr_n, ap_okr, ap_newa (x := nI cs.length) (k := cs.length) rfl (by omega)]
  · have := (List.getElem?_eq_some_iff.1 hk).1
    rw [pk_cpy_in (Nat.zero_le _) (by omega), Nat.sub_zero, Nat.zero_add]
    exact h5 k c hk
