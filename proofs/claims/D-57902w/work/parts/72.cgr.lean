/-! the component's setup parser: what it builds; comparisons, guards, actions, transitions -/
set_option maxRecDepth 100000
set_option linter.unusedSimpArgs false
def hxW (n : Nat) (W : List Nat) (h : HX) : HX := (h.1, h.2.1, fun q => if q < n ∨ q ∈ W then none else h.2.2 q)
theorem hxW_at {n z : Nat} {W : List Nat} {h : HX} {c : Bool × gx_E} (e : (hxW n W h).2.2 z = some c) : n ≤ z ∧ z ∉ W ∧ h.2.2 z = some c := by
  have e : (if z < n ∨ z ∈ W then none else h.2.2 z) = some c := e
  by_cases c1 : z < n ∨ z ∈ W
  · rw [if_pos c1] at e; cases e
  · rw [if_neg c1] at e
    exact ⟨by omega, fun m => c1 (Or.inr m), e⟩
theorem hxW_of {n z : Nat} {W : List Nat} {h : HX} (h1 : n ≤ z) (h2 : z ∉ W) : (hxW n W h).2.2 z = h.2.2 z := if_neg (fun c => by rcases c with c | c; omega; exact h2 c)
theorem hxW_sub {n : Nat} {W : List Nat} {h : HX} : hx_sub (hxW n W h) h := fun z c e => (hxW_at e).2.2
theorem kx.W {h h1 : HX} {L W : List Nat} {k n : Nat} (X : kx h h1 L k) (w : hx_wf h) (hL : ∀ z, z ∈ L → z ∈ W ∨ h.1 ≤ z) : hx_sub (hxW n W h) (hxW n W h1) := fun z c e => by
  obtain ⟨e1, e2, e3⟩ := hxW_at e
  rw [hxW_of e1 e2]
  refine X.at w (fun m => ?_) e3
  rcases hL z m with c | c
  · exact e2 c
  · have := w.lt e3; omega
def wls {α : Type} (R : HX → Nat → α → Prop) (G h : HX) (l cap : Nat) (xs : List α) : Prop := ∃ (mc : Int32) (f : Nat → Option Nat), h.2.2 l = some (true, .inr (0, [.int mc, .ref (l + 1), .int (nI xs.length)])) ∧ h.2.2 (l + 1) = some (true, .inl (4, cap, .inr (.inr (.inr (.inr f))))) ∧ xs.length ≤ cap ∧ ∀ (k : Nat) (x : α), xs[k]? = some x → ∃ b, f k = some b ∧ R G b x
theorem wls.lst {α : Type} {R R' : HX → Nat → α → Prop} {G h h' : HX} {l cap : Nat} {xs : List α} (H : wls R G h l cap xs) (hc : cap < 2 ^ 31) (hR : ∀ b x, R G b x → R' h' b x) (hh : hx_sw h h') : hx_lst R' h' l cap xs := by
  obtain ⟨mc, f, h1, h2, h3, h4⟩ := H
  have ch : ∀ k, ∃ b, ∀ (hk : k < xs.length), f k = some b ∧ R' h' b xs[k] := fun k => by
    by_cases hk : k < xs.length
    · obtain ⟨b, b1, b2⟩ := h4 k _ (List.getElem?_eq_getElem hk)
      exact ⟨b, fun _ => ⟨b1, hR _ _ b2⟩⟩
    · exact ⟨0, fun h => absurd h hk⟩
  let as := (List.range xs.length).map fun k => (ch k).choose
  have asl : as.length = xs.length := by simp [as]
  have ask : ∀ k, k < xs.length → ∃ b, as[k]? = some b ∧ f k = some b ∧ ∀ i, xs[k]? = some i → R' h' b i := fun k hk => by
    refine ⟨(ch k).choose, ?_, ((ch k).choose_spec hk).1, fun i hi => ?_⟩
    · simp only [as, List.getElem?_map, List.getElem?_range hk, Option.map_some]
    · have := ((ch k).choose_spec hk).2
      rw [List.getElem?_eq_getElem hk] at hi
      cases hi
      exact this
  refine ⟨as, ⟨mc, l + 1, f, ?_, ?_, by omega, hc, fun k hk => ?_⟩, asl, fun k i b hk hb => ?_⟩
  · rw [asl]
    exact hh _ _ _ h1
  · exact hh _ _ _ h2
  · obtain ⟨b, e1, e2, e3⟩ := ask k (by omega)
    rw [e1, e2]
  · obtain ⟨b', e1, e2, e3⟩ := ask k (List.getElem?_eq_some_iff.1 hk).1
    rw [e1] at hb
    cases hb
    exact e3 i hk
theorem wls.mov {α : Type} {R R' : HX → Nat → α → Prop} {G G' h h' : HX} {l cap : Nat} {xs : List α} (H : wls R G h l cap xs) (hR : ∀ b x, R G b x → R' G' b x) (h1 : h'.2.2 l = h.2.2 l) (h2 : h'.2.2 (l + 1) = h.2.2 (l + 1)) : wls R' G' h' l cap xs := by
  obtain ⟨mc, f, k1, k2, k3, k4⟩ := H
  exact ⟨mc, f, h1.trans k1, h2.trans k2, k3, fun k x hk => by
    obtain ⟨b, b1, b2⟩ := k4 k x hk
    exact ⟨b, b1, hR _ _ b2⟩⟩
theorem wls.add {α : Type} {R : HX → Nat → α → Prop} {D : gx_D} {G h : HX} {l cap b ci : Nat} {fs : List Value} {xs : List α} {x : α} (H : wls R G h l cap xs) (hl : xs.length < cap) (hc : cap < 2 ^ 31) (ho : hx_ob h b ci fs) (hci : ci ∈ [11, 13, 15, 2]) : ∃ h1, f_J2_add D h l (some b) = some (true, h1) ∧ hx_kp h h1 [l, l + 1] ∧ ∀ G', (∀ b x, R G b x → R G' b x) → R G' b x → wls R G' h1 l cap (xs ++ [x]) := by
  obtain ⟨mc, f, k1, k2, k3, k4⟩ := H
  have o := hx_ob.mk k1
  have nb : b ≠ l := fun e => by
    subst e
    obtain ⟨fl, e⟩ := ho
    rw [k1] at e
    cases e
    revert hci
    decide
  obtain ⟨h2, e2, c2⟩ := hx_pv_e (cis := [0]) (k := 0) (v := .int (mc + 1)) k1 (by decide) (by simp)
  have o2 := hx_ob.mk c2.2.2.1
  have a2 : h2.2.2 (l + 1) = some (true, .inl (4, cap, .inr (.inr (.inr (.inr f))))) := (c2.2.2.2 _ (by omega)).trans k2
  have okr : hx_okr h2 [11, 13, 15, 2] (some b) = true := by
    obtain ⟨fl, e⟩ := ho
    exact hx_okr_o ⟨fl, (c2.2.2.2 b nb).trans e⟩ hci
  have n1 : nI xs.length ≠ nI cap := nI_ne (by omega) hc (by omega)
  obtain ⟨h4, e4, c4⟩ : ∃ h4, hx_sr h2 (l + 1) 4 [11, 13, 15, 2] (nI xs.length) (some b) = some h4 ∧ hx_ch h2 h4 (l + 1) (.inl (4, cap, .inr (.inr (.inr (.inr (va_up f xs.length (some b))))))) := by
    refine ⟨_, ?_, hx_set_ch⟩
    unfold hx_sr
    rw [a2]
    simp only [nI_clamp (show xs.length < 2 ^ 31 by omega)]
    rw [if_pos ⟨trivial, nI_pos' (by omega), hl, okr⟩]
  have l4 : h4.2.2 l = some (true, .inr (0, [.int (mc + 1), .ref (l + 1), .int (nI xs.length)])) := (c4.2.2.2 l (by omega)).trans c2.2.2.1
  obtain ⟨h5, e5, c5⟩ := hx_pv_e (cis := [0]) (k := 2) (v := .int (nI xs.length + 1)) l4 (by decide) (by simp)
  refine ⟨h5, ?_, ((c2.kp (by simp)).tr (c4.kp (by simp))).tr (c5.kp (by simp)), fun G' hR hx => ⟨mc + 1, va_up f xs.length (some b), ?_, (c5.2.2.2 _ (by omega)).trans c4.2.2.1, by rw [List.length_append, List.length_singleton]; omega, fun k y hk => ?_⟩⟩
  · unfold f_J2_add f_J2_add_2
    simp only [o.is (show 0 ∈ [0] by decide), o.gi (show 0 ∈ [0] by decide) (k := 0) rfl, Option.bind_some, hx_pi, e2, o2.is (show 0 ∈ [0] by decide), o2.gi (show 0 ∈ [0] by decide) (k := 2) (x := nI xs.length) rfl, o2.gr (show 0 ∈ [0] by decide) (k := 1) (r := some (l + 1)) rfl, (hx_or.mk a2).len, if_neg n1, e4, e5]
  · rw [c5.2.2.1, List.length_append, List.length_singleton, nI_1]
    rfl
  · by_cases c : k = xs.length
    · subst c
      rw [List.getElem?_append_right (Nat.le_refl _), Nat.sub_self] at hk
      cases hk
      exact ⟨b, va_up_self .., hx⟩
    · have : k < xs.length := by
        have := (List.getElem?_eq_some_iff.1 hk).1
        rw [List.length_append, List.length_singleton] at this
        omega
      rw [List.getElem?_append_left this] at hk
      obtain ⟨b', b1, b2⟩ := k4 k y hk
      exact ⟨b', by rw [va_up_ne _ _ c]; exact b1, hR _ _ b2⟩
theorem kx.fz {h : HX} {b : Nat} (w : hx_wf h) : kx h (hx_fz1 h b) [b] 0 := ⟨Nat.le_refl _, fun q hq => by rw [fz1_at, w q hq], fun z _ hz => by
  rw [fz1_at]
  cases e : h.2.2 z with
  | none => rfl
  | some v =>
    obtain ⟨f, e⟩ := v
    simp only
    rw [decide_eq_false (fun c => hz (by simp [c]))]
    cases f <;> rfl, Nat.le_refl _, Nat.le_refl _, Nat.le_refl _⟩
theorem fz1_o {h : HX} {b : Nat} {e : gx_E} (H : h.2.2 b = some (true, e)) : (hx_fz1 h b).2.2 b = some (false, e) := by
  rw [fz1_at, H]
  simp
/-- a new object, its fields at first -/
theorem x_new {h : HX} {m ci : Nat} {fs : List Value} (w : hx_wf h) (hm : m ≤ 12) : ∃ h1, hx_new h m ci fs = some (h.1, h1) ∧ kx h h1 [] 1 ∧ h1.2.2 h.1 = some (true, .inr (ci, fs)) ∧ h1.1 = h.1 + 1 := by
  have n0 := ap_new (n := h.1) (h := h) (B := []) (s := 0) (m := m) (ci := ci) (fs := fs)
  rw [ap_0 w] at n0
  exact ⟨_, n0, kx.ap (B := [.inr (ci, fs)]) (by show 0 + m ≤ 12 * 1; omega), ap_at0, rfl⟩
/-- fields of an object written -/
theorem hx_pv_k {h : HX} {a ci k : Nat} {fs : List Value} {v : Value} (H : h.2.2 a = some (true, .inr (ci, fs))) (hk : k < fs.length) : ∃ h1, hx_pv h a [ci] k v = some h1 ∧ hx_kp h h1 [a] ∧ h1.2.2 a = some (true, .inr (ci, fs.set k v)) := by
  obtain ⟨h1, e, c⟩ := hx_pv_e (cis := [ci]) (k := k) (v := v) H (by simp) hk
  exact ⟨h1, e, c.kp (by simp), c.2.2.1⟩
/-- where the setup parser's own cells lie -/
def SW (a d : Nat) : List Nat := a :: (List.range 17).map fun k => d + k
theorem SW_m {a d z : Nat} : z ∈ SW a d ↔ z = a ∨ (d ≤ z ∧ z < d + 17) := by
  unfold SW
  rw [List.mem_cons, List.mem_map]
  constructor
  · rintro (h | ⟨k, hk, rfl⟩)
    · exact Or.inl h
    · rw [List.mem_range] at hk
      exact Or.inr ⟨by omega, by omega⟩
  · rintro (h | ⟨h1, h2⟩)
    · exact Or.inl h
    · exact Or.inr ⟨z - d, List.mem_range.2 (by omega), by omega⟩
/-- what it has built -/
def SL (D : gx_D) (n : Nat) (bs : List Nat) (h : HX) (a d : Nat) (S : SP) : Prop := n ≤ a ∧ a < d ∧ (d + 17 ≤ h.1 ∧ ∀ b, b ∈ bs → d + 17 ≤ b) ∧ h.2.2 d = some (true, .inr (10, [.ref (d + 1), .ref (d + 3), .ref (d + 5), .ref (d + 7), .int (nI (cf_c S.1.ini))])) ∧ wls hx_str (hxW n (bs ++ SW a d) h) h (d + 1) 10 S.1.sn ∧ wls hx_str (hxW n (bs ++ SW a d) h) h (d + 3) 8 S.1.en ∧ wls hx_str (hxW n (bs ++ SW a d) h) h (d + 5) 3 S.1.vn ∧ wls (hx_tr D) (hxW n (bs ++ SW a d) h) h (d + 7) 24 S.1.ts ∧ h.2.2 (d + 9) = some (true, .inr (11, [.ref (d + 10), .ref (d + 12), .ref (d + 13), .ref (d + 14), .ref (d + 15), .ref (d + 16), .int 0, .int 0, .int 0])) ∧ wls (hx_iv D) (hxW n (bs ++ SW a d) h) h (d + 10) 12 S.2 ∧ (∃ f, h.2.2 (d + 12) = some (true, .inl (0, 24, .inl f))) ∧ (∃ f, h.2.2 (d + 13) = some (true, .inl (0, 10, .inl f))) ∧ (∃ f, h.2.2 (d + 14) = some (true, .inl (0, 5, .inl f))) ∧ (∃ f, h.2.2 (d + 15) = some (true, .inl (0, 20, .inl f))) ∧ ∃ f, h.2.2 (d + 16) = some (true, .inl (0, 20, .inl f))
theorem SL.mov {D : gx_D} {n a d k : Nat} {bs : List Nat} {h h1 : HX} {L : List Nat} {S : SP} (H : SL D n bs h a d S) (w : hx_wf h) (X : kx h h1 L k) (hL : ∀ z, z ∈ L → z = a ∨ z ∈ bs ∨ h.1 ≤ z) : SL D n bs h1 a d S := by
  obtain ⟨h1', h2, ⟨h3, hbs⟩, h4, h5, h6, h7, h8, h9, h10, ⟨f1, h11⟩, ⟨f2, h12⟩, ⟨f3, h13⟩, ⟨f4, h14⟩, ⟨f5, h15⟩⟩ := H
  have s := X.W (n := n) (W := bs ++ SW a d) w (fun z hz => by
    rcases hL z hz with c | c | c
    · exact Or.inl (List.mem_append.2 (Or.inr (SW_m.2 (Or.inl c))))
    · exact Or.inl (List.mem_append.2 (Or.inl c))
    · exact Or.inr c)
  have at' : ∀ z, d ≤ z → z < d + 17 → h1.2.2 z = h.2.2 z := fun z z1 z2 => X.2.2.1 z (by omega) (fun m => by
    rcases hL z m with c | c | c
    · omega
    · have := hbs z c; omega
    · omega)
  have l := X.1
  exact ⟨h1', h2, ⟨by omega, hbs⟩, (at' _ (by omega) (by omega)).trans h4, h5.mov (fun _ _ => hx_str.sub s) (at' _ (by omega) (by omega)) (at' _ (by omega) (by omega)), h6.mov (fun _ _ => hx_str.sub s) (at' _ (by omega) (by omega)) (at' _ (by omega) (by omega)), h7.mov (fun _ _ => hx_str.sub s) (at' _ (by omega) (by omega)) (at' _ (by omega) (by omega)), h8.mov (fun _ _ => hx_tr.sub s) (at' _ (by omega) (by omega)) (at' _ (by omega) (by omega)), (at' _ (by omega) (by omega)).trans h9, h10.mov (fun _ _ => hx_iv.sub s) (at' _ (by omega) (by omega)) (at' _ (by omega) (by omega)), ⟨f1, (at' _ (by omega) (by omega)).trans h11⟩, ⟨f2, (at' _ (by omega) (by omega)).trans h12⟩, ⟨f3, (at' _ (by omega) (by omega)).trans h13⟩, ⟨f4, (at' _ (by omega) (by omega)).trans h14⟩, ⟨f5, (at' _ (by omega) (by omega)).trans h15⟩⟩
/-- a hole more, a hole less -/
theorem SL.vw {D : gx_D} {n a d : Nat} {bs bs' : List Nat} {h : HX} {S : SP} (H : SL D n bs h a d S) (s : hx_sub (hxW n (bs ++ SW a d) h) (hxW n (bs' ++ SW a d) h)) (hb : ∀ b, b ∈ bs' → d + 17 ≤ b) : SL D n bs' h a d S := by
  obtain ⟨h1', h2, ⟨h3, hbs⟩, h4, h5, h6, h7, h8, h9, h10, h11⟩ := H
  exact ⟨h1', h2, ⟨h3, hb⟩, h4, h5.mov (fun _ _ => hx_str.sub s) rfl rfl, h6.mov (fun _ _ => hx_str.sub s) rfl rfl, h7.mov (fun _ _ => hx_str.sub s) rfl rfl, h8.mov (fun _ _ => hx_tr.sub s) rfl rfl, h9, h10.mov (fun _ _ => hx_iv.sub s) rfl rfl, h11⟩
theorem hxW_in {n : Nat} {W : List Nat} {h : HX} {b : Nat} (w : hx_wf h) (hb : h.1 ≤ b) : hx_sub (hxW n W h) (hxW n (b :: W) h) := fun z c e => by
  obtain ⟨e1, e2, e3⟩ := hxW_at e
  rw [hxW_of e1 (fun m => ?_), e3]
  rcases List.mem_cons.1 m with m | m
  · have := w.lt e3; omega
  · exact e2 m
theorem hxW_out {n : Nat} {W : List Nat} {h : HX} {b : Nat} : hx_sub (hxW n (b :: W) h) (hxW n W h) := fun z c e => by
  obtain ⟨e1, e2, e3⟩ := hxW_at e
  rw [hxW_of e1 (fun m => e2 (List.mem_cons_of_mem _ m)), e3]
theorem SL.in {D : gx_D} {n a d : Nat} {bs : List Nat} {h : HX} {S : SP} (H : SL D n bs h a d S) (w : hx_wf h) : SL D n (h.1 :: bs) h a d S := H.vw (hxW_in w (Nat.le_refl _)) (fun b hb => by
  rcases List.mem_cons.1 hb with hb | hb
  · rw [hb]; exact H.2.2.1.1
  · exact H.2.2.1.2 b hb)
theorem SL.out {D : gx_D} {n a d b : Nat} {bs : List Nat} {h : HX} {S : SP} (H : SL D n (b :: bs) h a d S) : SL D n bs h a d S := H.vw hxW_out (fun b hb => H.2.2.1.2 b (List.mem_cons_of_mem _ hb))
def sR (d x : Nat) : List Value := [.ref d, .ref (d + 9), .ref x]
section CGR
variable {D : gx_D} {g h : HX} {n a x inp p d : Nat} {ib : List Nat} {S : SP}
theorem PT.made (T : PT D n h a 16 x (sR d x) ib p) : hx_is h a [16] = some () ∧ hx_gr h a [16] 6 = some (some d) ∧ hx_gr h a [16] 7 = some (some (d + 9)) := by
  obtain ⟨vl, w, P, _⟩ := T
  have o := hx_ob.mk P.2
  exact ⟨o.is (by decide), o.gr (by decide) (k := 6) (r := some d) rfl, o.gr (by decide) (k := 7) (r := some (d + 9)) rfl⟩
theorem SL.rd {bs : List Nat} (H : SL D n bs h a d S) : hx_is h d [10] = some () ∧ hx_gr h d [10] 0 = some (some (d + 1)) ∧ hx_gr h d [10] 1 = some (some (d + 3)) ∧ hx_gr h d [10] 2 = some (some (d + 5)) ∧ hx_gr h d [10] 3 = some (some (d + 7)) ∧ hx_gi h d [10] 4 = some (nI (cf_c S.1.ini)) ∧ hx_is h (d + 9) [11] = some () ∧ hx_gr h (d + 9) [11] 0 = some (some (d + 10)) := by
  obtain ⟨h1', h2, h3, h4, h5, h6, h7, h8, h9, _⟩ := H
  have o := hx_ob.mk h4
  have o9 := hx_ob.mk h9
  exact ⟨o.is (by decide), o.gr (by decide) (k := 0) (r := some (d + 1)) rfl, o.gr (by decide) (k := 1) (r := some (d + 3)) rfl, o.gr (by decide) (k := 2) (r := some (d + 5)) rfl, o.gr (by decide) (k := 3) (r := some (d + 7)) rfl, o.gi (by decide) rfl, o9.is (by decide), o9.gr (by decide) (k := 0) (r := some (d + 10)) rfl⟩
theorem hx_sw.rf {h : HX} : hx_sw h h := fun _ b _ e => ⟨b, e⟩
theorem SL.ls {bs : List Nat} (H : SL D n bs h a d S) : hx_lst hx_str h (d + 1) 10 S.1.sn ∧ hx_lst hx_str h (d + 3) 8 S.1.en ∧ hx_lst hx_str h (d + 5) 3 S.1.vn ∧ hx_lst (hx_tr D) h (d + 7) 24 S.1.ts ∧ hx_lst (hx_iv D) h (d + 10) 12 S.2 := by
  obtain ⟨h1', h2, h3, h4, h5, h6, h7, h8, h9, h10, _⟩ := H
  exact ⟨h5.lst (by decide) (fun _ _ => hx_str.sub hxW_sub) hx_sw.rf, h6.lst (by decide) (fun _ _ => hx_str.sub hxW_sub) hx_sw.rf, h7.lst (by decide) (fun _ _ => hx_str.sub hxW_sub) hx_sw.rf, h8.lst (by decide) (fun _ _ => hx_tr.sub hxW_sub) hx_sw.rf, h10.lst (by decide) (fun _ _ => hx_iv.sub hxW_sub) hx_sw.rf⟩
theorem opw_i {D : gx_D} (hap : gx_apt D) {i : Nat} (hi : i < 6) : ∃ k cs, gx_ow D (D.2.2.1 (100 + i)) = some (D.2.2.1 k) ∧ kcs[k]? = some cs ∧ opW[i]? = some cs := by
  have ne : ∀ j, j < 6 → ¬ j = i → decide (D.2.2.1 (100 + j) = D.2.2.1 (100 + i)) = false := fun j hj hji => decide_eq_false (fun e => hji (hap j i hj hi e))
  unfold gx_ow gx_ofs
  match i, hi with
  | 0, _ => exact ⟨28, kw 28, by simp only [List.find?_cons]; rfl, rfl, rfl⟩
  | 1, _ => exact ⟨27, kw 27, by simp only [List.find?_cons]; rw [ne 0 (by decide) (by decide)]; rfl, rfl, rfl⟩
  | 2, _ => exact ⟨29, kw 29, by simp only [List.find?_cons]; rw [ne 0 (by decide) (by decide), ne 1 (by decide) (by decide)]; rfl, rfl, rfl⟩
  | 3, _ => exact ⟨30, kw 30, by simp only [List.find?_cons]; rw [ne 0 (by decide) (by decide), ne 1 (by decide) (by decide), ne 2 (by decide) (by decide)]; rfl, rfl, rfl⟩
  | 4, _ => exact ⟨26, kw 26, by simp only [List.find?_cons]; rw [ne 0 (by decide) (by decide), ne 1 (by decide) (by decide), ne 2 (by decide) (by decide), ne 3 (by decide) (by decide)]; rfl, rfl, rfl⟩
  | 5, _ => exact ⟨25, kw 25, by simp only [List.find?_cons]; rw [ne 0 (by decide) (by decide), ne 1 (by decide) (by decide), ne 2 (by decide) (by decide), ne 3 (by decide) (by decide), ne 4 (by decide) (by decide)]; rfl, rfl, rfl⟩
  | n + 6, h => omega
theorem c_operator (hap : gx_apt D) (E : EV D g x inp ib) (B : HB g n h) (ha : n ≤ a) (T : PT D n h a 16 x (sR d x) ib p) (hp : p ≤ ib.length) : CR D n a 16 x (sR d x) ib h [a] 4 (f_X10_operator D h a) (pOf ib opW p) fun c v h1 => c = some (D.2.2.1 (100 + v)) ∧ v < 6 := by
  have T0 := T
  obtain ⟨vl, w, P, _⟩ := T
  obtain ⟨op, t, gop, fs, x1, x2, x3, x4, x5, x6, x7⟩ := E.1
  have x1 := x1.sub B.2.1
  have x5 := x5.sub B.2.1
  unfold f_X10_operator pOf
  rw [T0.made.1, Option.bind_some, P.g.2.2.2.2.2.2, Option.bind_some, Option.bind_some, x1.gr (by decide) (k := 0) (r := some op) x2, Option.bind_some, Option.bind_some, x5.len, Option.bind_some]
  have key : f_X10_operator_b13 D gx_fuel h a (some op) (nI 6) 0 = match idx opW (tW ib p) with
      | none => f_X10_operator_b51 D h a
      | some k => f_X10_operator_b38 D h a (some (D.2.2.1 (100 + k))) := by
    have st : ∀ f i, i < 6 → f_X10_operator_b13 D (f + 1) h a (some op) (nI 6) (nI i) = if decide (tW ib p = opW.getD i []) = true then f_X10_operator_b38 D h a (some (D.2.2.1 (100 + i))) else f_X10_operator_b13 D f h a (some op) (nI 6) (nI (i + 1)) := fun f i hi => by
      obtain ⟨k, cs, k1, k2, k3⟩ := opw_i hap hi
      have e : opW.getD i [] = cs := by rw [List.getD_eq_getElem?_getD, k3]; rfl
      simp only [f_X10_operator_b13, if_neg (nI_ge hi (show 6 < 2 ^ 31 by decide)), Option.bind_some, x5.ar (show 4 ≤ t from x6) hi (by decide), x7 i hi, k1, f_isWord T0 (E.k B k2), gx_c1, e]
    have en : ∀ f, f_X10_operator_b13 D (f + 1) h a (some op) (nI 6) (nI 6) = f_X10_operator_b51 D h a := fun f => by
      simp only [f_X10_operator_b13, if_pos (nI_le (Nat.le_refl 6) (show 6 < 2 ^ 31 by decide))]
    obtain ⟨f, hf⟩ : ∃ f, gx_fuel = f + 7 := ⟨gx_fuel - 7, by rw [pl_fl]⟩
    rw [hf, show (0 : Int32) = nI 0 from rfl, st _ 0 (by decide), st _ 1 (by decide), st _ 2 (by decide), st _ 3 (by decide), st _ 4 (by decide), st _ 5 (by decide), en]
    unfold idx
    have o6 : opW = [opW.getD 0 [], opW.getD 1 [], opW.getD 2 [], opW.getD 3 [], opW.getD 4 [], opW.getD 5 []] := rfl
    obtain ⟨W, hW⟩ : ∃ W, tW ib p = W := ⟨_, rfl⟩
    rw [hW]
    have sy : ∀ i, decide (W = opW.getD i []) = decide (opW.getD i [] = W) := fun i => decide_eq_decide.2 ⟨Eq.symm, Eq.symm⟩
    simp only [sy]
    generalize opW.getD 0 [] = w0 at *
    generalize opW.getD 1 [] = w1 at *
    generalize opW.getD 2 [] = w2 at *
    generalize opW.getD 3 [] = w3 at *
    generalize opW.getD 4 [] = w4 at *
    generalize opW.getD 5 [] = w5 at *
    rw [o6]
    by_cases c0 : w0 = W
    · simp [List.findIdx?_cons, c0]
    by_cases c1 : w1 = W
    · simp [List.findIdx?_cons, c0, c1]
    by_cases c2 : w2 = W
    · simp [List.findIdx?_cons, c0, c1, c2]
    by_cases c3 : w3 = W
    · simp [List.findIdx?_cons, c0, c1, c2, c3]
    by_cases c4 : w4 = W
    · simp [List.findIdx?_cons, c0, c1, c2, c3, c4]
    by_cases c5 : w5 = W
    · simp [List.findIdx?_cons, c0, c1, c2, c3, c4, c5]
    · simp [List.findIdx?_cons, c0, c1, c2, c3, c4, c5]
  rw [show (6 : Nat) = 6 from rfl] at key
  rw [key]
  cases e : idx opW (tW ib p) with
  | none =>
    simp only
    have th := c_throw (D := D) (a := a) (code := 1) B.1 ((hx_ob.mk P.2).gv P.cm (k := 0)) (B.1.lt P.2)
    obtain ⟨h6, e6, X, M, _⟩ := th
    refine ⟨.inr (cPE, h.1), h6, ?_, X.up (by simp) (by decide), _, rfl, M⟩
    unfold f_X10_operator_b51
    cases e7 : hx_new h 8 17 gx_df17 with
    | none => rw [e7] at e6; cases e6
    | some v =>
      obtain ⟨v1, v2⟩ := v
      rw [e7] at e6
      rw [pl_b2_s] at e6 ⊢
      cases e8 : hx_gi v2 a [16, 18] 0 with
      | none => rw [e8] at e6; cases e6
      | some y =>
        rw [e8, Option.bind_some] at e6
        rw [Option.bind_some]
        have e6 : ((f_X12_init D v2 v1 1 y).bind fun h6 => (hx_is h6 v1 [17]).bind fun u7 => (some (.inr ("ContractMachine$ParseException", v1), h6) : Option ((Unit ⊕ (String × Nat)) × HX))) = some (.inr (cPE, h.1), h6) := e6
        cases e9 : f_X12_init D v2 v1 1 y with
        | none => rw [e9] at e6; cases e6
        | some z =>
          rw [e9, Option.bind_some] at e6
          rw [Option.bind_some]
          cases e10 : hx_is z v1 [17] with
          | none => rw [e10] at e6; cases e6
          | some u =>
            rw [e10, Option.bind_some] at e6
            rw [Option.bind_some]
            have := Option.some.inj e6
            simp only [Prod.mk.injEq, Sum.inr.injEq] at this
            obtain ⟨⟨t1, t2⟩, t3⟩ := this
            rw [t1, t2, t3]
  | some k =>
    have hk := (idx_lt e).1
    simp only
    unfold f_X10_operator_b38
    refine (CR.adv E B ha T0 hp (by simp) fun h2 X2 T2 => ?_).up (k := 4 + 0) (fun z hz => hz) (by decide)
    exact CR.ret T2 X2.2.1 ⟨rfl, hk⟩
end CGR
