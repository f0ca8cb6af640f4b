/-! the component's parser: its calls on tokens -/
set_option maxRecDepth 100000
set_option linter.unusedSimpArgs false
def cPE : String := "ContractMachine$ParseException"
def exn (h : HX) (q : Nat) (e : Nat × Nat) : Prop := ∃ fs, hx_ob h q 17 fs ∧ fs[6]? = some (.int (nI e.1)) ∧ fs[7]? = some (.int (nI e.2))
def CR {α γ : Type} (D : gx_D) (n a ci x : Nat) (rest : List Value) (ib : List Nat) (h : HX) (L : List Nat) (k : Nat) (res : Option ((γ ⊕ (String × Nat)) × HX)) (m : PR α) (Q : γ → α → HX → Prop) : Prop := ∃ r h1, res = some (r, h1) ∧ kx h h1 L k ∧ (match m with
  | .inl e => ∃ q, r = .inr (cPE, q) ∧ exn h1 q e
  | .inr v => ∃ c, r = .inl c ∧ Q c v.1 h1 ∧ PT D n h1 a ci x rest ib v.2)
section CRS
variable {D : gx_D} {n a ci x : Nat} {rest : List Value} {ib : List Nat} {h : HX} {L : List Nat} {k : Nat}
theorem CR.bnd {α β γ δ : Type} {k' : Nat} {res : Option ((γ ⊕ (String × Nat)) × HX)} {m : PR α} {Q : γ → α → HX → Prop} {K : γ → HX → Option ((δ ⊕ (String × Nat)) × HX)} {f : α → Nat → PR β} {Q' : δ → β → HX → Prop} (H : CR D n a ci x rest ib h L k res m Q)
    (hK : ∀ c v p' h1, m = .inr (v, p') → kx h h1 L k → Q c v h1 → PT D n h1 a ci x rest ib p' → CR D n a ci x rest ib h1 L k' (K c h1) (f v p') Q') : CR D n a ci x rest ib h L (k + k') (gx_bx res K fun E q h1 => some (.inr (E, q), h1)) (pb m f) Q' := by
  obtain ⟨r, h1, e, X, M⟩ := H
  cases m with
  | inl e' =>
    obtain ⟨q, rfl, M2⟩ := M
    exact ⟨.inr (cPE, q), h1, by rw [e, pl_bx_r], X.up (fun z hz => Or.inl hz) (by omega), q, rfl, M2⟩
  | inr v =>
    obtain ⟨v, p'⟩ := v
    obtain ⟨c, rfl, M2, M3⟩ := M
    obtain ⟨r2, h2, e2, X2, M4⟩ := hK c v p' h1 rfl X M2 M3
    exact ⟨r2, h2, by rw [e, pl_bx_l, e2], X.tr X2, M4⟩
theorem CR.up {α γ : Type} {k' : Nat} {L' : List Nat} {res : Option ((γ ⊕ (String × Nat)) × HX)} {m : PR α} {Q : γ → α → HX → Prop} (H : CR D n a ci x rest ib h L k res m Q) (hL : ∀ z, z ∈ L → z ∈ L') (hk : k ≤ k') : CR D n a ci x rest ib h L' k' res m Q := by
  obtain ⟨r, h1, e, X, M⟩ := H
  exact ⟨r, h1, e, X.up (fun z hz => Or.inl (hL z hz)) hk, M⟩
theorem CR.q {α γ : Type} {res : Option ((γ ⊕ (String × Nat)) × HX)} {m : PR α} {Q Q' : γ → α → HX → Prop} (H : CR D n a ci x rest ib h L k res m Q) (hq : ∀ c v h1, Q c v h1 → Q' c v h1) : CR D n a ci x rest ib h L k res m Q' := by
  obtain ⟨r, h1, e, X, M⟩ := H
  refine ⟨r, h1, e, X, ?_⟩
  cases m with
  | inl e' => exact M
  | inr v =>
    obtain ⟨c, M1, M2, M3⟩ := M
    exact ⟨c, M1, hq _ _ _ M2, M3⟩
/-- a step ahead -/
theorem CR.pre {α γ : Type} {h1 : HX} {k' : Nat} {res : Option ((γ ⊕ (String × Nat)) × HX)} {m : PR α} {Q : γ → α → HX → Prop} (X : kx h h1 L k) (H : CR D n a ci x rest ib h1 L k' res m Q) : CR D n a ci x rest ib h L (k + k') res m Q := by
  obtain ⟨r, h2, e, X2, M⟩ := H
  exact ⟨r, h2, e, X.tr X2, M⟩
end CRS
section CTK
variable {D : gx_D} {g h : HX} {n a ci x inp p : Nat} {rest : List Value} {ib : List Nat}
theorem PT.c {D : gx_D} (T : PT D n h a ci x rest ib p) : ∃ vl w, pcl h a ci x rest (nI (adv ib p).1) (nI (adv ib p).2.1) vl (some w) (some (D.2.2.1 (120 + (adv ib p).2.2.2.1))) := by
  obtain ⟨vl, w, P, _⟩ := T
  exact ⟨vl, w, P⟩
theorem PT.lt (T : PT D n h a ci x rest ib p) (w : hx_wf h) : a < h.1 := by
  obtain ⟨vl, w', P, _⟩ := T
  exact w.lt P.2
theorem PT.is (T : PT D n h a ci x rest ib p) : hx_is h a [16, 18] = some () ∧ hx_is h a [ci] = some () := by
  obtain ⟨vl, w', P, _⟩ := T
  exact ⟨P.g.1, P.is1⟩
theorem PT.cell (T : PT D n h a ci x rest ib p) : ∃ pf, h.2.2 a = some (true, .inr (ci, pf)) ∧ pf.drop 6 = rest ∧ pf[5]? = some (.ref x) ∧ (ci = 16 ∨ ci = 18) := by
  obtain ⟨vl, w', P, _⟩ := T
  exact ⟨_, P.2, rfl, rfl, P.1⟩
/-- the token stays where only other cells change -/
theorem PT.mov {h1 : HX} {L : List Nat} {k : Nat} (T : PT D n h a ci x rest ib p) (w : hx_wf h) (X : kx h h1 L k) (hL : a ∉ L) (hS : ∀ z, z ∈ L → ∀ c, h.2.2 z = some c → (∃ b t m f, t ≠ 1 ∧ c = (b, .inl (t, m, f))) ∨ ∃ b ci fs, ci ≠ 2 ∧ c = (b, .inr (ci, fs))) : PT D n h1 a ci x rest ib p := by
  obtain ⟨vl, w', P, h2, h3, h4, h5⟩ := T
  have nb : ∀ z m f, h.2.2 z = some (m, .inl (1, f)) → z ∉ L := fun z m f e hz => by
    rcases hS z hz _ e with ⟨b, t, m', f', ht, e'⟩ | ⟨b, c, fs, _, e'⟩
    · cases e'; exact ht rfl
    · cases e'
  have ns : ∀ z m f, h.2.2 z = some (m, .inr (2, f)) → z ∉ L := fun z m f e hz => by
    rcases hS z hz _ e with ⟨b, t, m', f', _, e'⟩ | ⟨b, c, fs, hc, e'⟩
    · cases e'
    · cases e'; exact hc rfl
  refine ⟨vl, w', P.kx w X hL, h2, ?_, fun hk => ?_, h5⟩
  · obtain ⟨fl, v, f, hb, hc, e1, ⟨fl', e2⟩, e3⟩ := h3
    exact ⟨fl, v, f, hb, hc, X.at w (ns _ _ _ e1) e1, ⟨fl', X.at w (nb _ _ _ e2) e2⟩, e3⟩
  · obtain ⟨l1, v, b, c, f, ⟨fl, e1⟩, ⟨fl', e2⟩, e3⟩ := h4 hk
    obtain ⟨g1, g2⟩ := hxN_ge e1
    obtain ⟨g3, g4⟩ := hxN_ge e2
    exact ⟨l1, v, b, c, f, ⟨fl, (hxN_of g1).trans (X.at w (ns _ _ _ g2) g2)⟩, ⟨fl', (hxN_of g3).trans (X.at w (nb _ _ _ g4) g4)⟩, e3⟩
theorem PT.next (E : EV D g x inp ib) (B : HB g n h) (ha : n ≤ a) (T : PT D n h a ci x rest ib p) (hp : p ≤ ib.length) : ∃ h1, f_X10_advance D h a = some h1 ∧ kx h h1 [a] 4 ∧ PT D n h1 a ci x rest ib (tN ib p) := by
  obtain ⟨vl, w, P, _⟩ := T
  exact c_advance E B ha P (tS_le hp).2.2
theorem c_throw {st : Int32} {code : Nat} (w : hx_wf h) (hg : hx_gv h a [16, 18] 0 = some (.int st)) (ha : a < h.1) : ∃ h6, (gx_b2 (hx_new h 8 17 gx_df17) fun a2 h3 => (hx_gi h3 a [16, 18] 0).bind fun x4 => (f_X12_init D h3 a2 (nI code) x4).bind fun h6 => (hx_is h6 a2 [17]).bind fun u7 => (some (.inr ("ContractMachine$ParseException", a2), h6) : Option ((Unit ⊕ (String × Nat)) × HX))) = some (.inr (cPE, h.1), h6) ∧ kx h h6 [] 1 ∧ (∃ fs, hx_ob h6 h.1 17 fs ∧ fs[6]? = some (.int (nI code)) ∧ fs[7]? = some (.int st)) ∧ h6.1 = h.1 + 1 := by
  have n0 := ap_new (n := h.1) (h := h) (B := []) (s := 0) (m := 8) (ci := 17) (fs := gx_df17)
  rw [ap_0 w] at n0
  have q0 : ∃ f0, va_rf (D.2.2.2 0) = f0 := ⟨_, rfl⟩
  have q1 : ∃ f1, va_rf (D.2.2.2 1) = f1 := ⟨_, rfl⟩
  obtain ⟨f0, q0⟩ := q0
  obtain ⟨f1, q1⟩ := q1
  refine ⟨hx_ap h.1 h [.inr (17, [.null, .null, .null, .null, .null, .int 0, .int (nI code), .int st])] 8, ?_, kx.ap (B := [.inr (17, [.null, .null, .null, .null, .null, .int 0, .int (nI code), .int st])]) (show 8 ≤ 12 * 1 by decide), ⟨_, ⟨true, ap_at0⟩, rfl, rfl⟩, rfl⟩
  rw [n0]
  simp [f_X12_init, f_J4_init_2, f_J3_init_3, gx_df17, ap_gvo ha, hg, q0, q1, cPE, ap_new, ap_pv, ap_pv0, ap_gv, ap_gv0, ap_is, ap_is0, ap_len, ap_len0, hx_gi_r, hx_gr_r, hx_pr, hx_pi, gx_b2, gx_bx, Nat.add_assoc, va_rf_s, va_rf_n, hx_okr_n, ap_okr]
/-- what is expected holds -/
theorem f_expect_t (T : PT D n h a ci x rest ib p) (c : Int32) : f_X10_expect D h a true c = some (.inl (), h) := by
  unfold f_X10_expect
  rw [T.is.1, Option.bind_some, if_pos rfl]
theorem f_expect_f (T : PT D n h a ci x rest ib p) (w : hx_wf h) (code : Nat) : ∃ h1, f_X10_expect D h a false (nI code) = some (.inr (cPE, h.1), h1) ∧ kx h h1 [] 1 ∧ exn h1 h.1 (code, tS ib p) := by
  obtain ⟨vl, w', P, _⟩ := T
  obtain ⟨h6, e, X, M, _⟩ := c_throw (D := D) (a := a) (code := code) w ((hx_ob.mk P.2).gv P.cm (k := 0)) (w.lt P.2)
  refine ⟨h6, ?_, X, M⟩
  unfold f_X10_expect
  rw [P.g.1, Option.bind_some, if_neg Bool.false_ne_true, e]
/-- expect, as a step: on, or an error -/
theorem CR.exp {α δ : Type} {L : List Nat} {k : Nat} (T : PT D n h a ci x rest ib p) (w : hx_wf h) {c : Prop} [Decidable c] (code : Nat) {K : Unit → HX → Option ((δ ⊕ (String × Nat)) × HX)} {m : PR α} {Q : δ → α → HX → Prop} (H : c → CR D n a ci x rest ib h L k (K () h) m Q) (hk : 1 ≤ k) : CR D n a ci x rest ib h L k (gx_bx (f_X10_expect D h a (decide c) (nI code)) K fun E q h1 => some (.inr (E, q), h1)) (if c then m else .inl (code, tS ib p)) Q := by
  by_cases hc : c
  · rw [decide_eq_true hc, f_expect_t T, pl_bx_l, if_pos hc]
    exact H hc
  · obtain ⟨h1, e, X, M⟩ := f_expect_f T w code
    rw [decide_eq_false hc, e, pl_bx_r, if_neg hc]
    exact ⟨_, _, rfl, X.up (by simp) hk, _, rfl, M⟩
/-- on to the next token, with a value -/
theorem CR.adv {α δ : Type} (E : EV D g x inp ib) (B : HB g n h) (ha : n ≤ a) (T : PT D n h a ci x rest ib p) (hp : p ≤ ib.length) {K : HX → Option ((δ ⊕ (String × Nat)) × HX)} {m : PR α} {Q : δ → α → HX → Prop} {L : List Nat} {k : Nat} (hL : a ∈ L) (H : ∀ h1, kx h h1 [a] 4 → PT D n h1 a ci x rest ib (tN ib p) → CR D n a ci x rest ib h1 L k (K h1) m Q) : CR D n a ci x rest ib h L (4 + k) ((f_X10_advance D h a).bind K) m Q := by
  obtain ⟨h1, e, X, T1⟩ := T.next E B ha hp
  rw [e, Option.bind_some]
  exact CR.pre (X.up (by simp [hL]) (Nat.le_refl _)) (H h1 X T1)
theorem CR.ret {α δ : Type} {L : List Nat} {c : δ} {v : α} {Q : δ → α → HX → Prop} (T : PT D n h a ci x rest ib p) (w : hx_wf h) (hq : Q c v h) : CR D n a ci x rest ib h L 0 (some (.inl c, h)) (.inr (v, p)) Q := ⟨_, _, rfl, kx.rf w, c, rfl, hq, T⟩
theorem f_isWord (T : PT D n h a ci x rest ib p) {b : Nat} {cs : List Nat} (H : hx_str h b cs) : f_X10_isWord D h a (some b) = some (decide (tW ib p = cs)) := by
  obtain ⟨vl, w, P, _, h3, _⟩ := T
  unfold f_X10_isWord
  rw [P.g.1, Option.bind_some, P.g.2.2.2.2.1, Option.bind_some, Option.bind_some, str_eq h3.str H, Option.bind_some]
theorem f_isOver (E : EV D g x inp ib) (T : PT D n h a ci x rest ib p) (hp : p ≤ ib.length) : f_X10_isOver D h a = some (decide (tK ib p = 3)) := by
  have k5 := (adv_ok hp).2.2.2.1
  obtain ⟨vl, w, P, _⟩ := T
  unfold f_X10_isOver
  rw [P.g.1, Option.bind_some, P.g.2.2.2.2.2.1, Option.bind_some]
  by_cases c : tK ib p = 3
  · rw [if_pos ((E.t (i := tK ib p) (j := 3) k5 (by decide)).2 c), decide_eq_true c]
  · rw [if_neg (fun h => c ((E.t (i := tK ib p) (j := 3) k5 (by decide)).1 h)), decide_eq_false c]
theorem c_name (T : PT D n h a ci x rest ib p) (w : hx_wf h) (hp : p ≤ ib.length) : CR D n a ci x rest ib h [] 1 (f_X10_name D h a) (pName ib p) fun c v h1 => ∃ b, c = some b ∧ h1 = h ∧ n ≤ b ∧ hx_str (hxN n h) b v := by
  have T0 := T
  obtain ⟨vl, w', P, h2, h3, h4, h5⟩ := T
  have len := str_len (D := D) h3.str
  have l100 : (tW ib p).length < 100 := by
    obtain ⟨_, _, _, _, _, _, _, h, _⟩ := h3
    exact h
  have wi := f_within (D := D) (h := h) (nI (tW ib p).length) (nI 1) (nI 6)
  have w1 : decide (nI 1 ≤ nI (tW ib p).length) = decide (1 ≤ (tW ib p).length) := decide_eq_decide.2 (nI_leI (by omega) (by omega))
  have w2 : decide (nI (tW ib p).length ≤ nI 6) = decide ((tW ib p).length ≤ 6) := decide_eq_decide.2 (nI_leI (by omega) (by omega))
  rw [w1, w2, ← Bool.decide_and] at wi
  have wi : f_X1_isWithin D h (Int32.toInt64 (nI (tW ib p).length)) 1 6 = some (decide (1 ≤ (tW ib p).length ∧ (tW ib p).length ≤ 6)) := wi
  unfold f_X10_name pName
  rw [P.g.1, Option.bind_some, P.g.2.2.2.2.1, Option.bind_some, Option.bind_some, len, Option.bind_some, wi, Option.bind_some]
  refine CR.exp T0 w 1 (fun c => ?_) (Nat.le_refl _)
  rw [P.g.2.2.2.2.1, Option.bind_some]
  have k0 : tK ib p = 0 := tW_0 hp (fun e => by rw [e] at c; exact absurd c.1 (by decide))
  exact (CR.ret (L := []) T0 w ⟨w', rfl, rfl, h4 k0⟩).up (by simp) (by decide)
theorem idx_lt {xs : List (List Nat)} {w : List Nat} {k : Nat} (h : idx xs w = some k) : k < xs.length ∧ xs[k]? = some w := by
  obtain ⟨h1, h2, _⟩ := List.findIdx?_eq_some_iff_getElem.1 h
  exact ⟨h1, by rw [List.getElem?_eq_getElem h1, of_decide_eq_true h2]⟩
theorem c_known {l cap : Nat} {xs : List (List Nat)} (E : EV D g x inp ib) (B : HB g n h) (ha : n ≤ a) (T : PT D n h a ci x rest ib p) (hp : p ≤ ib.length) (H : hx_lst hx_str h l cap xs) (hc : cap ≤ 30) : CR D n a ci x rest ib h [a] 6 (f_X10_known D h a (some l)) (pKnown ib xs p) fun c v h1 => c = nI v ∧ v < xs.length := by
  unfold f_X10_known pKnown
  rw [T.is.1, Option.bind_some]
  refine ((c_name T B.1 hp).up (L' := [a]) (by simp) (Nat.le_refl _)).bnd (k' := 5) fun c v p' h1 em X hq T1 => ?_
  obtain ⟨b, rfl, rfl, nb, sb⟩ := hq
  obtain ⟨rfl, rfl, l1, l2⟩ := pName_q em
  rw [f_indexOf H hc (sb.sub hxN_sub), Option.bind_some]
  have lx := H.cap
  have ex : (List.findIdx? (fun x => decide (x = tW ib p')) xs) = idx xs (tW ib p') := rfl
  rw [ex]
  cases e : idx xs (tW ib p') with
  | none =>
    rw [if_pos oI_nn]
    unfold f_X10_known_b20
    rw [Option.bind_some]
    obtain ⟨h2, e2, X2, M2⟩ := f_expect_f T1 B.1 4
    rw [show (4 : Int32) = nI 4 from rfl, e2, pl_bx_r]
    exact ⟨_, _, rfl, X2.up (by simp) (by decide), _, rfl, M2⟩
  | some k =>
    have hk := idx_lt e
    rw [if_neg (oI_sne (show k < 2 ^ 31 by omega))]
    unfold f_X10_known_b20
    rw [Option.bind_some, f_expect_t T1, pl_bx_l]
    refine (CR.adv E B ha T1 hp (by simp) fun h2 X2 T2 => ?_).up (k := 4 + 0) (fun z hz => hz) (by decide)
    exact CR.ret T2 X2.2.1 ⟨rfl, hk.1⟩
theorem c_newName {l cap : Nat} {xs : List (List Nat)} (E : EV D g x inp ib) (B : HB g n h) (ha : n ≤ a) (T : PT D n h a ci x rest ib p) (hci : ci = 16) (hp : p ≤ ib.length) (H : hx_lst hx_str h l cap xs) (hc : cap ≤ 30) : CR D n a ci x rest ib h [a] 6 (f_X10_newName D h a (some l)) (pNew ib xs p) fun c v h1 => ∃ b, c = some b ∧ n ≤ b ∧ b ≠ a ∧ hx_str (hxN n h1) b v ∧ 1 ≤ v.length ∧ v.length ≤ 6 := by
  unfold f_X10_newName pNew
  have i2 := T.is.2
  rw [hci] at i2
  rw [i2, Option.bind_some]
  refine ((c_name T B.1 hp).up (L' := [a]) (by simp) (Nat.le_refl _)).bnd (k' := 5) fun c v p' h1 em X hq T1 => ?_
  obtain ⟨b, rfl, rfl, nb, sb⟩ := hq
  obtain ⟨rfl, rfl, l1, l2⟩ := pName_q em
  rw [f_indexOf H hc (sb.sub hxN_sub), Option.bind_some]
  have lx := H.cap
  have ex : (List.findIdx? (fun x => decide (x = tW ib p')) xs) = idx xs (tW ib p') := rfl
  rw [ex]
  cases e : idx xs (tW ib p') with
  | some k =>
    have hk := idx_lt e
    rw [if_neg (oI_sne (show k < 2 ^ 31 by omega))]
    unfold f_X10_newName_b20
    rw [Option.bind_some]
    obtain ⟨h2, e2, X2, M2⟩ := f_expect_f T1 B.1 3
    rw [show (3 : Int32) = nI 3 from rfl, e2, pl_bx_r]
    exact ⟨_, _, rfl, X2.up (by simp) (by decide), _, rfl, M2⟩
  | none =>
    rw [if_pos oI_nn]
    unfold f_X10_newName_b20
    rw [Option.bind_some, f_expect_t T1, pl_bx_l]
    refine (CR.adv E B ha T1 hp (by simp) fun h2 X2 T2 => ?_).up (k := 4 + 0) (fun z hz => hz) (by decide)
    have hab : b ≠ a := fun e => by
      obtain ⟨pf, c1, _, _, c2⟩ := T1.cell
      have := str_is (sb.sub hxN_sub)
      rw [e] at this
      unfold hx_is at this
      rw [c1] at this
      rcases c2 with c2 | c2 <;> subst c2 <;> cases this
    refine CR.ret T2 X2.2.1 ⟨b, rfl, nb, hab, ?_, l1, l2⟩
    obtain ⟨v, y, z, f, ⟨fl, h1'⟩, ⟨fl2, h2'⟩, h3⟩ := sb
    obtain ⟨c1, c2⟩ := hxN_ge h1'
    obtain ⟨c3, c4⟩ := hxN_ge h2'
    refine ⟨v, y, z, f, ⟨fl, (hxN_of c1).trans (X2.at B.1 (by simp [hab]) c2)⟩, ⟨fl2, (hxN_of c3).trans (X2.at B.1 (fun hv => ?_) c4)⟩, h3⟩
    simp only [List.mem_cons, List.not_mem_nil, or_false] at hv
    obtain ⟨pf, d1, _⟩ := T1.cell
    rw [hv, d1] at c4
    cases c4
theorem c_digit (E : EV D g x inp ib) (B : HB g n h) (ha : n ≤ a) (T : PT D n h a ci x rest ib p) (hp : p ≤ ib.length) : CR D n a ci x rest ib h [a] 6 (f_X10_digit D h a) (pNum ib p) fun c v h1 => c = nI v ∧ v ≤ 9 := by
  have k5 := (adv_ok hp).2.2.2.1
  have T0 := T
  obtain ⟨vl, w, P, h2, _⟩ := T
  have e0 : f_X10_digit D h a = gx_bx (f_X10_number D h a 0 9) (fun x h => some (.inl x, h)) fun E q h => some (.inr (E, q), h) := by
    unfold f_X10_digit
    rw [T0.is.1, Option.bind_some]
  have e1 : pNum ib p = pb (pNum ib p) fun v p' => .inr (v, p') := by
    cases pNum ib p <;> rfl
  rw [e0, e1]
  refine CR.bnd (k := 6) (k' := 0) (Q := fun c v h1 => (c = nI v ∧ v ≤ 9) ∧ hx_wf h1) ?_ (fun c v p' h1 em X hq T1 => CR.ret T1 hq.2 hq.1)
  unfold f_X10_number pNum
  rw [P.g.1, Option.bind_some, P.g.2.2.2.2.2.1, Option.bind_some]
  by_cases c : tK ib p = 1
  · have v0 := h2 c
    rw [if_pos ((E.t (i := tK ib p) (j := 1) k5 (by decide)).2 c), if_pos c]
    unfold f_X10_number_b16
    rw [Option.bind_some, f_expect_t T0, pl_bx_l, P.g.2.2.2.1, Option.bind_some]
    have tv : tV ib p < 1000 := by
      have t := adv_ok hp
      obtain ⟨u1, u2, u3⟩ := t.2.2.2.2.2.2.2.2 c
      have nl := numV_lt (cut ib (tS ib p) (tN ib p)) 0 u3
      have cl : (cut ib (tS ib p) (tN ib p)).length = tN ib p - tS ib p := cut_len (tS_le hp).2.2
      have h10 : (10 : Nat) ^ (cut ib (tS ib p) (tN ib p)).length ≤ 10 ^ 3 := Nat.pow_le_pow_right (by decide) (by
        rw [cl]
        have : tN ib p ≤ tS ib p + 3 := u2
        omega)
      have : tV ib p = numV (cut ib (tS ib p) (tN ib p)) := u1
      have : numV (cut ib (tS ib p) (tN ib p)) < (0 + 1) * 10 ^ (cut ib (tS ib p) (tN ib p)).length := nl
      omega
    have wi := f_within (D := D) (h := h) (nI (tV ib p)) (nI 0) (nI 9)
    rw [decide_eq_true (show nI 0 ≤ nI (tV ib p) from nI_pos' (by omega)), Bool.true_and, decide_eq_decide.2 (nI_leI (a := tV ib p) (b := 9) (by omega) (by omega))] at wi
    have wi : f_X1_isWithin D h (Int32.toInt64 vl) (Int32.toInt64 0) (Int32.toInt64 9) = some (decide (tV ib p ≤ 9)) := by rw [v0]; exact wi
    rw [wi, Option.bind_some]
    refine CR.exp T0 B.1 2 (fun c2 => ?_) (by decide)
    rw [P.g.2.2.2.1, Option.bind_some]
    refine (CR.adv E B ha T0 hp (by simp) fun h2 X2 T2 => ?_).up (k := 4 + 0) (fun z hz => hz) (by decide)
    exact CR.ret T2 X2.2.1 ⟨⟨v0, c2⟩, X2.2.1⟩
  · rw [if_neg (fun h => c ((E.t (i := tK ib p) (j := 1) k5 (by decide)).1 h)), if_neg c]
    unfold f_X10_number_b16
    rw [Option.bind_some]
    obtain ⟨h2, e2, X2, M2⟩ := f_expect_f T0 B.1 1
    rw [show (1 : Int32) = nI 1 from rfl, e2, pl_bx_r]
    exact ⟨_, _, rfl, X2.up (by simp) (by decide), _, rfl, M2⟩
theorem c_semi (E : EV D g x inp ib) (B : HB g n h) (ha : n ≤ a) (T : PT D n h a ci x rest ib p) (hp : p ≤ ib.length) : CR D n a ci x rest ib h [a] 4 (f_X10_endStatement D h a) (pSemi ib p) fun c v h1 => True := by
  have k5 := (adv_ok hp).2.2.2.1
  have T0 := T
  obtain ⟨vl, w, P, h2, _⟩ := T
  unfold f_X10_endStatement pSemi
  rw [P.g.1, Option.bind_some, P.g.2.2.2.2.2.1, Option.bind_some]
  by_cases c : tK ib p = 2
  · rw [if_pos ((E.t (i := tK ib p) (j := 2) k5 (by decide)).2 c), if_pos c]
    unfold f_X10_endStatement_b16
    rw [Option.bind_some, f_expect_t T0, pl_bx_l]
    refine (CR.adv E B ha T0 hp (by simp) fun h2 X2 T2 => ?_).up (k := 4 + 0) (fun z hz => hz) (by decide)
    exact CR.ret T2 X2.2.1 trivial
  · rw [if_neg (fun h => c ((E.t (i := tK ib p) (j := 2) k5 (by decide)).1 h)), if_neg c]
    unfold f_X10_endStatement_b16
    rw [Option.bind_some]
    obtain ⟨h2, e2, X2, M2⟩ := f_expect_f T0 B.1 1
    rw [show (1 : Int32) = nI 1 from rfl, e2, pl_bx_r]
    exact ⟨_, _, rfl, X2.up (by simp) (by decide), _, rfl, M2⟩
theorem c_keyword {b : Nat} {cs : List Nat} (E : EV D g x inp ib) (B : HB g n h) (ha : n ≤ a) (T : PT D n h a ci x rest ib p) (hci : ci = 16) (hp : p ≤ ib.length) (H : hx_str h b cs) : CR D n a ci x rest ib h [a] 4 (f_X10_keyword D h a (some b)) (pWord ib cs p) fun c v h1 => True := by
  have i2 := T.is.2
  rw [hci] at i2
  unfold f_X10_keyword pWord
  rw [i2, Option.bind_some, f_isWord T H, Option.bind_some]
  refine CR.exp T B.1 1 (fun c => ?_) (by decide)
  refine (CR.adv E B ha T hp (by simp) fun h2 X2 T2 => ?_).up (k := 4 + 0) (fun z hz => hz) (by decide)
  exact CR.ret T2 X2.2.1 trivial
end CTK
