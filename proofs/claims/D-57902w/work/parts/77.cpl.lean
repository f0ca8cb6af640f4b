/-! the component's setup parser: any statement, all of them -/
set_option maxRecDepth 100000
set_option linter.unusedSimpArgs false
section G1
variable {ib : List Nat} {p : Nat}
theorem gO.up1 {α : Type} {q q' : Nat} {m : PR α} (H : gO ib q m) (h : ∀ v p', m = .inr (v, p') → q' ≤ p') : gO ib q' m := by
  cases m with
  | inl e => exact H
  | inr v => exact ⟨h v.1 v.2 rfl, H.2⟩
theorem tW_gt (hp : p ≤ ib.length) {m : Nat} (hw : m ≤ (tW ib p).length) (h0 : 0 < m) : p + m ≤ tN ib p := by
  have k0 : tK ib p = 0 := tW_0 hp (fun e => by rw [e] at hw; exact absurd hw (by simp; omega))
  have t := tS_le hp
  have h := ((adv_ok hp).2.2.2.2.2.2.1 k0).1
  have h : tW ib p = cut ib (tS ib p) (tN ib p) := h
  rw [h, cut_len t.2.2] at hw
  omega
theorem gO_known1 {xs : List (List Nat)} (hp : p ≤ ib.length) : gO ib (p + 1) (pKnown ib xs p) := (gO_known hp).up1 fun v p' e => by
  unfold pKnown at e
  obtain ⟨w, p1, h1, h2⟩ := pb_r e
  obtain ⟨_, rfl, l1, _⟩ := pName_q h1
  split at h2
  · cases h2
  · cases h2
    exact tW_gt hp l1 (by decide)
theorem gO_new1 {xs : List (List Nat)} (hp : p ≤ ib.length) : gO ib (p + 1) (pNew ib xs p) := (gO_new hp).up1 fun v p' e => by
  unfold pNew at e
  obtain ⟨w, p1, h1, h2⟩ := pb_r e
  obtain ⟨_, rfl, l1, _⟩ := pName_q h1
  split at h2
  · cases h2
    exact tW_gt hp l1 (by decide)
  · cases h2
theorem gO_semi1 (hp : p ≤ ib.length) : gO ib (p + 1) (pSemi ib p) := (gO_semi hp).up1 fun v p' e => by
  unfold pSemi at e
  split at e
  · rename_i c
    cases e
    exact tN_gt hp (by rw [c]; decide)
  · cases e
theorem gO_many2 {α : Type} {c : Prop} [Decidable c] {k : Nat → PR α} {w : List Nat} (hp : p ≤ ib.length) (hw : tW ib p = w) (l : 2 ≤ w.length) (H : ∀ q, q ≤ ib.length → gO ib (q + 1) (k q)) : gO ib (p + 3) (pMany ib c p k) := by
  unfold pMany
  split
  · exact (H _ (tS_le hp).2.2).dn (by have := tW_gt hp (m := 2) (by rw [hw]; exact l) (by decide); omega)
  · exact gO_e hp (by decide)
theorem gO.b1 {α β : Type} {q : Nat} {m : PR α} {k : α → Nat → PR β} (H : gO ib (q + 1) m) (hk : ∀ v p, p ≤ ib.length → gO ib p (k v p)) : gO ib (q + 1) (pb m k) := H.bnd fun v p _ l _ => hk v p l
theorem gO_three1 {ws vn : List (List Nat)} (hp : p ≤ ib.length) : gO ib (p + 1) (pThree ib ws vn p) := by
  unfold pThree
  exact (gO_known1 hp).b1 fun v p1 l1 => (gO_of l1).bnd fun o p2 _ l2 _ => (gO_num l2).bnd fun c p3 _ l3 _ => ⟨Nat.le_refl _, l3⟩
theorem gO_trans1 {F : DF} (hp : p ≤ ib.length) : gO ib (p + 1) (pTrans ib F p) := by
  unfold pTrans
  exact (gO_known1 hp).b1 fun _ p1 l1 => (gO_known l1).bnd fun _ p2 _ l2 _ => (gO_word l2).bnd fun _ p3 _ l3 _ => (gO_known l3).bnd fun _ p4 _ l4 _ => (gO_if l4).bnd fun _ p5 _ l5 _ => (gO_if l5).bnd fun _ p6 _ l6 _ => ⟨Nat.le_refl _, l6⟩
theorem gO_stm3 {S : SP} (hp : p ≤ ib.length) : gO ib (p + 3) (pStm ib S p) := by
  unfold pStm
  split
  · rename_i c; exact gO_many2 hp c (by decide) fun q l => (gO_new1 l).b1 fun _ _ l1 => ⟨Nat.le_refl _, l1⟩
  split
  · rename_i c; exact gO_many2 hp c (by decide) fun q l => (gO_new1 l).b1 fun _ _ l1 => ⟨Nat.le_refl _, l1⟩
  split
  · rename_i c; exact gO_many2 hp c (by decide) fun q l => (gO_new1 l).b1 fun _ _ l1 => (gO_num l1).bnd fun _ _ _ l2 _ => ⟨Nat.le_refl _, l2⟩
  split
  · rename_i c; exact gO_many2 hp c (by decide) fun q l => (gO_trans1 l).b1 fun _ _ l1 => ⟨Nat.le_refl _, l1⟩
  split
  · rename_i c; exact gO_many2 hp c (by decide) fun q l => (gO_three1 l).b1 fun _ _ l1 => ⟨Nat.le_refl _, l1⟩
  split
  · rename_i c; exact gO_many2 hp c (by decide) fun q l => (gO_known1 l).b1 fun _ _ l1 => (gO_three l1).bnd fun _ _ _ l2 _ => ⟨Nat.le_refl _, l2⟩
  · exact gO_e hp (by decide)
theorem gO_stmt4 {S : SP} (hp : p ≤ ib.length) : gO ib (p + 4) (pStmt ib S p) := by
  unfold pStmt
  refine (gO_stm3 hp).up1 (q' := p + 3) (fun v p' e => ((gO_stm3 hp).r e).1) |>.bnd (k := fun S' p' => pb (pSemi ib p') fun _ p'' => (.inr (S', p'') : PR SP)) (fun S' p1 g1 l1 _ => ?_) |>.up1 fun v p' e => ?_
  · exact (gO_semi l1).bnd fun _ _ _ l2 _ => ⟨Nat.le_refl _, l2⟩
  · obtain ⟨S', p1, e1, e2⟩ := pb_r e
    obtain ⟨u, p2, e3, e4⟩ := pb_r e2
    cases e4
    have a := (gO_stm3 hp).r e1
    have b := (gO_semi1 a.2).r e3
    omega
end G1
/-- which statement -/
def stI (w : List Nat) : Int32 := if w = kw 9 then 0 else if w = kw 10 then 1 else if w = kw 11 then 2 else if w = kw 12 then 3 else if w = kw 13 then 4 else if w = kw 14 then 5 else -1
theorem st_sel {γ : Type} (B : Int32 → Option γ) (W : List Nat) : (if hsh W = -1414557169 then (some (decide (W = kw 13))).bind fun b => if b = true then B 4 else B (-1) else if hsh W = -1183789060 then (some (decide (W = kw 14))).bind fun b => if b = true then B 5 else B (-1) else if hsh W = 3551 then (some (decide (W = kw 12))).bind fun b => if b = true then B 3 else B (-1) else if hsh W = 116519 then (some (decide (W = kw 11))).bind fun b => if b = true then B 2 else B (-1) else if hsh W = 96891546 then (some (decide (W = kw 10))).bind fun b => if b = true then B 1 else B (-1) else if hsh W = 109757585 then (some (decide (W = kw 9))).bind fun b => if b = true then B 0 else B (-1) else B (-1)) = B (stI W) := by
  have h9 : hsh (kw 9) = 109757585 := by decide
  have h10 : hsh (kw 10) = 96891546 := by decide
  have h11 : hsh (kw 11) = 116519 := by decide
  have h12 : hsh (kw 12) = 3551 := by decide
  have h13 : hsh (kw 13) = -1414557169 := by decide
  have h14 : hsh (kw 14) = -1183789060 := by decide
  by_cases c9 : W = kw 9
  · subst c9; rw [h9]; rfl
  by_cases c10 : W = kw 10
  · subst c10; rw [h10]; rfl
  by_cases c11 : W = kw 11
  · subst c11; rw [h11]; rfl
  by_cases c12 : W = kw 12
  · subst c12; rw [h12]; rfl
  by_cases c13 : W = kw 13
  · subst c13; rw [h13]; rfl
  by_cases c14 : W = kw 14
  · subst c14; rw [h14]; rfl
  unfold stI
  simp only [if_neg c9, if_neg c10, if_neg c11, if_neg c12, if_neg c13, if_neg c14, decide_eq_false c9, decide_eq_false c10, decide_eq_false c11, decide_eq_false c12, decide_eq_false c13, decide_eq_false c14, Option.bind_some, if_neg Bool.false_ne_true, ite_self]
section CPL
variable {D : gx_D} {g h : HX} {n a x inp p d : Nat} {ib : List Nat} {S : SP}
theorem c_b256 {p' : Nat} {S' : SP} (E : EV D g x inp ib) (H : PS D g n [] h a x d ib S' p') : CR D n a 16 x (sR d x) ib h (SW a d) 4 (f_X11_statement_b256 D h a) (pb (pSemi ib p') fun _ p'' => .inr (S', p'')) fun c v h1 => SL D n [] h1 a d v := by
  obtain ⟨B, T, Z, hp, _⟩ := id H
  have na := H.na
  have aW : a ∈ SW a d := SW_m.2 (Or.inl rfl)
  unfold f_X11_statement_b256
  rw [T.made.1, Option.bind_some]
  refine (c_semi E B na.1 T hp).bn (L' := SW a d) (k' := 0) (by simp [aW]) fun c v p2 h20 em X q T20 => ?_
  exact CR.ret T20 X.2.1 (Z.mov B.1 X (by simp))
/-- a statement's body, then its semicolon -/
theorem c_body {k : Nat} {res : Option ((Unit ⊕ (String × Nat)) × HX)} (E : EV D g x inp ib) (H : PS D g n [] h a x d ib S p) (C : CR D n a 16 x (sR d x) ib h (SW a d) k res (pStm ib S p) fun c v h1 => SL D n [] h1 a d v) : CR D n a 16 x (sR d x) ib h (SW a d) (k + 4) (gx_bx res (fun u h14 => f_X11_statement_b256 D h14 a) fun E q h14 => some (.inr (E, q), h14)) (pStmt ib S p) fun c v h1 => SL D n [] h1 a d v := by
  have lt := H.2.2.1.lt
  unfold pStmt
  refine C.bnd fun c S' p' h1 em X q T1 => ?_
  refine c_b256 E ⟨H.1.kx X (fun z hz => by rw [SW_m] at hz; omega), T1, q, ((gO_stm3 H.2.2.2.1).r em).2, by simp⟩
/-- the word is hashed -/
theorem c_hash (E : EV D g x inp ib) (H : PS D g n [] h a x d ib S p) : ∃ w h4 L, f_X10_word D h a = some (some w) ∧ f_J9_hashCode D h w = some (hsh (tW ib p), h4) ∧ kx h h4 L 0 ∧ (∀ z, z ∈ L → n ≤ z) ∧ PS D g n [] h4 a x d ib S p ∧ hx_str h4 w (tW ib p) := by
  obtain ⟨B, T, Z, hp, _⟩ := id H
  obtain ⟨vl, w, P, h2, h3, h4', h5⟩ := id T
  have wd : f_X10_word D h a = some (some w) := by
    unfold f_X10_word
    rw [P.g.1, Option.bind_some, P.g.2.2.2.2.1, Option.bind_some]
  by_cases k0 : tK ib p = 0
  · obtain ⟨nw, sw⟩ := h4' k0
    obtain ⟨h4, e, X, W4, lo, ne⟩ := str_hash (D := D) B.1 h3
    have hwa : w ≠ a := fun e => by
      have := str_is h3.str
      rw [e] at this
      unfold hx_is at this
      rw [P.2] at this
      exact absurd this (by simp)
    have nsw : w ∉ SW a d := fun m => by
      obtain ⟨fl, v, f, hb, hc, e1, _⟩ := h3
      rcases Z.ns T _ m _ e1 with ⟨b, t, m, f, _, e⟩ | ⟨b, ci, fs, hc, e⟩
      · cases e
      · cases e; exact hc rfl
    have loV : ∀ (Pr : Nat → Prop) [DecidablePred Pr], hlo (h.1, h.2.1, fun q => if Pr q then none else h.2.2 q) (h4.1, h4.2.1, fun q => if Pr q then none else h4.2.2 q) := fun Pr _ z b e he => by
      have he : (if Pr z then none else h.2.2 z) = some (b, e) := he
      by_cases c : Pr z
      · rw [if_pos c] at he; cases he
      · rw [if_neg c] at he
        have g2 : (if Pr z then none else h4.2.2 z) = h4.2.2 z := if_neg c
        rcases lo z b e he with ⟨b', c1⟩ | ⟨b', v, x, y, y', z1, z2, c1, c2⟩
        · exact Or.inl ⟨b', g2.trans c1⟩
        · exact Or.inr ⟨b', v, x, y, y', z1, z2, c1, g2.trans c2⟩
    have loN : hlo (hxN n h) (hxN n h4) := loV fun q => q < n
    have loW : hlo (hxW n ([] ++ SW a d) h) (hxW n ([] ++ SW a d) h4) := loV fun q => q < n ∨ q ∈ [] ++ SW a d
    have at' : ∀ z, z ∈ SW a d → h4.2.2 z = h.2.2 z := fun z hz => ne z (fun e => nsw (e ▸ hz))
    have nw' : ∀ z, d ≤ z → z < d + 17 → z ≠ w := fun z z1 z2 e => nsw (e ▸ SW_m.2 (Or.inr ⟨z1, z2⟩))
    obtain ⟨h1', hh2, ⟨hh3, hbs⟩, hh4, hh5, hh6, hh7, hh8, hh9, hh10, ⟨f1, hh11⟩, ⟨f2, hh12⟩, ⟨f3, hh13⟩, ⟨f4, hh14⟩, ⟨f5, hh15⟩⟩ := id Z
    have l := X.1
    refine ⟨w, h4, [w], wd, e, X, by simp [nw], ⟨B.kx X (by simp [nw]), ⟨vl, w, ⟨P.1, (ne a (fun e => hwa e.symm)).trans P.2⟩, h2, W4, fun _ => ⟨nw, sw.lo loN⟩, h5⟩, ⟨h1', hh2, ⟨by omega, hbs⟩, (ne _ (nw' _ (by omega) (by omega))).trans hh4, hh5.mov (fun _ _ => hx_str.lo loW) (ne _ (nw' _ (by omega) (by omega))) (ne _ (nw' _ (by omega) (by omega))), hh6.mov (fun _ _ => hx_str.lo loW) (ne _ (nw' _ (by omega) (by omega))) (ne _ (nw' _ (by omega) (by omega))), hh7.mov (fun _ _ => hx_str.lo loW) (ne _ (nw' _ (by omega) (by omega))) (ne _ (nw' _ (by omega) (by omega))), hh8.mov (fun _ _ => hx_tr.lo loW) (ne _ (nw' _ (by omega) (by omega))) (ne _ (nw' _ (by omega) (by omega))), (ne _ (nw' _ (by omega) (by omega))).trans hh9, hh10.mov (fun _ _ => hx_iv.lo loW) (ne _ (nw' _ (by omega) (by omega))) (ne _ (nw' _ (by omega) (by omega))), ⟨f1, (ne _ (nw' _ (by omega) (by omega))).trans hh11⟩, ⟨f2, (ne _ (nw' _ (by omega) (by omega))).trans hh12⟩, ⟨f3, (ne _ (nw' _ (by omega) (by omega))).trans hh13⟩, ⟨f4, (ne _ (nw' _ (by omega) (by omega))).trans hh14⟩, ⟨f5, (ne _ (nw' _ (by omega) (by omega))).trans hh15⟩⟩, hp, by simp⟩, W4.str⟩
  · have ew := h5 k0
    have tw : tW ib p = [] := (adv_ok hp).2.2.2.2.2.2.2.1 k0
    refine ⟨w, h, [], wd, ?_, kx.rf B.1, by simp, H, h3.str⟩
    obtain ⟨v, fl, hv⟩ := E.2.2.2.2.1
    have o : hx_ob h w 2 [va_rf (some v), .int 0, .int 0, .int 1] := by
      rw [ew]
      exact ⟨fl, B.2.1 _ _ hv⟩
    unfold f_J9_hashCode
    rw [o.is (by decide), Option.bind_some, o.gi (by decide) (k := 2) (x := 0) rfl, Option.bind_some, if_pos rfl, o.gi (by decide) (k := 3) (x := 1) rfl, Option.bind_some, if_neg (by decide), tw]
    rfl
theorem c_statement (hap : gx_apt D) (hne : gx_apt2 D) (E : EV D g x inp ib) (H : PS D g n [] h a x d ib S p) (hS : sp_ok S) (hk : tK ib p ≠ 3) : ∃ w L, f_X10_word D h a = some (some w) ∧ (∀ z, z ∈ L → n ≤ z) ∧ CR D n a 16 x (sR d x) ib h L 90 (f_X11_statement D h a (some w)) (pStmt ib S p) fun c v h1 => SL D n [] h1 a d v := by
  obtain ⟨w, h4, L, wd, e, X, hL, H4, W4⟩ := c_hash E H
  have lt := H.2.2.1.lt
  refine ⟨w, L ++ SW a d, wd, fun z hz => ?_, ?_⟩
  · rcases List.mem_append.1 hz with m | m
    · exact hL z m
    · rw [SW_m] at m; omega
  obtain ⟨B, T, Z, hp, _⟩ := id H4
  have na := H4.na
  have eq : ∀ i cs, kcs[i]? = some cs → f_J9_equals D h4 w (some (D.2.2.1 i)) = some (decide (tW ib p = cs)) := fun i cs hi => str_eq W4 (E.k B hi)
  unfold f_X11_statement
  rw [H.2.1.made.1, Option.bind_some, Option.bind_some, e, pl_b2_s]
  rw [eq 13 (kw 13) rfl, eq 14 (kw 14) rfl, eq 12 (kw 12) rfl, eq 11 (kw 11) rfl, eq 10 (kw 10) rfl, eq 9 (kw 9) rfl, st_sel (fun i => f_X11_statement_b149 D h4 a i) (tW ib p)]
  refine CR.pre (k := 0) (k' := 90) (X.up (fun z hz => Or.inl (List.mem_append.2 (Or.inl hz))) (Nat.le_refl _)) ?_
  refine CR.un (L := SW a d) (k := 90) ?_ (fun z hz => Or.inl (List.mem_append.2 (Or.inr hz))) (Nat.le_refl _)
  unfold stI
  have stm := @rfl _ (pStm ib S p)
  unfold f_X11_statement_b149
  by_cases c9 : tW ib p = kw 9
  · rw [if_pos c9, if_pos rfl, T.made.2.1, Option.bind_some, Option.bind_some, Z.rd.2.1, Option.bind_some]
    have C := c_declare (hl := true) E H4 hk
    simp only [if_true] at C
    have e0 : pStm ib S p = _ := if_pos c9
    rw [← e0] at C
    exact (c_body E H4 C).up (fun z hz => hz) (by decide)
  by_cases c10 : tW ib p = kw 10
  · rw [if_neg c9, if_pos c10, if_neg (by decide), if_pos rfl, T.made.2.1, Option.bind_some, Option.bind_some, Z.rd.2.2.1, Option.bind_some]
    have C := c_declare (hl := false) E H4 hk
    simp only [if_neg Bool.false_ne_true] at C
    have e0 : pStm ib S p = _ := (if_neg c9).trans (if_pos c10)
    rw [← e0] at C
    exact (c_body E H4 C).up (fun z hz => hz) (by decide)
  by_cases c11 : tW ib p = kw 11
  · rw [if_neg c9, if_neg c10, if_pos c11, if_neg (by decide), if_neg (by decide), if_pos rfl]
    have C := c_variable E H4 hS
    have e0 : pStm ib S p = _ := (if_neg c9).trans ((if_neg c10).trans (if_pos c11))
    rw [← e0] at C
    exact (c_body E H4 C).up (fun z hz => hz) (by decide)
  by_cases c12 : tW ib p = kw 12
  · rw [if_neg c9, if_neg c10, if_neg c11, if_pos c12, if_neg (by decide), if_neg (by decide), if_neg (by decide), if_pos rfl]
    have C := c_transition hap hne E H4 hS
    have e0 : pStm ib S p = _ := (if_neg c9).trans ((if_neg c10).trans ((if_neg c11).trans (if_pos c12)))
    rw [← e0] at C
    exact (c_body E H4 C).up (fun z hz => hz) (by decide)
  by_cases c13 : tW ib p = kw 13
  · rw [if_neg c9, if_neg c10, if_neg c11, if_neg c12, if_pos c13, if_neg (by decide), if_neg (by decide), if_neg (by decide), if_neg (by decide), if_pos rfl]
    have C := c_invariant hap E H4 hS false
    simp only [if_neg Bool.false_ne_true] at C
    have e0 : pStm ib S p = _ := (if_neg c9).trans ((if_neg c10).trans ((if_neg c11).trans ((if_neg c12).trans (if_pos c13))))
    rw [← e0] at C
    exact (c_body E H4 C).up (fun z hz => hz) (by decide)
  by_cases c14 : tW ib p = kw 14
  · rw [if_neg c9, if_neg c10, if_neg c11, if_neg c12, if_neg c13, if_pos c14, if_neg (by decide), if_neg (by decide), if_neg (by decide), if_neg (by decide), if_neg (by decide), if_pos rfl]
    have C := c_invariant hap E H4 hS true
    simp only [if_true] at C
    have e0 : pStm ib S p = _ := (if_neg c9).trans ((if_neg c10).trans ((if_neg c11).trans ((if_neg c12).trans ((if_neg c13).trans (if_pos c14)))))
    rw [← e0] at C
    exact (c_body E H4 C).up (fun z hz => hz) (by decide)
  · rw [if_neg c9, if_neg c10, if_neg c11, if_neg c12, if_neg c13, if_neg c14, if_neg (by decide), if_neg (by decide), if_neg (by decide), if_neg (by decide), if_neg (by decide), if_neg (by decide), if_pos (by decide), T.made.1, Option.bind_some]
    have e0 : pStmt ib S p = .inl (1, tS ib p) := by
      unfold pStmt pStm
      rw [if_neg c9, if_neg c10, if_neg c11, if_neg c12, if_neg c13, if_neg c14]
      rfl
    rw [e0]
    obtain ⟨h2, e2, X2, M2⟩ := f_expect_f T B.1 1
    rw [show (1 : Int32) = nI 1 from rfl, e2, pl_bx_r]
    exact ⟨_, _, rfl, X2.up (by simp) (by decide), _, rfl, M2⟩
end CPL
