/-! the component's setup parser: comparisons, actions, transitions -/
set_option maxRecDepth 100000
set_option linter.unusedSimpArgs false
theorem CR.un {α γ : Type} {D : gx_D} {n a ci x k k' : Nat} {rest : List Value} {ib : List Nat} {h : HX} {L L' : List Nat} {res : Option ((γ ⊕ (String × Nat)) × HX)} {m : PR α} {Q : γ → α → HX → Prop} (H : CR D n a ci x rest ib h L k res m Q) (hL : ∀ z, z ∈ L → z ∈ L' ∨ h.1 ≤ z) (hk : k ≤ k') : CR D n a ci x rest ib h L' k' res m Q := by
  obtain ⟨r, h1, e, X, M⟩ := H
  exact ⟨r, h1, e, X.up hL hk, M⟩
theorem CR.bn {α β γ δ : Type} {D : gx_D} {n a ci x k k' : Nat} {rest : List Value} {ib : List Nat} {h : HX} {L L' : List Nat} {res : Option ((γ ⊕ (String × Nat)) × HX)} {m : PR α} {Q : γ → α → HX → Prop} {K : γ → HX → Option ((δ ⊕ (String × Nat)) × HX)} {f : α → Nat → PR β} {Q' : δ → β → HX → Prop} (H : CR D n a ci x rest ib h L k res m Q) (hL : ∀ z, z ∈ L → z ∈ L')
    (hK : ∀ c v p' h1, m = .inr (v, p') → kx h h1 L k → Q c v h1 → PT D n h1 a ci x rest ib p' → CR D n a ci x rest ib h1 L' k' (K c h1) (f v p') Q') : CR D n a ci x rest ib h L' (k + k') (gx_bx res K fun E q h1 => some (.inr (E, q), h1)) (pb m f) Q' := by
  obtain ⟨r, h1, e, X, M⟩ := H
  have XL := X.up (L' := L') (fun z hz => Or.inl (hL z hz)) (Nat.le_refl k)
  cases m with
  | inl e' =>
    obtain ⟨q, rfl, M2⟩ := M
    exact ⟨.inr (cPE, q), h1, by rw [e, pl_bx_r], XL.up (fun z hz => Or.inl hz) (by omega), q, rfl, M2⟩
  | inr v =>
    obtain ⟨v, p'⟩ := v
    obtain ⟨c, rfl, M2, M3⟩ := M
    obtain ⟨r2, h2, e2, X2, M4⟩ := hK c v p' h1 rfl X M2 M3
    exact ⟨r2, h2, by rw [e, pl_bx_l, e2], XL.tr X2, M4⟩
theorem gO.r {α : Type} {ib : List Nat} {q : Nat} {m : PR α} {v : α} {p : Nat} (H : gO ib q m) (e : m = .inr (v, p)) : q ≤ p ∧ p ≤ ib.length := by
  rw [e] at H
  exact H
/-- all of it at a heap -/
def PS (D : gx_D) (g : HX) (n : Nat) (bs : List Nat) (h : HX) (a x d : Nat) (ib : List Nat) (S : SP) (p : Nat) : Prop := HB g n h ∧ PT D n h a 16 x (sR d x) ib p ∧ SL D n bs h a d S ∧ p ≤ ib.length ∧ ∀ b, b ∈ bs → b < h.1
section CST
variable {D : gx_D} {g h : HX} {n a x inp p d : Nat} {bs : List Nat} {ib : List Nat} {S : SP}
theorem PS.mov {h1 : HX} {L : List Nat} {k p' : Nat} (H : PS D g n bs h a x d ib S p) (X : kx h h1 L k) (hL : ∀ z, z ∈ L → z = a ∨ z ∈ bs ∨ h.1 ≤ z) (T : PT D n h1 a 16 x (sR d x) ib p') (hp : p' ≤ ib.length) : PS D g n bs h1 a x d ib S p' :=
  ⟨H.1.kx X (fun z hz => by
    have n1 := H.2.2.1.1
    have n2 := H.2.2.1.2.1
    rcases hL z hz with c | c | c
    · omega
    · have := H.2.2.1.2.2.1.2 z c; omega
    · exact Nat.le_trans H.1.2.2.1 c), T, H.2.2.1.mov H.1.1 X hL, hp, fun b hb => Nat.lt_of_lt_of_le (H.2.2.2.2 b hb) X.1⟩
theorem PS.na (H : PS D g n bs h a x d ib S p) : n ≤ a ∧ a < h.1 := ⟨H.2.2.1.1, H.2.1.lt H.1.1⟩
/-- a cell pushed -/
theorem PS.new {m ci : Nat} {fs : List Value} (H : PS D g n bs h a x d ib S p) (hm : m ≤ 12) : ∃ h1, hx_new h m ci fs = some (h.1, h1) ∧ kx h h1 [] 1 ∧ h1.2.2 h.1 = some (true, .inr (ci, fs)) ∧ h1.1 = h.1 + 1 ∧ PS D g n (h.1 :: bs) h1 a x d ib S p := by
  obtain ⟨h1, e1, e2, e3, e4⟩ := x_new (ci := ci) (fs := fs) H.1.1 hm
  refine ⟨h1, e1, e2, e3, e4, H.1.kx e2 (by simp), H.2.1.mov H.1.1 e2 (by simp) (by simp), (H.2.2.1.in H.1.1).mov H.1.1 e2 (by simp), H.2.2.2.1, fun b hb => ?_⟩
  rcases List.mem_cons.1 hb with hb | hb
  · omega
  · have := H.2.2.2.2 b hb; omega
/-- a hole's cell written -/
theorem PS.wr {h1 : HX} {b ci : Nat} {fs : List Value} (H : PS D g n bs h a x d ib S p) (hb : b ∈ bs) (hc : ci ≠ 2) (ho : h.2.2 b = some (true, .inr (ci, fs))) (X : kx h h1 [b] 0) : PS D g n bs h1 a x d ib S p := by
  have lt := H.2.2.1.2.1
  have l2 := H.2.2.1.2.2.1.2 b hb
  refine H.mov X (by simp [hb]) (H.2.1.mov H.1.1 X (by simp; omega) (fun z hz c e => ?_)) H.2.2.2.1
  simp only [List.mem_cons, List.not_mem_nil, or_false] at hz
  subst hz
  rw [ho] at e
  cases e
  exact Or.inr ⟨_, _, _, hc, rfl⟩
theorem PS.out {b : Nat} (H : PS D g n (b :: bs) h a x d ib S p) : PS D g n bs h a x d ib S p := ⟨H.1, H.2.1, H.2.2.1.out, H.2.2.2.1, fun b hb => H.2.2.2.2 b (List.mem_cons_of_mem _ hb)⟩
theorem kx.b {h h1 : HX} {b : Nat} (w : hx_wf h) (hb : b < h.1) (k : hx_kp h h1 [b]) : kx h h1 [b] 0 := kx.kp w (by simp [hb]) k
/-- the last object's fields written, it is frozen -/
theorem PS.fin2 {b ci : Nat} {h1 : HX} {fs fs' : List Value} (H : PS D g n (b :: bs) h a x d ib S p) (nb : b ∉ bs) (hc : ci ≠ 2) (ho : h.2.2 b = some (true, .inr (ci, fs))) (K : hx_kp h h1 [b]) (ho1 : h1.2.2 b = some (true, .inr (ci, fs'))) : PS D g n bs (hx_fz1 h1 b) a x d ib S p ∧ kx h (hx_fz1 h1 b) [b] 0 ∧ hx_ob (hxW n (bs ++ SW a d) (hx_fz1 h1 b)) b ci fs' := by
  have lt := H.2.2.1.2.1
  have l2 := H.2.2.1.2.2.1.2 b (by simp)
  have bl := H.1.1.lt ho
  have X1 := kx.b H.1.1 bl K
  have X := X1.tr (kx.fz X1.2.1)
  refine ⟨(H.wr (by simp) hc ho X).out, X, ⟨false, ?_⟩⟩
  rw [hxW_of (by have := H.2.2.1.1; omega) (fun m => ?_), fz1_o ho1]
  rcases List.mem_append.1 m with m | m
  · exact nb m
  · rw [SW_m] at m
    omega
theorem f_cpI {b : Nat} {x1 x3 : Int32} {x2 : Option Nat} (ho : h.2.2 b = some (true, .inr (14, gx_df14))) : ∃ h1, f_X7_init D h b x1 x2 x3 = some h1 ∧ hx_kp h h1 [b] ∧ h1.2.2 b = some (true, .inr (14, [.int x1, .int x3, va_rf x2])) := by
  obtain ⟨i1, e1, k1, o1⟩ := hx_pv_k (k := 0) (v := .int x1) ho (by decide)
  obtain ⟨i2, e2, k2, o2⟩ := hx_pv_k (k := 2) (v := va_rf x2) o1 (by simp [gx_df14, gx_df12])
  obtain ⟨i3, e3, k3, o3⟩ := hx_pv_k (k := 1) (v := .int x3) o2 (by simp [gx_df14, gx_df12])
  refine ⟨i3, ?_, (k1.tr k2).tr k3, o3⟩
  unfold f_X7_init hx_pi hx_pr
  rw [e1, Option.bind_some, e2, Option.bind_some, e3, Option.bind_some]
theorem f_acI {b : Nat} {x1 x3 : Int32} {x2 : Option Nat} (ho : h.2.2 b = some (true, .inr (12, gx_df12))) : ∃ h1, f_X5_init D h b x1 x2 x3 = some h1 ∧ hx_kp h h1 [b] ∧ h1.2.2 b = some (true, .inr (12, [.int x1, .int x3, va_rf x2])) := by
  obtain ⟨i1, e1, k1, o1⟩ := hx_pv_k (k := 0) (v := .int x1) ho (by decide)
  obtain ⟨i2, e2, k2, o2⟩ := hx_pv_k (k := 2) (v := va_rf x2) o1 (by simp [gx_df14, gx_df12])
  obtain ⟨i3, e3, k3, o3⟩ := hx_pv_k (k := 1) (v := .int x3) o2 (by simp [gx_df14, gx_df12])
  refine ⟨i3, ?_, (k1.tr k2).tr k3, o3⟩
  unfold f_X5_init hx_pi hx_pr
  rw [e1, Option.bind_some, e2, Option.bind_some, e3, Option.bind_some]
def cpQ (D : gx_D) (G : HX) (c : Option Nat) (v : CP) : Prop := ∃ b, c = some b ∧ hx_cp D G b (nI v.1) v.2.1 (nI v.2.2) ∧ cp_ok v
def acQ (D : gx_D) (G : HX) (c : Option Nat) (v : AC) : Prop := ∃ b, c = some b ∧ hx_ac D G b v ∧ ac_ok v
theorem c_comparison (hap : gx_apt D) (E : EV D g x inp ib) (H : PS D g n bs h a x d ib S p) (hv : S.1.vn.length ≤ 3) : CR D n a 16 x (sR d x) ib h [a] 20 (f_X11_comparison D h a) (pThree ib opW S.1.vn p) fun c v h1 => cpQ D (hxW n (bs ++ SW a d) h1) c v ∧ SL D n bs h1 a d S ∧ v.1 < S.1.vn.length := by
  obtain ⟨B, T, Z, hp, hbs⟩ := id H
  have na := H.na
  unfold f_X11_comparison pThree
  rw [T.made.1, Option.bind_some, T.made.2.1, Option.bind_some, Option.bind_some, Z.rd.2.2.2.1, Option.bind_some, Option.bind_some]
  refine ((c_known E B na.1 T hp Z.ls.2.2.1 (by decide)).bnd (k' := 14) fun c v p1 h7 em X q T1 => ?_).up (fun z hz => hz) (by decide)
  have l1 := ((gO_known hp).r em).2
  have H1 := H.mov X (by simp) T1 l1
  refine ((c_operator hap E H1.1 na.1 T1 l1).bnd (k' := 10) fun c2 o p2 h12 em2 X2 q2 T2 => ?_).up (fun z hz => hz) (by decide)
  have l2 := ((gO_of l1).r em2).2
  have H2 := H1.mov X2 (by simp) T2 l2
  obtain ⟨h16, e16, X16, o16, s16, H16⟩ := H2.new (m := 3) (ci := 14) (fs := gx_df14) (by decide)
  rw [e16, pl_b2_s, H16.2.1.made.1, Option.bind_some]
  refine CR.un (L := [a, h12.1]) (k := 1 + (6 + 0)) ?_ (by simp) (by decide)
  refine CR.pre (X16.up (by simp) (Nat.le_refl _)) ?_
  refine (c_digit E H16.1 na.1 H16.2.1 l2).bn (L' := [a, h12.1]) (by simp) fun c3 w p3 h20 em3 X3 q3 T3 => ?_
  have l3 := ((gO_num l2).r em3).2
  have H20 := H16.mov X3 (by simp) T3 l3
  have nb : h12.1 ≠ a := fun e => by have := H2.na.2; omega
  have o20 := X3.at H16.1.1 (by simp [nb]) o16
  obtain ⟨h24, e24, k24, o24⟩ := f_cpI (D := D) (x1 := c) (x3 := c3) (x2 := c2) o20
  have nbs : h12.1 ∉ bs := fun m => by have := H2.2.2.2.2 _ m; omega
  obtain ⟨HF, XF, OF⟩ := H20.fin2 nbs (by decide) o20 k24 o24
  rw [e24, Option.bind_some]
  obtain ⟨qa, qb⟩ := q
  obtain ⟨q2a, q2b⟩ := q2
  obtain ⟨q3a, q3b⟩ := q3
  refine CR.pre (k := 0) (k' := 0) (XF.up (by simp) (Nat.le_refl _)) (CR.ret HF.2.1 XF.2.1 ⟨⟨_, rfl, ?_, ?_, q2b, ?_⟩, HF.2.2.1, qb⟩)
  · rw [qa, q3a, q2a] at OF
    exact OF
  · show v < 3
    omega
  · show w < 10
    omega
theorem c_effect (hne : gx_apt2 D) (E : EV D g x inp ib) (B : HB g n h) (ha : n ≤ a) (T : PT D n h a 16 x (sR d x) ib p) (hp : p ≤ ib.length) : CR D n a 16 x (sR d x) ib h [a] 4 (f_X11_effect D h a) (pOf ib efW p) fun c v h1 => c = some (D.2.2.1 (110 + v)) ∧ v < 3 := by
  have n0 : ¬ (some (D.2.2.1 110) = some (D.2.2.1 112)) := fun e => by have := hne 0 2 (by decide) (by decide) (Option.some.inj e); cases this
  have n1 : ¬ (some (D.2.2.1 111) = some (D.2.2.1 112)) := fun e => by have := hne 1 2 (by decide) (by decide) (Option.some.inj e); cases this
  have w18 := f_isWord T (E.k B (i := 18) (cs := kw 18) rfl)
  have w19 := f_isWord T (E.k B (i := 19) (cs := kw 19) rfl)
  have w20 := f_isWord T (E.k B (i := 20) (cs := kw 20) rfl)
  have go : ∀ v, v < 3 → CR D n a 16 x (sR d x) ib h [a] 4 (f_X11_effect_b52 D h a (some (D.2.2.1 (110 + v)))) (.inr (v, tN ib p)) fun c v h1 => c = some (D.2.2.1 (110 + v)) ∧ v < 3 := fun v hv => by
    unfold f_X11_effect_b52
    rw [T.made.1, Option.bind_some]
    refine (CR.adv E B ha T hp (by simp) fun h2 X2 T2 => ?_).up (k := 4 + 0) (fun z hz => hz) (by decide)
    exact CR.ret T2 X2.2.1 ⟨rfl, hv⟩
  have i0 : tW ib p = kw 18 → pOf ib efW p = .inr (0, tN ib p) := fun c0 => by
    unfold pOf idx efW
    have : List.findIdx? (fun x => decide (x = tW ib p)) [kw 18, kw 19, kw 20] = some 0 := by simp [List.findIdx?_cons, c0]
    rw [this]
  have i1 : ¬ tW ib p = kw 18 → tW ib p = kw 19 → pOf ib efW p = .inr (1, tN ib p) := fun c0 c1 => by
    have c0' : ¬ kw 18 = tW ib p := fun e => c0 e.symm
    unfold pOf idx efW
    have : List.findIdx? (fun x => decide (x = tW ib p)) [kw 18, kw 19, kw 20] = some 1 := by
      rw [c1] at c0' ⊢
      simp [List.findIdx?_cons, c0']
    rw [this]
  have i2 : ¬ tW ib p = kw 18 → ¬ tW ib p = kw 19 → pOf ib efW p = if tW ib p = kw 20 then .inr (2, tN ib p) else .inl (1, tS ib p) := fun c0 c1 => by
    have c0' : ¬ kw 18 = tW ib p := fun e => c0 e.symm
    have c1' : ¬ kw 19 = tW ib p := fun e => c1 e.symm
    unfold pOf idx efW
    by_cases c2 : tW ib p = kw 20
    · rw [if_pos c2]
      have : List.findIdx? (fun x => decide (x = tW ib p)) [kw 18, kw 19, kw 20] = some 2 := by
        rw [c2] at c0' c1' ⊢
        simp [List.findIdx?_cons, c0', c1']
      rw [this]
    · rw [if_neg c2]
      have c2' : ¬ kw 20 = tW ib p := fun e => c2 e.symm
      have : List.findIdx? (fun x => decide (x = tW ib p)) [kw 18, kw 19, kw 20] = none := by
        simp [List.findIdx?_cons, c0', c1', c2']
      rw [this]
  unfold f_X11_effect
  rw [T.made.1, Option.bind_some, Option.bind_some, w18, Option.bind_some, Option.bind_some, w19]
  by_cases c0 : tW ib p = kw 18
  · rw [if_pos (decide_eq_true c0)]
    rw [i0 c0]
    unfold f_X11_effect_b33
    rw [if_neg n0]
    exact go 0 (by decide)
  · rw [if_neg (by rw [decide_eq_false c0]; decide), Option.bind_some]
    by_cases c1 : tW ib p = kw 19
    · rw [if_pos (decide_eq_true c1), i1 c0 c1]
      unfold f_X11_effect_b33
      rw [if_neg n1]
      exact go 1 (by decide)
    · rw [if_neg (by rw [decide_eq_false c1]; decide), i2 c0 c1]
      unfold f_X11_effect_b33
      rw [if_pos rfl, T.made.1, Option.bind_some, w20, Option.bind_some, Option.bind_some]
      exact CR.exp T B.1 1 (fun c => go 2 (by decide)) (by decide)
def opQ {α : Type} (Q : Option Nat → α → Prop) (c : Option Nat) (v : Option α) : Prop := match v with
  | none => c = none
  | some v => Q c v
theorem c_guard (hap : gx_apt D) (E : EV D g x inp ib) (H : PS D g n bs h a x d ib S p) (hv : S.1.vn.length ≤ 3) : CR D n a 16 x (sR d x) ib h [a] 24 (f_X11_guard D h a) (pIf ib (kw 16) opW S.1.vn p) fun c v h1 => opQ (cpQ D (hxW n (bs ++ SW a d) h1)) c v ∧ SL D n bs h1 a d S := by
  obtain ⟨B, T, Z, hp, hbs⟩ := id H
  have na := H.na
  unfold f_X11_guard pIf
  rw [T.made.1, Option.bind_some, Option.bind_some, f_isWord T (E.k B (i := 16) (cs := kw 16) rfl), Option.bind_some]
  by_cases c : tW ib p = kw 16
  · rw [if_pos (decide_eq_true c), if_pos c, Option.bind_some]
    refine (CR.adv E B na.1 T hp (by simp) fun h7 X7 T7 => ?_).up (k := 4 + 20) (fun z hz => hz) (by decide)
    have H7 := H.mov X7 (by simp) T7 (tS_le hp).2.2
    refine ((c_comparison hap E H7 hv).bnd (k' := 0) fun c2 v p' h10 em X q T10 => ?_).up (fun z hz => hz) (by decide)
    exact CR.ret T10 X.2.1 ⟨q.1, q.2.1⟩
  · rw [if_neg (by rw [decide_eq_false c]; decide), if_neg c]
    exact (CR.ret (L := [a]) T B.1 ⟨rfl, Z⟩).up (fun z hz => hz) (by decide)
theorem c_action (hap : gx_apt D) (hne : gx_apt2 D) (E : EV D g x inp ib) (H : PS D g n bs h a x d ib S p) (hv : S.1.vn.length ≤ 3) : CR D n a 16 x (sR d x) ib h [a] 24 (f_X11_action D h a) (pIf ib (kw 17) efW S.1.vn p) fun c v h1 => opQ (acQ D (hxW n (bs ++ SW a d) h1)) c v ∧ SL D n bs h1 a d S := by
  obtain ⟨B, T, Z, hp, hbs⟩ := id H
  have na := H.na
  unfold f_X11_action pIf
  rw [T.made.1, Option.bind_some, Option.bind_some, f_isWord T (E.k B (i := 17) (cs := kw 17) rfl), Option.bind_some]
  by_cases c : tW ib p = kw 17
  · rw [if_pos (decide_eq_true c), if_pos c, Option.bind_some]
    refine (CR.adv E B na.1 T hp (by simp) fun h7 X7 T7 => ?_).up (k := 4 + 20) (fun z hz => hz) (by decide)
    have l7 := (tS_le hp).2.2
    have H7 := H.mov X7 (by simp) T7 l7
    rw [T7.made.2.1, Option.bind_some, Option.bind_some, H7.2.2.1.rd.2.2.2.1, Option.bind_some, T7.made.1, Option.bind_some]
    have e0 : (pb (pThree ib efW S.1.vn (tN ib p)) fun v p' => (.inr (some v, p') : PR (Option AC))) = pb (pKnown ib S.1.vn (tN ib p)) fun v p1 => pb (pOf ib efW p1) fun o p2 => pb (pNum ib p2) fun c p3 => .inr (some (v, o, c), p3) := by
      unfold pThree
      cases pKnown ib S.1.vn (tN ib p) with
      | inl e => rfl
      | inr u =>
        simp only [pb]
        cases pOf ib efW u.2 with
        | inl e => rfl
        | inr u2 =>
          simp only
          cases pNum ib u2.2 with
          | inl e => rfl
          | inr u3 => rfl
    rw [e0]
    refine ((c_known E H7.1 na.1 T7 l7 H7.2.2.1.ls.2.2.1 (by decide)).bnd (k' := 14) fun c v p1 h14 em X q T1 => ?_).up (fun z hz => hz) (by decide)
    have l1 := ((gO_known l7).r em).2
    have H1 := H7.mov X (by simp) T1 l1
    refine ((c_effect hne E H1.1 na.1 T1 l1).bnd (k' := 10) fun c2 o p2 h19 em2 X2 q2 T2 => ?_).up (fun z hz => hz) (by decide)
    have l2 := ((gO_of l1).r em2).2
    have H2 := H1.mov X2 (by simp) T2 l2
    obtain ⟨h23, e23, X23, o23, s23, H23⟩ := H2.new (m := 3) (ci := 12) (fs := gx_df12) (by decide)
    rw [e23, pl_b2_s, H23.2.1.made.1, Option.bind_some]
    refine CR.un (L := [a, h19.1]) (k := 1 + (6 + 0)) ?_ (by simp) (by decide)
    refine CR.pre (X23.up (by simp) (Nat.le_refl _)) ?_
    refine (c_digit E H23.1 na.1 H23.2.1 l2).bn (L' := [a, h19.1]) (by simp) fun c3 w p3 h27 em3 X3 q3 T3 => ?_
    have l3 := ((gO_num l2).r em3).2
    have H27 := H23.mov X3 (by simp) T3 l3
    have nb : h19.1 ≠ a := fun e => by have := H2.na.2; omega
    have o27 := X3.at H23.1.1 (by simp [nb]) o23
    obtain ⟨h31, e31, k31, o31⟩ := f_acI (D := D) (x1 := c) (x3 := c3) (x2 := c2) o27
    have nbs : h19.1 ∉ bs := fun m => by have := H2.2.2.2.2 _ m; omega
    obtain ⟨HF, XF, OF⟩ := H27.fin2 nbs (by decide) o27 k31 o31
    rw [e31, Option.bind_some]
    obtain ⟨qa, qb⟩ := q
    obtain ⟨q2a, q2b⟩ := q2
    obtain ⟨q3a, q3b⟩ := q3
    refine CR.pre (k := 0) (k' := 0) (XF.up (by simp) (Nat.le_refl _)) (CR.ret HF.2.1 XF.2.1 ⟨⟨_, rfl, ?_, ?_, q2b, ?_⟩, HF.2.2.1⟩)
    · rw [qa, q3a, q2a] at OF
      exact OF
    · show v < 3
      omega
    · show w < 10
      omega
  · rw [if_neg (by rw [decide_eq_false c]; decide), if_neg c]
    exact (CR.ret (L := [a]) T B.1 ⟨rfl, Z⟩).up (fun z hz => hz) (by decide)
end CST
