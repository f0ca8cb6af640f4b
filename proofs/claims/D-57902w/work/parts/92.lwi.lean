/-! the law's loop: what holds at its head -/
set_option maxRecDepth 100000
set_option linter.unusedSimpArgs false
def acA (N : Nat) (A : AT) : Prop := acB N A.2.1 ∧ (∀ R, A.2.2.1 = some R → acB N R) ∧ ∀ R, R ∈ A.2.2.2.1 → acB N R
def holeL (h : HX) (o : Nat) : Prop := o + 14 ≤ h.1 ∧ ∀ q : Nat, o ≤ q → q < o + 14 → h.2.2 q = none
/-- behind a call, at the loop's head -/
def LI (D : gx_D) (o p0 L : Nat) (xs : Nat → Int32) (Y : YT) (N : Nat) (h : HX) (s : MS) (A : AT) : Prop := cE D h Y A ∧ mI s A ∧ a_ok A ∧ KC D h ∧ holeL h o ∧ h.2.2 p0 = some (false, .inl (0, L, .inl xs)) ∧ acA N A
/-- ahead of a call -/
def LC (D : gx_D) (o p0 L : Nat) (xs : Nat → Int32) (Y : YT) (N : Nat) (h : HX) (s : MS) (A : AT) : Prop := cI D h Y A ∧ mI s A ∧ KC D h ∧ holeL h o ∧ h.2.2 p0 = some (false, .inl (0, L, .inl xs)) ∧ acA N A
section LWI
variable {D : gx_D} {o p0 L N : Nat} {xs : Nat → Int32} {Y : YT} {h : HX} {s : MS} {A : AT}
theorem LI.fz (H : LI D o p0 L xs Y N h s A) (h1 : gx_apt D) (h2 : gx_apt2 D) : LC D o p0 L xs Y N (law_fz h (some Y.1) (some Y.2.2.2.2.2.2.2.2)) s A := by
  obtain ⟨c, m, ok, k, ⟨o1, o2⟩, sc, ac⟩ := H
  refine ⟨c.fz ok h1 h2, m, k.sub (fun z e he => ?_), ⟨o1, fun q q1 q2 => ?_⟩, ?_, ac⟩
  · obtain ⟨k1, k2, k3⟩ := hzf_eq he
    obtain ⟨b, v⟩ := e
    simp only at k2
    subst k2
    refine hzf_of k1 ?_
    rw [law_fz_at, k3]
    rfl
  · rw [law_fz_at, o2 q q1 q2]
  · rw [law_fz_at, sc]
    rfl
theorem LC.go {N' : Nat} {h' : HX} {s' : MS} {A' : AT} (H : LC D o p0 L xs Y N h s A) (l : gx_le h h') (E : cE D h' Y A') (M : mI s' A') (ok : a_ok A') (ac : acA N' A') : LI D o p0 L xs Y N' h' s' A' := by
  obtain ⟨c, m, k, ⟨o1, o2⟩, sc, _⟩ := H
  have w : hx_wf h := c.choose_spec.1
  exact ⟨E, M, ok, k.sub l.zf, ⟨Nat.le_trans o1 l.1, fun q q1 q2 => l.2.2.2.2 q (by omega) (o2 q q1 q2)⟩, l.2.2.2.1 p0 _ (w.lt sc) sc, ac⟩
theorem LC.ok (H : LC D o p0 L xs Y N h s A) : a_ok A := H.1.A.1
theorem LC.M (H : LC D o p0 L xs Y N h s A) : mM s A.1 A.2.1 := H.2.1.M H.ok
theorem LC.vm (H : LC D o p0 L xs Y N h s A) : hx_vm D h Y.1 A.1 A.2.1 := H.1.vm
theorem acA.up {N N' : Nat} {A : AT} (H : acA N A) (hn : N ≤ N') : acA N' A := ⟨H.1.up hn, fun R hR => (H.2.1 R hR).up hn, fun R hR => (H.2.2 R hR).up hn⟩
/-- the script's cells -/
theorem scr_at {h : HX} {i : Nat} (sc : h.2.2 p0 = some (false, .inl (0, L, .inl xs))) (hL : L ≤ 144) (hi : i + 6 ≤ L) : hx_ai h p0 0 (nI i) = some (xs i) ∧ hx_ai h p0 0 (nI i + 1) = some (xs (i + 1)) ∧ hx_ai h p0 0 (nI i + 2) = some (xs (i + 2)) ∧ hx_ai h p0 0 (nI i + 3) = some (xs (i + 3)) ∧ hx_ai h p0 0 (nI i + 4) = some (xs (i + 4)) ∧ hx_ai h p0 0 (nI i + 5) = some (xs (i + 5)) := by
  have a : ∀ k, k < L → hx_ai h p0 0 (nI k) = some (xs k) := fun k hk => hx_oi.ai ⟨false, sc⟩ hk (by omega)
  refine ⟨a i (by omega), ?_, ?_, ?_, ?_, ?_⟩
  · rw [nI_1]; exact a _ (by omega)
  · rw [show (2 : Int32) = nI 2 from rfl, nI_add]; exact a _ (by omega)
  · rw [show (3 : Int32) = nI 3 from rfl, nI_add]; exact a _ (by omega)
  · rw [show (4 : Int32) = nI 4 from rfl, nI_add]; exact a _ (by omega)
  · rw [show (5 : Int32) = nI 5 from rfl, nI_add]; exact a _ (by omega)
theorem LC.sc {h' : HX} (H : LC D o p0 L xs Y N h s A) (l : gx_le h h') : h'.2.2 p0 = some (false, .inl (0, L, .inl xs)) := l.2.2.2.1 p0 _ (H.1.choose_spec.1.lt H.2.2.2.2.1) H.2.2.2.2.1
/-- the cell of results is written -/
theorem cE.sl (H : cE D h Y A) (x : Int64) : ∃ h1, hx_sl h Y.2.2.2.2.2.2.2.2 0 x = some h1 ∧ cE D h1 Y A ∧ hx_al h1 Y.2.2.2.2.2.2.2.2 0 = some x ∧ h1.1 = h.1 ∧ h1.2.1 = h.2.1 := by
  obtain ⟨ov, w, op, d, r, cap, t, p, fnd, dl, fib, as, gop, k1, k2, ⟨k3, k3'⟩, ⟨⟨ne, hd, g, k4, k4', k4''⟩, k5⟩, ⟨⟨f1, k6⟩, ⟨f2, k6'⟩, ⟨f3, k6''⟩⟩, ⟨ml, fo, k7, k7', k7''⟩, ⟨f4, k8⟩, k9, k10, k11, k12⟩ := H
  obtain ⟨h1, e1, c1⟩ : ∃ h1, hx_sl h Y.2.2.2.2.2.2.2.2 0 x = some h1 ∧ hx_ch h h1 Y.2.2.2.2.2.2.2.2 (.inl (2, 1, .inr (.inl (vp_updL f4 0 x)))) := by
    refine ⟨_, ?_, hx_set_ch⟩
    unfold hx_sl
    rw [k8]
    rfl
  have w1 : hx_wf h1 := wf_ch w (L := [Y.2.2.2.2.2.2.2.2]) (by simp [w.lt k8]) (c1.kp (by simp))
  have sub : hx_sub (hzw h (W_ Y ov)) (hzw h1 (W_ Y ov)) := fun z c e => by
    have e : (if z < h.1 ∧ z ∉ W_ Y ov then (h.2.2 z).map fun c => (false, c.2) else none) = some c := e
    by_cases cc : z < h.1 ∧ z ∉ W_ Y ov
    · rw [if_pos cc] at e
      show (if z < h1.1 ∧ z ∉ W_ Y ov then (h1.2.2 z).map fun c => (false, c.2) else none) = some c
      rw [if_pos ⟨by rw [c1.1]; exact cc.1, cc.2⟩, c1.2.2.2 z (fun e => cc.2 (by rw [e]; simp [W_]))]
      exact e
    · rw [if_neg cc] at e
      cases e
  have tr : ∀ z e, h.2.2 z = some (true, e) → (∀ n f, e ≠ .inl (2, n, f)) → h1.2.2 z = some (true, e) := fun z e he n1 => by
    rw [c1.2.2.2 z (fun m => ?_), he]
    rw [m, k8] at he
    cases he
    exact n1 _ _ rfl
  refine ⟨h1, e1, ⟨ov, w1, op, d, r, cap, t, p, fnd, dl, fib, as, gop, tr _ _ k1 (fun _ _ hc => by cases hc), ⟨k2.1.sub sub, k2.2⟩, ⟨tr _ _ k3 (fun _ _ hc => by cases hc), k3'⟩, ⟨⟨ne, hd, g, tr _ _ k4 (fun _ _ hc => by cases hc), tr _ _ k4' (fun _ _ hc => by cases hc), k4''⟩, k5.sub sub⟩, ⟨⟨f1, tr _ _ k6 (fun _ _ hc => by cases hc)⟩, ⟨f2, tr _ _ k6' (fun _ _ hc => by cases hc)⟩, ⟨f3, tr _ _ k6'' (fun _ _ hc => by cases hc)⟩⟩, ⟨ml, fo, tr _ _ k7 (fun _ _ hc => by cases hc), tr _ _ k7' (fun _ _ hc => by cases hc), k7''⟩, ⟨_, c1.2.2.1⟩, k9, k10.sub sub, k11.sub sub, k12.sub sub⟩, ?_, c1.1, c1.2.1⟩
  unfold hx_al
  rw [c1.2.2.1]
  show (if (2 : Nat) = 2 ∧ _ then some (vp_updL f4 0 x 0) else none) = some x
  rw [if_pos ⟨rfl, by decide, by decide⟩]
  unfold vp_updL
  rw [if_pos rfl]
theorem bnd.rf {h : HX} {k s : Nat} : bnd h h k s := ⟨Nat.le_refl _, Nat.le_add_right _ _, Nat.le_refl _, Nat.le_add_right _ _⟩
theorem bnd.eq {h h1 h2 : HX} {k s : Nat} (b : bnd h h1 k s) (e1 : h2.1 = h1.1) (e2 : h2.2.1 = h1.2.1) : bnd h h2 k s := by
  obtain ⟨b1, b2, b3, b4⟩ := b
  exact ⟨by omega, by omega, by omega, by omega⟩
/-- the exception's name, or a value into the cell -/
theorem wr_i (C : LC D o p0 L xs Y N h s A) {E : String} {ok : Bool} {r : Int32} {c : Option ((Int32 ⊕ (String × Nat)) × HX)} (H : ansI c h E ok r) {kc : Int32} (hkc : kc ≠ 0) {X : String → Nat → HX → Option (Int32 × HX)} (hX : ∀ q h1, X E q h1 = some (kc, h1)) : ∃ h', (gx_bx c (fun x3 h4 => (some Y.2.2.2.2.2.2.2.2).bind fun a7 => (hx_sl h4 a7 (0 : Int32) (Int32.toInt64 x3)).bind fun h8 => some ((0 : Int32), h8)) X) = some (if ok = true then 0 else kc, h') ∧ cE D h' Y A ∧ bnd h h' 20 200 ∧ (ok = true → hx_al h' Y.2.2.2.2.2.2.2.2 0 = some (Int32.toInt64 r)) := by
  cases ok with
  | false =>
    refine ⟨hx_skip h 1 6, by rw [H.1 rfl, pl_bx_r, hX]; rfl, C.1.skip, ⟨Nat.le_add_right _ _, Nat.add_le_add_left (by decide) _, Nat.le_add_right _ _, Nat.add_le_add_left (by decide) _⟩, fun h => by cases h⟩
  | true =>
    obtain ⟨h1, e1, e2, e3, e4, e5⟩ := C.1.E.sl (Int32.toInt64 r)
    exact ⟨h1, by rw [H.2 rfl, pl_bx_l, Option.bind_some, e1]; rfl, e2, bnd.rf.eq e4 e5, fun _ => e3⟩
theorem wr_b (C : LC D o p0 L xs Y N h s A) {E : String} {ok : Bool} {r : Bool} {c : Option ((Bool ⊕ (String × Nat)) × HX)} (H : ansI c h E ok r) {kc : Int32} (hkc : kc ≠ 0) {X : String → Nat → HX → Option (Int32 × HX)} (hX : ∀ q h1, X E q h1 = some (kc, h1)) {B : HX → Int64 → Int32 → Option Nat → Option (Int32 × HX)} (hB : ∀ h4 v, B h4 v 0 (some Y.2.2.2.2.2.2.2.2) = (hx_sl h4 Y.2.2.2.2.2.2.2.2 (0 : Int32) v).bind fun h8 => some ((0 : Int32), h8)) : ∃ h', (gx_bx c (fun b3 h4 => if b3 = true then B h4 1 0 (some Y.2.2.2.2.2.2.2.2) else B h4 0 0 (some Y.2.2.2.2.2.2.2.2)) X) = some (if ok = true then 0 else kc, h') ∧ cE D h' Y A ∧ bnd h h' 20 200 ∧ (ok = true → hx_al h' Y.2.2.2.2.2.2.2.2 0 = some (if r = true then 1 else 0)) := by
  cases ok with
  | false =>
    refine ⟨hx_skip h 1 6, by rw [H.1 rfl, pl_bx_r, hX]; rfl, C.1.skip, ⟨Nat.le_add_right _ _, Nat.add_le_add_left (by decide) _, Nat.le_add_right _ _, Nat.add_le_add_left (by decide) _⟩, fun h => by cases h⟩
  | true =>
    obtain ⟨h1, e1, e2, e3, e4, e5⟩ := C.1.E.sl (if r = true then 1 else 0)
    refine ⟨h1, ?_, e2, bnd.rf.eq e4 e5, fun _ => e3⟩
    rw [H.2 rfl, pl_bx_l]
    cases r with
    | true => rw [if_pos rfl, hB]; rw [if_pos rfl] at e1; rw [e1]; rfl
    | false => rw [if_neg Bool.false_ne_true, hB]; rw [if_neg Bool.false_ne_true] at e1; rw [e1]; rfl
/-- the model's answer -/
theorem md_of {α : Type} (H : mI s A) {c : Option (α × MS)} {ok : Bool} {r : α} (M : ansM c s ok r) : ∃ x s', c = some (x, s') ∧ s'.1 6 = (if ok = true then 0 else 1) ∧ mI s' A ∧ (ok = true → x = r) := by
  obtain ⟨x, s', e, q, h⟩ := M
  refine ⟨x, s', e, ?_, H.p6.q q, h⟩
  rw [q.2 6 (by decide) (by decide) (by decide)]
  rfl
theorem lg_0 {x : Int64} : lg_cmp x x = 0 := (lg_cmp_eq x x).2 rfl
theorem LC.KM (H : LC D o p0 L xs Y N h s A) : KM D h o := fun s i cs hi => (H.2.2.1.1 i cs hi).sub (fun z c e => by
  have e := hzf_sub _ _ e
  obtain ⟨o1, o2⟩ := H.2.2.2.1
  show (if z = o then _ else if o < z ∧ z < o + 14 then _ else h.2.2 z) = some c
  have n1 : ¬ (o ≤ z ∧ z < o + 14) := fun hz => by rw [o2 z hz.1 hz.2] at e; cases e
  rw [if_neg (by omega), if_neg (by omega), e])
theorem KM.le {h' : HX} (H : LC D o p0 L xs Y N h s A) (l : gx_le h h') : KM D h' o := fun s i cs hi => ((H.2.2.1.sub l.zf).1 i cs hi).sub (fun z c e => by
  have e := hzf_sub _ _ e
  obtain ⟨o1, o2⟩ := H.2.2.2.1
  show (if z = o then _ else if o < z ∧ z < o + 14 then _ else h'.2.2 z) = some c
  have n1 : ¬ (o ≤ z ∧ z < o + 14) := fun hz => by
    rw [l.2.2.2.2 z (by omega) (o2 z hz.1 hz.2)] at e; cases e
  rw [if_neg (by omega), if_neg (by omega), e])
theorem lst_nc {h : HX} {a m : Nat} {ys : List (List Nat)} (H : hx_lst hx_str h a m ys) : nc_ok ys := fun x hx y hy => by
  obtain ⟨as, h1, h2, h3⟩ := H
  obtain ⟨k, hk⟩ := List.getElem?_of_mem hx
  have hkl := (List.getElem?_eq_some_iff.1 hk).1
  obtain ⟨v, b, c, f, _, _, _, h4⟩ := h3 k x _ hk (List.getElem?_eq_getElem (by omega))
  obtain ⟨j, hj⟩ := List.getElem?_of_mem hy
  exact (h4 j y hj).2
theorem LC.nc (H : LC D o p0 L xs Y N h s A) : nc_ok A.1.en ∧ nc_ok A.1.vn := by
  obtain ⟨d, r, sl, el, vl, tl, il, a1, a2, a3, a4, a5, x5, x6, d0, d1, d2, d3, d4, d5, l1, l2, l3, _⟩ := vm_rd H.vm
  exact ⟨lst_nc l2, lst_nc l3⟩
theorem LC.ib (H : LC D o p0 L xs Y N h s A) : ib_ok A.2.2.2.2.1 := by
  obtain ⟨ov, cap, op, d, r, p, fnd, dl, as, HG, w, hx, ⟨fib, f1, f2⟩, _⟩ := H.1.all
  exact ⟨H.ok.2.2.2.2.2.1, fun k b hk => (f2 k b hk).2⟩
end LWI
