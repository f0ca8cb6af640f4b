/-! the component's setup parser: statements -/
set_option maxRecDepth 100000
set_option linter.unusedSimpArgs false
theorem pb_assoc {α β γ : Type} (m : PR α) (f : α → Nat → PR β) (g : β → Nat → PR γ) : pb (pb m f) g = pb m fun v p => pb (f v p) g := by
  cases m <;> rfl
theorem pb_ret {α β : Type} (v : α) (p : Nat) (g : α → Nat → PR β) : pb (.inr (v, p)) g = g v p := rfl
section CSM
variable {D : gx_D} {g h : HX} {n a x inp p d : Nat} {bs : List Nat} {ib : List Nat} {S : SP}
/-- a change of the lists -/
theorem SL.chg {h1 : HX} {L : List Nat} {k : Nat} {S' : SP} (H : SL D n bs h a d S) (w : hx_wf h) (X : kx h h1 L k) (hL : ∀ z, z ∈ L → z = a ∨ (d ≤ z ∧ z < d + 9) ∨ z = d + 10 ∨ z = d + 11)
    (c0 : h1.2.2 d = some (true, .inr (10, [.ref (d + 1), .ref (d + 3), .ref (d + 5), .ref (d + 7), .int (nI (cf_c S'.1.ini))])))
    (c1 : wls hx_str (hxW n (bs ++ SW a d) h1) h1 (d + 1) 10 S'.1.sn) (c2 : wls hx_str (hxW n (bs ++ SW a d) h1) h1 (d + 3) 8 S'.1.en) (c3 : wls hx_str (hxW n (bs ++ SW a d) h1) h1 (d + 5) 3 S'.1.vn) (c4 : wls (hx_tr D) (hxW n (bs ++ SW a d) h1) h1 (d + 7) 24 S'.1.ts) (c5 : wls (hx_iv D) (hxW n (bs ++ SW a d) h1) h1 (d + 10) 12 S'.2) : SL D n bs h1 a d S' := by
  obtain ⟨h1', h2, ⟨h3, hbs⟩, h4, h5, h6, h7, h8, h9, h10, ⟨f1, h11⟩, ⟨f2, h12⟩, ⟨f3, h13⟩, ⟨f4, h14⟩, ⟨f5, h15⟩⟩ := H
  have l := X.1
  have at' : ∀ z, (z = d + 9 ∨ (d + 12 ≤ z ∧ z < d + 17)) → h1.2.2 z = h.2.2 z := fun z hz => X.2.2.1 z (by omega) (fun m => by have := hL z m; omega)
  exact ⟨h1', h2, ⟨by omega, hbs⟩, c0, c1, c2, c3, c4, (at' _ (by omega)).trans h9, c5, ⟨f1, (at' _ (by omega)).trans h11⟩, ⟨f2, (at' _ (by omega)).trans h12⟩, ⟨f3, (at' _ (by omega)).trans h13⟩, ⟨f4, (at' _ (by omega)).trans h14⟩, ⟨f5, (at' _ (by omega)).trans h15⟩⟩
/-- the parser's own cells hold no strings -/
theorem SL.ns (H : SL D n bs h a d S) (T : PT D n h a 16 x (sR d x) ib p) : ∀ z, z ∈ SW a d → ∀ c, h.2.2 z = some c → (∃ b t m f, t ≠ 1 ∧ c = (b, .inl (t, m, f))) ∨ ∃ b ci fs, ci ≠ 2 ∧ c = (b, .inr (ci, fs)) := by
  obtain ⟨h1', h2, ⟨h3, hbs⟩, h4, ⟨m5, f5, h5, h5', _⟩, ⟨m6, f6, h6, h6', _⟩, ⟨m7, f7, h7, h7', _⟩, ⟨m8, f8, h8, h8', _⟩, h9, ⟨m10, f10, h10, h10', _⟩, ⟨f1, h11⟩, ⟨f2, h12⟩, ⟨f3, h13⟩, ⟨f4, h14⟩, ⟨f5', h15⟩⟩ := H
  obtain ⟨pf, t1, _⟩ := T.cell
  intro z hz c hc
  rw [SW_m] at hz
  have sp : z = a ∨ z = d ∨ z = d + 1 ∨ z = d + 2 ∨ z = d + 3 ∨ z = d + 4 ∨ z = d + 5 ∨ z = d + 6 ∨ z = d + 7 ∨ z = d + 8 ∨ z = d + 9 ∨ z = d + 10 ∨ z = d + 11 ∨ z = d + 12 ∨ z = d + 13 ∨ z = d + 14 ∨ z = d + 15 ∨ z = d + 16 := by omega
  have o : ∀ {b : Bool} {ci : Nat} {fs : List Value}, ci ≠ 2 → h.2.2 z = some (b, .inr (ci, fs)) → (∃ b t m f, t ≠ 1 ∧ c = (b, .inl (t, m, f))) ∨ ∃ b ci fs, ci ≠ 2 ∧ c = (b, .inr (ci, fs)) := fun n e => by
    rw [hc] at e; cases e; exact Or.inr ⟨_, _, _, n, rfl⟩
  have r : ∀ {b : Bool} {t m : Nat} {f}, t ≠ 1 → h.2.2 z = some (b, .inl (t, m, f)) → (∃ b t m f, t ≠ 1 ∧ c = (b, .inl (t, m, f))) ∨ ∃ b ci fs, ci ≠ 2 ∧ c = (b, .inr (ci, fs)) := fun n e => by
    rw [hc] at e; cases e; exact Or.inl ⟨_, _, _, _, n, rfl⟩
  rcases sp with e | e | e | e | e | e | e | e | e | e | e | e | e | e | e | e | e | e <;> subst e
  · exact o (by decide) t1
  · exact o (by decide) h4
  · exact o (by decide) h5
  · exact r (by decide) h5'
  · exact o (by decide) h6
  · exact r (by decide) h6'
  · exact o (by decide) h7
  · exact r (by decide) h7'
  · exact o (by decide) h8
  · exact r (by decide) h8'
  · exact o (by decide) h9
  · exact o (by decide) h10
  · exact r (by decide) h10'
  · exact r (by decide) h11
  · exact r (by decide) h12
  · exact r (by decide) h13
  · exact r (by decide) h14
  · exact r (by decide) h15
theorem SL.sW {b : Nat} {cs : List Nat} (H : SL D n [] h a d S) (T : PT D n h a 16 x (sR d x) ib p) (K : hx_str (hxN n h) b cs) : hx_str (hxW n ([] ++ SW a d) h) b cs := by
  obtain ⟨v, y, z, f, ⟨fl, h1'⟩, ⟨fl2, h2'⟩, h3⟩ := K
  obtain ⟨c1, c2⟩ := hxN_ge h1'
  obtain ⟨c3, c4⟩ := hxN_ge h2'
  refine ⟨v, y, z, f, ⟨fl, (hxW_of c1 (fun m => ?_)).trans c2⟩, ⟨fl2, (hxW_of c3 (fun m => ?_)).trans c4⟩, h3⟩
  · rcases H.ns T _ m _ c2 with ⟨b, t, m, f, _, e⟩ | ⟨b, ci, fs, hc, e⟩
    · cases e
    · cases e; exact hc rfl
  · rcases H.ns T _ m _ c4 with ⟨b, t, m, f, ht, e⟩ | ⟨b, ci, fs, hc, e⟩
    · cases e; exact ht rfl
    · cases e
theorem SL.lt (H : SL D n bs h a d S) : n ≤ a ∧ a < d ∧ d + 17 ≤ h.1 := ⟨H.1, H.2.1, H.2.2.1.1⟩
/-- the parser's token where the lists change -/
theorem PT.ls {h1 : HX} {L : List Nat} {k : Nat} (T : PT D n h a 16 x (sR d x) ib p) (H : SL D n bs h a d S) (w : hx_wf h) (X : kx h h1 L k) (hL : ∀ z, z ∈ L → d ≤ z ∧ z < d + 17) : PT D n h1 a 16 x (sR d x) ib p := by
  have := H.lt
  obtain ⟨vl, w', P, h2, h3, h4, h5⟩ := T
  have T : PT D n h a 16 x (sR d x) ib p := ⟨vl, w', P, h2, h3, h4, h5⟩
  have nb : ∀ z m f, h.2.2 z = some (m, .inl (1, f)) → z ∉ L := fun z m f e hz => by
    have hz := hL z hz
    rcases H.ns T z (SW_m.2 (Or.inr hz)) _ e with ⟨b, t, m', f', n, e'⟩ | ⟨b, c, fs, _, e'⟩
    · cases e'; exact n rfl
    · cases e'
  have ns : ∀ z m f, h.2.2 z = some (m, .inr (2, f)) → z ∉ L := fun z m f e hz => by
    have hz := hL z hz
    rcases H.ns T z (SW_m.2 (Or.inr hz)) _ e with ⟨b, t, m', f', n, e'⟩ | ⟨b, c, fs, n, e'⟩
    · cases e'
    · cases e'; exact n rfl
  refine ⟨vl, w', P.kx w X (fun m => by have := hL a m; omega), h2, ?_, fun hk => ?_, h5⟩
  · obtain ⟨fl, v, f, hb, hc, e1, ⟨fl', e2⟩, e3⟩ := h3
    exact ⟨fl, v, f, hb, hc, X.at w (ns _ _ _ e1) e1, ⟨fl', X.at w (nb _ _ _ e2) e2⟩, e3⟩
  · obtain ⟨l1, v, b, c, f, ⟨fl, e1⟩, ⟨fl', e2⟩, e3⟩ := h4 hk
    obtain ⟨g1, g2⟩ := hxN_ge e1
    obtain ⟨g3, g4⟩ := hxN_ge e2
    exact ⟨l1, v, b, c, f, ⟨fl, (hxN_of g1).trans (X.at w (ns _ _ _ g2) g2)⟩, ⟨fl', (hxN_of g3).trans (X.at w (nb _ _ _ g4) g4)⟩, e3⟩
theorem f_size {α : Type} {R : HX → Nat → α → Prop} {l cap : Nat} {xs : List α} (H : hx_lst R h l cap xs) {m : Nat} (hm : m < 1000) (hc : cap < 1000) {γ : Type} (A : Bool → γ) : (if nI m ≤ nI xs.length then A false else A true) = A (decide (xs.length < m)) := by
  have := H.cap
  by_cases c : xs.length < m
  · rw [decide_eq_true c, if_neg (nI_ge c (by omega))]
  · rw [decide_eq_false c, if_pos (nI_le (by omega) (by omega))]
/-- a name more -/
theorem c_addName {b cap l : Nat} {w : List Nat} {xs : List (List Nat)} (H : PS D g n [] h a x d ib S p) (hl : l = 1 ∨ l = 3 ∨ l = 5) (Wl : wls hx_str (hxW n ([] ++ SW a d) h) h (d + l) cap xs) (hlt : xs.length < cap) (hc : cap < 1000) (hb : hx_str (hxN n h) b w) : ∃ h1, f_J2_add D h (d + l) (some b) = some (true, h1) ∧ hx_kp h h1 [d + l, d + l + 1] ∧ wls hx_str (hxW n ([] ++ SW a d) h1) h1 (d + l) cap (xs ++ [w]) ∧ kx h h1 [d + l, d + l + 1] 0 ∧ hx_sub (hxW n ([] ++ SW a d) h) (hxW n ([] ++ SW a d) h1) := by
  have lt := H.2.2.1.lt
  have hs := H.2.2.1.sW H.2.1 hb
  obtain ⟨v, y, z, f, ho, _⟩ := hs.sub hxW_sub
  obtain ⟨h1, e1, k1, w1⟩ := Wl.add (D := D) hlt (by omega) ho (by decide)
  have X := kx.kp H.1.1 (by simp; omega) k1
  have s := X.W (n := n) (W := [] ++ SW a d) H.1.1 (fun z hz => Or.inl (by
    simp only [List.nil_append, List.mem_cons, List.not_mem_nil, or_false] at hz ⊢
    rw [SW_m]
    omega))
  exact ⟨h1, e1, k1, w1 _ (fun _ _ => hx_str.sub s) (hs.sub s), X, s⟩
theorem c_declare (hl : Bool) (E : EV D g x inp ib) (H : PS D g n [] h a x d ib S p) (hk : tK ib p ≠ 3) : CR D n a 16 x (sR d x) ib h (SW a d) 12 (f_X11_declare D h a (some (d + if hl then 1 else 3)) (if hl then 10 else 8)) (pMany ib ((if hl then S.1.sn else S.1.en).length < if hl then 10 else 8) p fun p1 => pb (pNew ib (if hl then S.1.sn else S.1.en) p1) fun w p2 => .inr ((if hl then (((S.1.sn ++ [w], S.1.en, S.1.vn, S.1.ts, S.1.ini), S.2) : SP) else ((S.1.sn, S.1.en ++ [w], S.1.vn, S.1.ts, S.1.ini), S.2)), p2)) fun c v h1 => SL D n [] h1 a d v := by
  obtain ⟨B, T, Z, hp, _⟩ := id H
  have na := H.na
  have lt := Z.lt
  have aW : a ∈ SW a d := SW_m.2 (Or.inl rfl)
  unfold f_X11_declare pMany
  cases hl with
  | true =>
    simp only [if_true]
    rw [T.made.1, Option.bind_some, Option.bind_some, Z.ls.1.len, Option.bind_some]
    rw [show (10 : Int32) = nI 10 from rfl, f_size Z.ls.1 (by decide) (by decide) (fun b => f_X11_declare_b16 D h a (some (d + 1)) b (some a))]
    unfold f_X11_declare_b16
    rw [Option.bind_some, T.made.1, Option.bind_some]
    refine CR.exp T B.1 5 (fun c => ?_) (by decide)
    rw [T.made.1, Option.bind_some]
    refine (CR.adv E B na.1 T hp aW fun h14 X14 T14 => ?_).up (k := 4 + 6) (fun z hz => hz) (by decide)
    have l1 := (tS_le hp).2.2
    have H14 := H.mov X14 (by simp) T14 l1
    refine ((c_newName E H14.1 na.1 T14 rfl l1 H14.2.2.1.ls.1 (by decide)).bn (L' := SW a d) (k' := 0) (by simp [aW]) fun c1 w p2 h17 em X17 q T17 => ?_)
    obtain ⟨b, rfl, nb, ba, sb, _⟩ := q
    have l2 := ((gO_new l1).r em).2
    have H17 := H14.mov X17 (by simp) T17 l2
    obtain ⟨s1, s2, s3, s4, s5, s6, s7, s8, s9, s10, s11⟩ := id H17.2.2.1
    obtain ⟨h23, e23, k23, w23, X23, v23⟩ := c_addName (D := D) H17 (Or.inl rfl) s5 c (by decide) sb
    rw [Option.bind_some, e23, pl_b2_s]
    have at' : ∀ z, z ≠ d + 1 → z ≠ d + 2 → h23.2.2 z = h17.2.2 z := fun z z1 z2 => k23.2.2 z (by simp [z1, z2])
    refine CR.pre (k := 0) (k' := 0) (X23.up (fun z hz => Or.inl (by
      simp only [List.mem_cons, List.not_mem_nil, or_false] at hz
      rw [SW_m]
      omega)) (Nat.le_refl _)) (CR.ret (T17.ls H17.2.2.1 H17.1.1 X23 (by simp; omega)) X23.2.1 ?_)
    exact H17.2.2.1.chg H17.1.1 X23 (by simp; omega) ((at' _ (by omega) (by omega)).trans s4) w23 (s6.mov (fun _ _ => hx_str.sub v23) (at' _ (by omega) (by omega)) (at' _ (by omega) (by omega))) (s7.mov (fun _ _ => hx_str.sub v23) (at' _ (by omega) (by omega)) (at' _ (by omega) (by omega))) (s8.mov (fun _ _ => hx_tr.sub v23) (at' _ (by omega) (by omega)) (at' _ (by omega) (by omega))) (s10.mov (fun _ _ => hx_iv.sub v23) (at' _ (by omega) (by omega)) (at' _ (by omega) (by omega)))
  | false =>
    simp only [if_neg Bool.false_ne_true]
    rw [T.made.1, Option.bind_some, Option.bind_some, Z.ls.2.1.len, Option.bind_some]
    rw [show (8 : Int32) = nI 8 from rfl, f_size Z.ls.2.1 (by decide) (by decide) (fun b => f_X11_declare_b16 D h a (some (d + 3)) b (some a))]
    unfold f_X11_declare_b16
    rw [Option.bind_some, T.made.1, Option.bind_some]
    refine CR.exp T B.1 5 (fun c => ?_) (by decide)
    rw [T.made.1, Option.bind_some]
    refine (CR.adv E B na.1 T hp aW fun h14 X14 T14 => ?_).up (k := 4 + 6) (fun z hz => hz) (by decide)
    have l1 := (tS_le hp).2.2
    have H14 := H.mov X14 (by simp) T14 l1
    refine ((c_newName E H14.1 na.1 T14 rfl l1 H14.2.2.1.ls.2.1 (by decide)).bn (L' := SW a d) (k' := 0) (by simp [aW]) fun c1 w p2 h17 em X17 q T17 => ?_)
    obtain ⟨b, rfl, nb, ba, sb, _⟩ := q
    have l2 := ((gO_new l1).r em).2
    have H17 := H14.mov X17 (by simp) T17 l2
    obtain ⟨s1, s2, s3, s4, s5, s6, s7, s8, s9, s10, s11⟩ := id H17.2.2.1
    obtain ⟨h23, e23, k23, w23, X23, v23⟩ := c_addName (D := D) H17 (Or.inr (Or.inl rfl)) s6 c (by decide) sb
    rw [Option.bind_some, e23, pl_b2_s]
    have at' : ∀ z, z ≠ d + 3 → z ≠ d + 4 → h23.2.2 z = h17.2.2 z := fun z z1 z2 => k23.2.2 z (by simp [z1, z2])
    refine CR.pre (k := 0) (k' := 0) (X23.up (fun z hz => Or.inl (by
      simp only [List.mem_cons, List.not_mem_nil, or_false] at hz
      rw [SW_m]
      omega)) (Nat.le_refl _)) (CR.ret (T17.ls H17.2.2.1 H17.1.1 X23 (by simp; omega)) X23.2.1 ?_)
    exact H17.2.2.1.chg H17.1.1 X23 (by simp; omega) ((at' _ (by omega) (by omega)).trans s4) (s5.mov (fun _ _ => hx_str.sub v23) (at' _ (by omega) (by omega)) (at' _ (by omega) (by omega))) w23 (s7.mov (fun _ _ => hx_str.sub v23) (at' _ (by omega) (by omega)) (at' _ (by omega) (by omega))) (s8.mov (fun _ _ => hx_tr.sub v23) (at' _ (by omega) (by omega)) (at' _ (by omega) (by omega))) (s10.mov (fun _ _ => hx_iv.sub v23) (at' _ (by omega) (by omega)) (at' _ (by omega) (by omega)))
end CSM
