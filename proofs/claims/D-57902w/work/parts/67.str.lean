/-! strings: equal ones, hashes; what stays while a text is parsed -/
set_option maxRecDepth 100000
set_option linter.unusedSimpArgs false
/-- the same but for flags and the hashes of strings -/
def hlo (g h : HX) : Prop := ∀ (a : Nat) (b : Bool) (e : gx_E), g.2.2 a = some (b, e) → (∃ b', h.2.2 a = some (b', e)) ∨ ∃ (b' : Bool) (v x : Value) (y y' : Value) (z z' : Value), e = .inr (2, [v, x, y, z]) ∧ h.2.2 a = some (b', .inr (2, [v, x, y', z']))
theorem hlo.sw {g h : HX} (s : hx_sw g h) : hlo g h := fun a b e he => Or.inl (s a b e he)
theorem hlo.sub {g h : HX} (s : hx_sub g h) : hlo g h := fun a b e he => Or.inl ⟨b, s a _ he⟩
theorem hx_ob.lo {g h : HX} {a ci : Nat} {fs : List Value} (s : hlo g h) (hc : ci ≠ 2) (H : hx_ob g a ci fs) : hx_ob h a ci fs := by
  obtain ⟨b, e⟩ := H
  rcases s _ _ _ e with h1 | ⟨b', v, x, y, y', z, z', e1, _⟩
  · exact h1
  · cases e1; exact absurd rfl hc
theorem hx_oi.lo {g h : HX} {a t n : Nat} {f : Nat → Int32} (s : hlo g h) (H : hx_oi g a t n f) : hx_oi h a t n f := by
  obtain ⟨b, e⟩ := H
  rcases s _ _ _ e with h1 | ⟨b', v, x, y, y', z, z', e1, _⟩
  · exact h1
  · cases e1
theorem hx_or.lo {g h : HX} {a t n : Nat} {f : Nat → Option Nat} (s : hlo g h) (H : hx_or g a t n f) : hx_or h a t n f := by
  obtain ⟨b, e⟩ := H
  rcases s _ _ _ e with h1 | ⟨b', v, x, y, y', z, z', e1, _⟩
  · exact h1
  · cases e1
theorem hx_li.lo {g h : HX} {a n : Nat} {xs : List Nat} (s : hlo g h) (H : hx_li g a n xs) : hx_li h a n xs := by
  obtain ⟨mc, e, f, h1, h2, h3⟩ := H
  exact ⟨mc, e, f, h1.lo s (by decide), h2.lo s, h3⟩
theorem hx_lst.lo {α : Type} {R : HX → Nat → α → Prop} {g h : HX} {a n : Nat} {xs : List α} (s : hlo g h) (hR : ∀ b x, R g b x → R h b x) (H : hx_lst R g a n xs) : hx_lst R h a n xs := by
  obtain ⟨as, h1, h2, h3⟩ := H
  exact ⟨as, h1.lo s, h2, fun k x b hk hb => hR b x (h3 k x b hk hb)⟩
theorem hx_str.lo {g h : HX} {a : Nat} {cs : List Nat} (s : hlo g h) (H : hx_str g a cs) : hx_str h a cs := by
  obtain ⟨v, b, c, f, ⟨fl, h1⟩, h2, h3⟩ := H
  rcases s _ _ _ h1 with ⟨b', h4⟩ | ⟨b', v', x, y, y', z, z', e1, h4⟩
  · exact ⟨v, b, c, f, ⟨b', h4⟩, h2.lo s, h3⟩
  · simp only [Sum.inr.injEq, Prod.mk.injEq, true_and, List.cons.injEq, and_true] at e1
    obtain ⟨e1, e2, e3, e4⟩ := e1
    subst e1 e2
    exact ⟨v, y', z', f, ⟨b', h4⟩, h2.lo s, h3⟩
theorem hx_iv.lo {D : gx_D} {g h : HX} {a : Nat} {i : IV} (s : hlo g h) (H : hx_iv D g a i) : hx_iv D h a i := by
  obtain ⟨h0, c, h1, h2⟩ := H
  exact ⟨h0, c, h1.lo s (by decide), hx_ob.lo s (by decide) h2⟩
theorem hx_tr.lo {D : gx_D} {g h : HX} {a : Nat} {t : TR} (s : hlo g h) (H : hx_tr D g a t) : hx_tr D h a t := by
  obtain ⟨h0, u, c, h1, h2, h3⟩ := H
  refine ⟨h0, u, c, h1.lo s (by decide), ?_, ?_⟩
  · revert h2
    cases t.2.2.2.1 with
    | none => exact fun h => h
    | some p => exact fun ⟨x, e, hp⟩ => ⟨x, e, hx_ob.lo s (by decide) hp⟩
  · revert h3
    cases t.2.2.2.2 with
    | none => exact fun h => h
    | some p => exact fun ⟨x, e, hp⟩ => ⟨x, e, hx_ob.lo s (by decide) hp⟩
/-- a heap's cells from n on -/
def hxN (n : Nat) (h : HX) : HX := (h.1, h.2.1, fun q => if q < n then none else h.2.2 q)
theorem hxN_sub {n : Nat} {h : HX} : hx_sub (hxN n h) h := fun a c e => by
  have e : (if a < n then none else h.2.2 a) = some c := e
  by_cases c1 : a < n
  · rw [if_pos c1] at e; cases e
  · rw [if_neg c1] at e; exact e
theorem hxN_ge {n a : Nat} {h : HX} {c : Bool × gx_E} (e : (hxN n h).2.2 a = some c) : n ≤ a ∧ h.2.2 a = some c := by
  have e : (if a < n then none else h.2.2 a) = some c := e
  by_cases c1 : a < n
  · rw [if_pos c1] at e; cases e
  · rw [if_neg c1] at e; exact ⟨by omega, e⟩
theorem hxN_of {n a : Nat} {h : HX} (hn : n ≤ a) : (hxN n h).2.2 a = h.2.2 a := if_neg (by omega)
/-- only the cells of L and new ones -/
def kx (h h1 : HX) (L : List Nat) (k : Nat) : Prop := h.1 ≤ h1.1 ∧ hx_wf h1 ∧ (∀ z, z < h.1 → z ∉ L → h1.2.2 z = h.2.2 z) ∧ h1.1 ≤ h.1 + k ∧ h.2.1 ≤ h1.2.1 ∧ h1.2.1 ≤ h.2.1 + 12 * k
theorem kx.rf {h : HX} {L : List Nat} {k : Nat} (w : hx_wf h) : kx h h L k := ⟨Nat.le_refl _, w, fun _ _ _ => rfl, by omega, Nat.le_refl _, by omega⟩
theorem kx.tr {h h1 h2 : HX} {L : List Nat} {k m : Nat} (a : kx h h1 L k) (b : kx h1 h2 L m) : kx h h2 L (k + m) := by
  obtain ⟨a1, a2, a3, a4, a5, a6⟩ := a
  obtain ⟨b1, b2, b3, b4, b5, b6⟩ := b
  exact ⟨by omega, b2, fun z hz n => (b3 z (by omega) n).trans (a3 z hz n), by omega, by omega, by omega⟩
theorem kx.up {h h1 : HX} {L L' : List Nat} {k m : Nat} (a : kx h h1 L k) (hL : ∀ z, z ∈ L → z ∈ L' ∨ h.1 ≤ z) (hk : k ≤ m) : kx h h1 L' m := by
  obtain ⟨a1, a2, a3, a4, a5, a6⟩ := a
  exact ⟨a1, a2, fun z hz n => a3 z hz (fun m => by rcases hL z m with c | c; exact n c; omega), by omega, a5, by omega⟩
theorem kx.kp {h h1 : HX} {L : List Nat} (w : hx_wf h) (hL : ∀ z, z ∈ L → z < h.1) (k : hx_kp h h1 L) : kx h h1 L 0 := ⟨by rw [k.1]; exact Nat.le_refl _, wf_ch w hL k, fun z _ n => k.2.2 z n, by rw [k.1]; exact Nat.le_refl _, by rw [k.2.1]; exact Nat.le_refl _, by rw [k.2.1]; exact Nat.le_refl _⟩
theorem kx.ap {h : HX} {B : List gx_E} {s : Nat} (hs : s ≤ 12 * B.length) : kx h (hx_ap h.1 h B s) [] B.length := ⟨Nat.le_add_right _ _, ap_wf, fun z hz _ => ap_old hz, Nat.le_refl _, Nat.le_add_right _ _, Nat.add_le_add_left hs _⟩
theorem kx.at {h h1 : HX} {L : List Nat} {k z : Nat} {c : Bool × gx_E} (a : kx h h1 L k) (w : hx_wf h) (hz : z ∉ L) (e : h.2.2 z = some c) : h1.2.2 z = some c := (a.2.2.1 z (w.lt e) hz).trans e
theorem kx.ob {h h1 : HX} {L : List Nat} {k a ci : Nat} {fs : List Value} (x : kx h h1 L k) (w : hx_wf h) (hz : a ∉ L) (H : hx_ob h a ci fs) : hx_ob h1 a ci fs := by
  obtain ⟨b, e⟩ := H
  exact ⟨b, x.at w hz e⟩
/-- old knowledge -/
def HB (g : HX) (n : Nat) (h : HX) : Prop := hx_wf h ∧ hx_sub g h ∧ n ≤ h.1 ∧ ∀ z c, g.2.2 z = some c → z < n
theorem HB.kx {g h h1 : HX} {n k : Nat} {L : List Nat} (H : HB g n h) (x : kx h h1 L k) (hL : ∀ z, z ∈ L → n ≤ z) : HB g n h1 := by
  obtain ⟨w, s, l, d⟩ := H
  refine ⟨x.2.1, fun z c e => ?_, Nat.le_trans l x.1, d⟩
  exact x.at w (fun hz => by have := hL z hz; have := d z c e; omega) (s z c e)
theorem kx.lo {h h1 : HX} {L : List Nat} {k n : Nat} (x : kx h h1 L k) (w : hx_wf h) (g : HX) (s : hx_sub g h) (hL : ∀ z, z ∈ L → g.2.2 z = none) : hx_sub g h1 := fun z c e => x.at w (fun hz => by rw [hL z hz] at e; cases e) (s z c e)
/-- equal strings -/
theorem str_uq {h : HX} {a : Nat} {cs ds : List Nat} (H : hx_str h a cs) (K : hx_str h a ds) : cs = ds := by
  obtain ⟨v, b, c, f, ⟨x1, h1⟩, ⟨x2, h2⟩, h3, h4⟩ := H
  obtain ⟨v', b', c', f', ⟨y1, k1⟩, ⟨y2, k2⟩, k3, k4⟩ := K
  rw [h1] at k1
  have e := Option.some.inj k1
  simp only [Prod.mk.injEq, Sum.inr.injEq, true_and, List.cons.injEq, va_rf_s, Value.ref.injEq] at e
  obtain ⟨_, rfl, _⟩ := e
  rw [h2] at k2
  have e := Option.some.inj k2
  simp only [Prod.mk.injEq, Sum.inl.injEq, true_and] at e
  obtain ⟨_, el, ef⟩ := e
  refine List.ext_getElem el fun i i1 i2 => ?_
  have c1 := h4 i _ (List.getElem?_eq_getElem i1)
  have c2 := k4 i _ (List.getElem?_eq_getElem i2)
  rw [← ef] at c2
  exact (nI_eq (by omega) (by omega)).1 (c1.1.symm.trans c2.1)
theorem str_is {h : HX} {a : Nat} {cs : List Nat} (H : hx_str h a cs) : hx_is h a [2] = some () := by
  obtain ⟨v, b, c, f, h1, _⟩ := H
  exact h1.is (by decide)
theorem str_eq {D : gx_D} {h : HX} {a b : Nat} {cs ds : List Nat} (H : hx_str h a cs) (K : hx_str h b ds) : f_J9_equals D h a (some b) = some (decide (cs = ds)) := by
  by_cases c0 : a = b
  · subst c0
    rw [decide_eq_true (str_uq H K)]
    unfold f_J9_equals
    rw [str_is H, Option.bind_some, if_pos rfl]
  · obtain ⟨v, hb, hc, f, h1, h2, h3, h4⟩ := H
    obtain ⟨v', hb', hc', f', k1, k2, k3, k4⟩ := K
    have J : f_J15_equals D h (some v) (some v') = some (decide (cs = ds)) := by
      unfold f_J15_equals
      rw [Option.bind_some, h2.len, Option.bind_some, Option.bind_some, k2.len, Option.bind_some]
      by_cases c1 : cs.length = ds.length
      · rw [if_pos (by rw [c1])]
        obtain ⟨r, e1, e2⟩ := gx_lp (F := fun f (s : Int32) => f_J15_equals_b9 D f h (some v) (some v') s) (I := fun i s => s = nI i ∧ ∀ j, j < i → cs[j]? = ds[j]?) (Q := fun r => r = decide (cs = ds)) cs.length (by
          intro fu i s hi hI
          obtain ⟨rfl, hI⟩ := hI
          have i2 : i < ds.length := by omega
          have c2 := h4 i _ (List.getElem?_eq_getElem hi)
          have c3 := k4 i _ (List.getElem?_eq_getElem i2)
          simp only [f_J15_equals_b9, Option.bind_some, h2.len, if_neg (nI_ge hi (by omega)), h2.ai hi (by omega), k2.ai i2 (by omega), c2.1, c3.1]
          by_cases c4 : cs[i] = ds[i]
          · refine Or.inl ⟨nI (i + 1), ⟨rfl, fun j hj => ?_⟩, ?_⟩
            · by_cases c5 : j = i
              · rw [c5, List.getElem?_eq_getElem hi, List.getElem?_eq_getElem i2, c4]
              · exact hI j (by omega)
            · rw [if_pos (by rw [c4]), gx_c1]
          · refine Or.inr ⟨false, ?_, ?_⟩
            · rw [if_neg (nI_ne (by omega) (by omega) c4)]
            · rw [decide_eq_false (fun e => c4 (by subst e; rfl))]) (by
          intro fu s hI
          obtain ⟨rfl, hI⟩ := hI
          refine ⟨true, ?_, ?_⟩
          · simp only [f_J15_equals_b9, Option.bind_some, h2.len, if_pos (nI_le (Nat.le_refl cs.length) (show cs.length < 2 ^ 31 by omega))]
          · rw [decide_eq_true]
            refine List.ext_getElem? fun i => ?_
            by_cases c5 : i < cs.length
            · exact hI i c5
            · rw [List.getElem?_eq_none (by omega), List.getElem?_eq_none (by omega)]) cs.length 0 gx_fuel 0 (by omega) (by rw [pl_fl]; omega) ⟨rfl, fun j hj => by omega⟩
        rw [e1, e2]
      · rw [if_neg (nI_ne (by omega) (by omega) c1), decide_eq_false (fun e => c1 (by rw [e]))]
    unfold f_J9_equals f_J9_equals_b36
    simp only [h1.is (show 2 ∈ [2] by decide), Option.some.injEq, if_neg c0, Option.bind_some, k1.is (show 2 ∈ [2] by decide), pl_cast k1 (show 2 ∈ [2] by decide), h1.gi (show 2 ∈ [2] by decide) (k := 1) rfl, k1.gi (show 2 ∈ [2] by decide) (k := 1) rfl, if_true, h1.gr (show 2 ∈ [2] by decide) (k := 0) rfl, k1.gr (show 2 ∈ [2] by decide) (k := 0) rfl, J]
    cases decide (cs = ds) <;> rfl
theorem f_indexOf {D : gx_D} {h : HX} {l cap w : Nat} {xs : List (List Nat)} {cs : List Nat} (H : hx_lst hx_str h l cap xs) (hc : cap ≤ 30) (K : hx_str h w cs) : f_X3_indexOf D h (some l) (some w) = some (oI (xs.findIdx? fun x => decide (x = cs))) := by
  have hl := H.cap
  unfold f_X3_indexOf
  refine gx_fi xs (fun x => decide (x = cs)) (fun f x => f_X3_indexOf_b2 D f h (some l) (some w) x) (by omega) ?_ ?_
  · intro f i hi
    obtain ⟨b, e1, e2⟩ := H.at (D := D) hi
    have e3 := str_is e2
    simp only [f_X3_indexOf_b2, Option.bind_some, H.len, if_neg (nI_ge hi (by omega)), e1, hx_cast, e3, str_eq e2 K, gx_c1]
  · intro f
    simp only [f_X3_indexOf_b2, Option.bind_some, H.len, if_pos (nI_le (Nat.le_refl xs.length) (show xs.length < 2 ^ 31 by omega))]
/-- hashes -/
def hshF (l : List Nat) (x : Int32) : Int32 := l.foldl (fun a c => 31 * a + nI c) x
def hsh (cs : List Nat) : Int32 := match cs with
  | [] => 0
  | [c] => nI c
  | cs => hshF cs 0
theorem hsh_0 {h : HX} {v n : Nat} {f : Nat → Int32} {cs : List Nat} {D : gx_D} (H : hx_oi h v 1 n f) (hn : n = cs.length) (hl : cs.length < 100) (h4 : ∀ (k x : Nat), cs[k]? = some x → f k = nI x ∧ x < 128) : f_J15_hashCode D h (some v) = some (hsh cs) := by
  subst hn
  unfold f_J15_hashCode
  rw [Option.bind_some, H.len, Option.bind_some]
  match cs, H, hl, h4 with
  | [], H, hl, h4 => rfl
  | [c], H, hl, h4 =>
    obtain ⟨e1, e2⟩ := h4 0 c rfl
    have el : [c].length = 1 := rfl
    rw [el] at H ⊢
    rw [if_neg (show ¬ nI 1 = 0 by decide), if_pos (show nI 1 = 1 by decide), show (0 : Int32) = nI 0 from rfl, H.ai (show 0 < 1 by decide) (show 1 < 2 ^ 31 by decide), Option.bind_some, e1, pk_andN (by omega) 8 (by decide), Nat.mod_eq_of_lt (by omega)]
    rfl
  | c :: d :: cs, H, hl, h4 =>
    obtain ⟨l, hl'⟩ : ∃ l, l = c :: d :: cs := ⟨_, rfl⟩
    have e0 : hsh (c :: d :: cs) = hshF (c :: d :: cs) 0 := rfl
    have l2 : 2 ≤ (c :: d :: cs).length := by simp
    rw [e0]
    rw [← hl'] at H hl h4 l2 ⊢
    rw [if_neg (show ¬ nI l.length = 0 from nI_ne (b := 0) (by omega) (by decide) (by omega)), if_neg (show ¬ nI l.length = 1 from nI_ne (b := 1) (by omega) (by decide) (by omega)), Option.bind_some]
    have isA : hx_isA h v 1 = some () := by
      obtain ⟨b, e⟩ := H
      unfold hx_isA
      rw [e]
      exact if_pos rfl
    unfold f_J11_vectorizedHashCode f_J11_signedHashCode
    rw [if_pos (by decide), Option.bind_some, isA, Option.bind_some]
    obtain ⟨r, e1, e2⟩ := gx_lp (F := fun f (s : Int32 × Int32) => f_J11_signedHashCode_b8 D f h s.1 (some v) (nI l.length) s.2) (I := fun i s => s.2 = nI i ∧ s.1 = hshF (l.take i) 0) (Q := fun r => r = hshF l 0) l.length (by
      intro fu i s hi hI
      obtain ⟨x, y⟩ := s
      obtain ⟨rfl, rfl⟩ : y = nI i ∧ x = hshF (l.take i) 0 := hI
      obtain ⟨c1, c2⟩ := h4 i _ (List.getElem?_eq_getElem hi)
      refine Or.inl ⟨(hshF (l.take (i + 1)) 0, nI (i + 1)), ⟨rfl, rfl⟩, ?_⟩
      simp only [f_J11_signedHashCode_b8, if_neg (nI_ge hi (show l.length < 2 ^ 31 by omega)), Option.bind_some, H.ai hi (by omega), c1, pk_andN (show l[i] < 2 ^ 32 by omega) (m := 255) 8 (by decide), gx_c1]
      rw [Nat.mod_eq_of_lt (show l[i] < 2 ^ 8 by omega), List.take_add_one, List.getElem?_eq_getElem hi]
      unfold hshF
      rw [List.foldl_append]
      rfl) (by
      intro fu s hI
      obtain ⟨x, y⟩ := s
      obtain ⟨rfl, rfl⟩ : y = nI l.length ∧ x = hshF (l.take l.length) 0 := hI
      refine ⟨_, by simp only [f_J11_signedHashCode_b8, if_pos (nI_le (Nat.le_refl l.length) (show l.length < 2 ^ 31 by omega))]; rfl, ?_⟩
      rw [List.take_length]) l.length 0 gx_fuel (0, 0) (by omega) (by rw [pl_fl]; omega) ⟨rfl, rfl⟩
    have e3 : (0 : Int32) + nI l.length = nI l.length := by rw [show (0 : Int32) = nI 0 from rfl, nI_add, Nat.zero_add]
    rw [e3]
    have e1 : f_J11_signedHashCode_b8 D gx_fuel h 0 (some v) (nI l.length) 0 = some r := e1
    rw [e1, e2]
    rfl
/-- a string whose hash may be worked out -/
def wst (h : HX) (w : Nat) (cs : List Nat) : Prop := ∃ (fl : Bool) (v : Nat) (f : Nat → Int32) (hb hc : Int32), h.2.2 w = some (fl, .inr (2, [.ref v, .int 0, .int hb, .int hc])) ∧ hx_oi h v 1 cs.length f ∧ cs.length < 100 ∧ (∀ (k x : Nat), cs[k]? = some x → f k = nI x ∧ x < 128) ∧ (hb ≠ 0 → hb = hsh cs) ∧ (hc ≠ 0 → hsh cs = 0) ∧ (hb = 0 → hc = 0 → fl = true)
theorem wst.str {h : HX} {w : Nat} {cs : List Nat} (H : wst h w cs) : hx_str h w cs := by
  obtain ⟨fl, v, f, hb, hc, h1, h2, h3, h4, _⟩ := H
  exact ⟨v, _, _, f, hx_ob.mk h1, h2, h3, h4⟩
theorem wst.kx {h h1 : HX} {w k : Nat} {L : List Nat} {cs : List Nat} (H : wst h w cs) (wf : hx_wf h) (x : kx h h1 L k) (hw : w ∉ L) (hL : ∀ z, z ∈ L → ∀ c, h.2.2 z = some c → ∃ b o, c = (b, .inr o)) : wst h1 w cs := by
  obtain ⟨fl, v, f, hb, hc, h1', ⟨b, h2⟩, h3⟩ := H
  exact ⟨fl, v, f, hb, hc, x.at wf hw h1', ⟨b, x.at wf (fun m => by
    obtain ⟨b', o, e⟩ := hL v m _ h2
    cases e) h2⟩, h3⟩
theorem str_hash {D : gx_D} {h : HX} {w : Nat} {cs : List Nat} (wf : hx_wf h) (H : wst h w cs) : ∃ h1, f_J9_hashCode D h w = some (hsh cs, h1) ∧ kx h h1 [w] 0 ∧ wst h1 w cs ∧ hlo h h1 ∧ ∀ z, z ≠ w → h1.2.2 z = h.2.2 z := by
  have H0 := H
  obtain ⟨fl, v, f, hb, hc, h1, h2, h3, h4, h5, h6, h7⟩ := H
  have o := hx_ob.mk h1
  have hl : f_J9_isLatin1 D h w = some true := by
    unfold f_J9_isLatin1
    simp only [o.is (show 2 ∈ [2] by decide), o.gi (show 2 ∈ [2] by decide) (k := 1) rfl, Option.bind_some, if_true]
  have jh := hsh_0 (D := D) h2 rfl h3 h4
  have loch : ∀ (h1' : HX) (y z : Value), hx_ch h h1' w (.inr (2, [.ref v, .int 0, y, z])) → hlo h h1' := fun h1' y z c a b e he => by
    by_cases c1 : a = w
    · subst c1
      rw [h1] at he
      cases he
      exact Or.inr ⟨true, _, _, _, _, _, _, rfl, c.2.2.1⟩
    · exact Or.inl ⟨b, (c.2.2.2 a c1).trans he⟩
  unfold f_J9_hashCode
  simp only [o.is (show 2 ∈ [2] by decide), o.gi (show 2 ∈ [2] by decide) (k := 2) rfl, o.gi (show 2 ∈ [2] by decide) (k := 3) rfl, o.gr (show 2 ∈ [2] by decide) (k := 0) (r := some v) rfl, Option.bind_some, hl, if_true, jh]
  by_cases c1 : hb = 0
  · rw [if_pos c1]
    by_cases c2 : hc = 0
    · rw [if_pos c2]
      have fl1 := h7 c1 c2
      subst fl1
      by_cases c3 : hsh cs = 0
      · rw [if_pos c3]
        obtain ⟨h12, e12, c12⟩ := hx_pv_e (cis := [2]) (k := 3) (v := .int 1) h1 (by decide) (by simp)
        refine ⟨h12, by rw [hx_pi, e12, Option.bind_some], kx.kp wf (by simp [wf.lt h1]) (c12.kp (by simp)), ⟨true, v, f, hb, 1, c12.2.2.1, ?_, h3, h4, h5, fun _ => c3, fun _ e => by cases e⟩, loch h12 _ _ c12, c12.2.2.2⟩
        obtain ⟨b, e⟩ := h2
        exact ⟨b, (c12.2.2.2 v (fun e2 => by rw [e2, h1] at e; cases e)).trans e⟩
      · rw [if_neg c3]
        obtain ⟨h12, e12, c12⟩ := hx_pv_e (cis := [2]) (k := 2) (v := .int (hsh cs)) h1 (by decide) (by simp)
        refine ⟨h12, by rw [hx_pi, e12, Option.bind_some], kx.kp wf (by simp [wf.lt h1]) (c12.kp (by simp)), ⟨true, v, f, hsh cs, hc, c12.2.2.1, ?_, h3, h4, fun _ => rfl, h6, fun e => absurd e c3⟩, loch h12 _ _ c12, c12.2.2.2⟩
        obtain ⟨b, e⟩ := h2
        exact ⟨b, (c12.2.2.2 v (fun e2 => by rw [e2, h1] at e; cases e)).trans e⟩
    · rw [if_neg c2]
      exact ⟨h, by rw [h6 c2, c1], kx.rf wf, H0, hlo.sub hx_sub.rf, fun _ _ => rfl⟩
  · rw [if_neg c1]
    exact ⟨h, by rw [h5 c1], kx.rf wf, H0, hlo.sub hx_sub.rf, fun _ _ => rfl⟩
