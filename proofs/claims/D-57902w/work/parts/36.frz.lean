/-! the frozen part of a heap; what is said of a part holds of the whole -/
set_option maxRecDepth 100000
def hx_sub (g h : HX) : Prop := ∀ (a : Nat) (c : Bool × gx_E), g.2.2 a = some c → h.2.2 a = some c
theorem hx_sub.rf {h : HX} : hx_sub h h := fun _ _ e => e
theorem hx_sub.tr {g h k : HX} (a : hx_sub g h) (b : hx_sub h k) : hx_sub g k := fun q c e => b q c (a q c e)
def hzf (h : HX) : HX := (h.1, h.2.1, fun q => if q < h.1 then match h.2.2 q with
  | some (false, e) => some (false, e)
  | _ => none else none)
theorem hzf_eq {h : HX} {a : Nat} {c : Bool × gx_E} (e : (hzf h).2.2 a = some c) : a < h.1 ∧ c.1 = false ∧ h.2.2 a = some c := by
  unfold hzf at e
  simp only at e
  by_cases c1 : a < h.1
  · rw [if_pos c1] at e
    refine ⟨c1, ?_⟩
    cases e1 : h.2.2 a with
    | none => rw [e1] at e; cases e
    | some v =>
      obtain ⟨b, x⟩ := v
      rw [e1] at e
      cases b with
      | false => cases e; exact ⟨rfl, rfl⟩
      | true => cases e
  · rw [if_neg c1] at e
    cases e
theorem hzf_of {h : HX} {a : Nat} {e : gx_E} (h1 : a < h.1) (h2 : h.2.2 a = some (false, e)) : (hzf h).2.2 a = some (false, e) := by
  unfold hzf
  simp only
  rw [if_pos h1, h2]
theorem hzf_sub {h : HX} : hx_sub (hzf h) h := fun _ _ e => (hzf_eq e).2.2
theorem gx_le.zf {h h1 : HX} (l : gx_le h h1) : hx_sub (hzf h) (hzf h1) := by
  intro a c e
  obtain ⟨c1, c2, c3⟩ := hzf_eq e
  obtain ⟨b, x⟩ := c
  simp only at c2
  subst c2
  exact hzf_of (Nat.lt_of_lt_of_le c1 l.1) (l.2.2.2.1 a x c1 c3)
theorem hx_ob.sub {g h : HX} {a ci : Nat} {fs : List Value} (s : hx_sub g h) (H : hx_ob g a ci fs) : hx_ob h a ci fs := by
  obtain ⟨b, e⟩ := H
  exact ⟨b, s _ _ e⟩
theorem hx_oi.sub {g h : HX} {a t n : Nat} {f : Nat → Int32} (s : hx_sub g h) (H : hx_oi g a t n f) : hx_oi h a t n f := by
  obtain ⟨b, e⟩ := H
  exact ⟨b, s _ _ e⟩
theorem hx_or.sub {g h : HX} {a t n : Nat} {f : Nat → Option Nat} (s : hx_sub g h) (H : hx_or g a t n f) : hx_or h a t n f := by
  obtain ⟨b, e⟩ := H
  exact ⟨b, s _ _ e⟩
theorem hx_li.sub {g h : HX} {a n : Nat} {xs : List Nat} (s : hx_sub g h) (H : hx_li g a n xs) : hx_li h a n xs := by
  obtain ⟨mc, e, f, h1, h2, h3⟩ := H
  exact ⟨mc, e, f, h1.sub s, h2.sub s, h3⟩
theorem hx_lst.sub {α : Type} {R : HX → Nat → α → Prop} {g h : HX} {a n : Nat} {xs : List α} (s : hx_sub g h) (hR : ∀ b x, R g b x → R h b x) (H : hx_lst R g a n xs) : hx_lst R h a n xs := by
  obtain ⟨as, h1, h2, h3⟩ := H
  exact ⟨as, h1.sub s, h2, fun k x b hk hb => hR b x (h3 k x b hk hb)⟩
theorem hx_str.sub {g h : HX} {a : Nat} {cs : List Nat} (s : hx_sub g h) (H : hx_str g a cs) : hx_str h a cs := by
  obtain ⟨v, b, c, f, h1, h2, h3⟩ := H
  exact ⟨v, b, c, f, h1.sub s, h2.sub s, h3⟩
theorem hx_iv.sub {D : gx_D} {g h : HX} {a : Nat} {i : IV} (s : hx_sub g h) (H : hx_iv D g a i) : hx_iv D h a i := by
  obtain ⟨h0, c, h1, h2⟩ := H
  exact ⟨h0, c, h1.sub s, hx_ob.sub s h2⟩
theorem hx_tr.sub {D : gx_D} {g h : HX} {a : Nat} {t : TR} (s : hx_sub g h) (H : hx_tr D g a t) : hx_tr D h a t := by
  obtain ⟨h0, u, c, h1, h2, h3⟩ := H
  refine ⟨h0, u, c, h1.sub s, ?_, ?_⟩
  · revert h2
    cases t.2.2.2.1 with
    | none => exact fun h => h
    | some p => exact fun ⟨x, e, hp⟩ => ⟨x, e, hx_ob.sub s hp⟩
  · revert h3
    cases t.2.2.2.2 with
    | none => exact fun h => h
    | some p => exact fun ⟨x, e, hp⟩ => ⟨x, e, hx_ob.sub s hp⟩
theorem hx_ar5.sub {g h : HX} {a n : Nat} {f : Nat → Int32} (s : hx_sub g h) (H : hx_ar5 g a n f) : hx_ar5 h a n f := by
  obtain ⟨u, h1, h2⟩ := H
  exact ⟨u, h1.sub s, h2⟩
theorem hx_df.sub {D : gx_D} {g h : HX} {d : Nat} {F : DF} (s : hx_sub g h) (H : hx_df D g d F) : hx_df D h d F := by
  obtain ⟨a, e, v, t, h1, h2, h3, h4, h5⟩ := H
  exact ⟨a, e, v, t, h1.sub s, h2.sub s (fun _ _ => hx_str.sub s), h3.sub s (fun _ _ => hx_str.sub s), h4.sub s (fun _ _ => hx_str.sub s), h5.sub s (fun _ _ => hx_tr.sub s)⟩
theorem hx_rn.sub {D : gx_D} {g h : HX} {r : Nat} {R : RN} (s : hx_sub g h) (H : hx_rn D g r R) : hx_rn D h r R := by
  obtain ⟨i, a1, a2, a3, a4, a5, ge, gt, h1, h2, h3, h4, h5, h6, h7, h8⟩ := H
  exact ⟨i, a1, a2, a3, a4, a5, ge, gt, h1.sub s, h2.sub s (fun _ _ => hx_iv.sub s), h3.sub s, h4.sub s, h5.sub s, h6.sub s, h7.sub s, h8⟩
/-- writes and reads -/
theorem hx_set_at {h : HX} {a : Nat} {e : gx_E} : (hx_set h a e).2.2 a = some (true, e) := if_pos rfl
theorem hx_set_ne {h : HX} {a q : Nat} {e : gx_E} (n : q ≠ a) : (hx_set h a e).2.2 q = h.2.2 q := if_neg n
theorem hx_push_at {h : HX} {n : Nat} {e : gx_E} : (hx_push h n e).2.2 h.1 = some (true, e) := if_pos rfl
theorem hx_push_ne {h : HX} {n q : Nat} {e : gx_E} (k : q ≠ h.1) : (hx_push h n e).2.2 q = h.2.2 q := if_neg k
theorem hx_pv_t {h : HX} {a ci k : Nat} {fs : List Value} {cis : List Nat} {v : Value} (H : h.2.2 a = some (true, .inr (ci, fs))) (hc : ci ∈ cis) (hk : k < fs.length) : hx_pv h a cis k v = some (hx_set h a (.inr (ci, fs.set k v))) := by
  unfold hx_pv
  rw [H]
  exact if_pos ⟨hc, hk⟩
theorem hx_si_t {h : HX} {a n k : Nat} {f : Nat → Int32} {x : Int32} (H : h.2.2 a = some (true, .inl (0, n, .inl f))) (hk : k < n) (hn : n < 2 ^ 31) : hx_si h a (nI k) x = some (hx_set h a (.inl (0, n, .inl (upd f k x)))) := by
  unfold hx_si
  rw [H]
  simp only [nI_clamp (show k < 2 ^ 31 by omega)]
  exact if_pos ⟨trivial, nI_pos' (by omega), hk⟩
theorem hx_sb_t {h : HX} {a n k : Nat} {f : Nat → Int32} {x : Int32} (H : h.2.2 a = some (true, .inl (1, n, .inl f))) (hk : k < n) (hn : n < 2 ^ 31) : hx_sb h a (nI k) x = some (hx_set h a (.inl (1, n, .inl (upd f k x.toInt8.toInt32)))) := by
  unfold hx_sb
  rw [H]
  simp only [nI_clamp (show k < 2 ^ 31 by omega)]
  exact if_pos ⟨trivial, nI_pos' (by omega), hk⟩
theorem hx_ob.mk {h : HX} {a ci : Nat} {b : Bool} {fs : List Value} (H : h.2.2 a = some (b, .inr (ci, fs))) : hx_ob h a ci fs := ⟨b, H⟩
theorem hx_oi.mk {h : HX} {a t n : Nat} {b : Bool} {f : Nat → Int32} (H : h.2.2 a = some (b, .inl (t, n, .inl f))) : hx_oi h a t n f := ⟨b, H⟩
theorem hx_or.mk {h : HX} {a t n : Nat} {b : Bool} {f : Nat → Option Nat} (H : h.2.2 a = some (b, .inl (t, n, .inr (.inr (.inr (.inr f)))))) : hx_or h a t n f := ⟨b, H⟩
/-- a loop that is not left early -/
theorem gx_lq {σ ρ : Type} {F : Nat → σ → ρ} {I : Nat → σ → Prop} (n : Nat)
    (step : ∀ f i s, i < n → I i s → ∃ s', I (i + 1) s' ∧ F (f + 1) s = F f s') :
    ∀ (k i f : Nat) (s : σ), i + k = n → k ≤ f → I i s → ∃ s', I n s' ∧ F f s = F (f - k) s' := by
  intro k
  induction k with
  | zero =>
    intro i f s e hf hi
    have e1 : i = n := by omega
    subst e1
    exact ⟨s, hi, rfl⟩
  | succ k ih =>
    intro i f s e hf hi
    obtain ⟨g, rfl⟩ : ∃ g, f = g + 1 := ⟨f - 1, by omega⟩
    obtain ⟨s', h1, h2⟩ := step g i s (by omega) hi
    obtain ⟨s2, h3, h4⟩ := ih (i + 1) g s' (by omega) (by omega) h1
    exact ⟨s2, h3, by rw [h2, h4]; congr 1; omega⟩
/-- h1 is h but for the cell a, where c lies now -/
def hx_ch (h h1 : HX) (a : Nat) (e : gx_E) : Prop := h1.1 = h.1 ∧ h1.2.1 = h.2.1 ∧ h1.2.2 a = some (true, e) ∧ ∀ z, z ≠ a → h1.2.2 z = h.2.2 z
theorem hx_set_ch {h : HX} {a : Nat} {e : gx_E} : hx_ch h (hx_set h a e) a e := ⟨rfl, rfl, hx_set_at, fun _ n => hx_set_ne n⟩
theorem hx_pv_e {h : HX} {a ci k : Nat} {fs : List Value} {cis : List Nat} {v : Value} (H : h.2.2 a = some (true, .inr (ci, fs))) (hc : ci ∈ cis) (hk : k < fs.length) : ∃ h1, hx_pv h a cis k v = some h1 ∧ hx_ch h h1 a (.inr (ci, fs.set k v)) := ⟨_, hx_pv_t H hc hk, hx_set_ch⟩
theorem hx_si_e {h : HX} {a n k : Nat} {f : Nat → Int32} {x : Int32} (H : h.2.2 a = some (true, .inl (0, n, .inl f))) (hk : k < n) (hn : n < 2 ^ 31) : ∃ h1, hx_si h a (nI k) x = some h1 ∧ hx_ch h h1 a (.inl (0, n, .inl (upd f k x))) := ⟨_, hx_si_t H hk hn, hx_set_ch⟩
theorem hx_sb_e {h : HX} {a n k : Nat} {f : Nat → Int32} {x : Int32} (H : h.2.2 a = some (true, .inl (1, n, .inl f))) (hk : k < n) (hn : n < 2 ^ 31) : ∃ h1, hx_sb h a (nI k) x = some h1 ∧ hx_ch h h1 a (.inl (1, n, .inl (upd f k x.toInt8.toInt32))) := ⟨_, hx_sb_t H hk hn, hx_set_ch⟩
/-- h1 is h and one cell more -/
def hx_nw (h h1 : HX) (n : Nat) (e : gx_E) : Prop := h1.1 = h.1 + 1 ∧ h1.2.1 = h.2.1 + n ∧ h1.2.2 h.1 = some (true, e) ∧ ∀ z, z ≠ h.1 → h1.2.2 z = h.2.2 z
theorem hx_new_e {h : HX} {n ci : Nat} {fs : List Value} : ∃ h1, hx_new h n ci fs = some (h.1, h1) ∧ hx_nw h h1 n (.inr (ci, fs)) := ⟨_, rfl, rfl, rfl, hx_push_at, fun _ k => hx_push_ne k⟩
