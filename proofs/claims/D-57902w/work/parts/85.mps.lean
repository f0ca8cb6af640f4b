/-! the model's parsers: calls on tokens -/
set_option maxRecDepth 100000
set_option linter.unusedSimpArgs false
/-- fields that a parse leaves; the offset too, where there is no error -/
def mfq (W : List Nat) (s t : MS) : Prop := ((∀ j, j < 16 ∨ 22 < j → t.1 j = s.1 j) ∧ (t.1 16 = 0 → s.1 16 = 0 ∧ t.1 17 = s.1 17)) ∧ ∀ q, q ∉ W → t.2 q = s.2 q
theorem mfq.rf {W : List Nat} {s : MS} : mfq W s s := ⟨⟨fun _ _ => rfl, fun h => ⟨h, rfl⟩⟩, fun _ _ => rfl⟩
theorem mfq.tr {W : List Nat} {a b c : MS} (x : mfq W a b) (y : mfq W b c) : mfq W a c := ⟨⟨fun j h => (y.1.1 j h).trans (x.1.1 j h), fun h => ⟨(x.1.2 (y.1.2 h).1).1, (y.1.2 h).2.trans (x.1.2 (y.1.2 h).1).2⟩⟩, fun q h => (y.2 q h).trans (x.2 q h)⟩
theorem mfq.up {W V : List Nat} {a b : MS} (x : mfq W a b) (h : ∀ q, q ∈ W → q ∈ V) : mfq V a b := ⟨x.1, fun q hq => x.2 q fun m => hq (h q m)⟩
theorem mfq.p {W : List Nat} {s : MS} {k : Nat} {x : Int32} (h : 18 ≤ k ∧ k ≤ 22) : mfq W s (ms_p s k x) := ⟨⟨fun j hj => ms_p1n (by omega), fun h0 => ⟨(ms_p1n (by omega)).symm.trans h0, ms_p1n (by omega)⟩⟩, fun _ _ => rfl⟩
theorem mfq.u {W : List Nat} {s : MS} {j i : Nat} {x : Int32} (h : j ∈ W) : mfq W s (ms_u s j i x) := ⟨⟨fun _ _ => rfl, fun h0 => ⟨h0, rfl⟩⟩, fun q hq => by
  show (if q = j then upd (s.2 j) i x else s.2 q) = s.2 q
  rw [if_neg (fun e => hq (by rw [e]; exact h))]⟩
theorem mfq.of7 {s t : MS} (q : mq7 s t) (h : t.2 7 = s.2 7) (h16 : s.1 16 = 0) (h17 : t.1 17 = s.1 17) : mfq [] s t := ⟨⟨q.1, fun _ => ⟨h16, h17⟩⟩, fun k _ => by
  by_cases c : k = 7
  · rw [c, h]
  · exact q.2 k c⟩
theorem mfq.in {W : List Nat} {s t : MS} {ib : List Nat} (q : mfq W s t) (h : 6 ∉ W) (I : m_in s ib) : m_in t ib := ⟨(q.1.1 13 (Or.inl (by decide))).trans I.1, fun k b hk => by rw [q.2 6 h]; exact I.2 k b hk⟩
def MR {α : Type} (ib : List Nat) (W : List Nat) (s : MS) (res : Option (Bool × MS)) (m : PR α) (Q : α → MS → Prop) : Prop := ∃ b t, res = some (b, t) ∧ mfq W s t ∧ (match m with
  | .inl e => b = false ∧ t.1 16 = nI e.1 ∧ t.1 17 = nI e.2
  | .inr v => b = true ∧ Q v.1 t ∧ MT t ib v.2)
theorem gx_b2_id {x : Option (Bool × MS)} : (gx_b2 x fun b h => some (b, h)) = x := by
  cases x <;> rfl
theorem MR.bnd {α β : Type} {ib W : List Nat} {s : MS} {res : Option (Bool × MS)} {m : PR α} {Q : α → MS → Prop} {K : MS → Option (Bool × MS)} {f : α → Nat → PR β} {Q' : β → MS → Prop} (H : MR ib W s res m Q)
    (hK : ∀ v p' t, m = .inr (v, p') → mfq W s t → Q v t → MT t ib p' → MR ib W t (K t) (f v p') Q') : MR ib W s (gx_b2 res fun b t => if b = true then K t else some (false, t)) (pb m f) Q' := by
  obtain ⟨b, t, e, F, M⟩ := H
  cases m with
  | inl e' =>
    obtain ⟨rfl, M2⟩ := M
    exact ⟨false, t, by rw [e, pl_b2_s, if_neg Bool.false_ne_true], F, rfl, M2⟩
  | inr v =>
    obtain ⟨v, p'⟩ := v
    obtain ⟨rfl, M2, M3⟩ := M
    obtain ⟨b2, t2, e2, F2, M4⟩ := hK v p' t rfl F M2 M3
    exact ⟨b2, t2, by rw [e, pl_b2_s, if_pos rfl, e2], F.tr F2, M4⟩
theorem MR.up {α : Type} {ib W V : List Nat} {s : MS} {res : Option (Bool × MS)} {m : PR α} {Q : α → MS → Prop} (H : MR ib W s res m Q) (h : ∀ q, q ∈ W → q ∈ V) : MR ib V s res m Q := by
  obtain ⟨b, t, e, F, M⟩ := H
  exact ⟨b, t, e, F.up h, M⟩
theorem MR.pre {α : Type} {ib W : List Nat} {s s1 : MS} {res : Option (Bool × MS)} {m : PR α} {Q : α → MS → Prop} (F : mfq W s s1) (H : MR ib W s1 res m Q) : MR ib W s res m Q := by
  obtain ⟨b, t, e, F2, M⟩ := H
  exact ⟨b, t, e, F.tr F2, M⟩
/-- the strings that the model compares with -/
def KM (D : gx_D) (b : HX) (o : Nat) : Prop := ∀ (s : MS) (i : Nat) (cs : List Nat), kcs[i]? = some cs → hx_str (mh b o s) (D.2.2.1 i) cs
section MPS
variable {D : gx_D} {b : HX} {o p : Nat} {s : MS} {ib W : List Nat}
theorem MT.fail {α : Type} (T : MT s ib p) (c : Nat) (hc : 1 ≤ c ∧ c ≤ 7 := by decide) {Q : α → MS → Prop} : MR ib W s (f_X9_failsAt D b o s (nI c)) (.inl (c, tS ib p)) Q := by
  refine ⟨false, ms_p (ms_p s 16 (nI c)) 17 (s.1 19), ?_, ⟨⟨fun j hj => (ms_p1n (by omega)).trans (ms_p1n (by omega)), fun h0 => absurd (show nI c = 0 from h0) (nI_ne (b := 0) (by omega) (by decide) (by omega))⟩, fun _ _ => rfl⟩, rfl, rfl, T.2.2.2.1⟩
  unfold f_X9_failsAt ms_pf
  rw [T.2.1, if_pos rfl, Option.bind_some, Option.bind_some]
  rfl
theorem MT.next (T : MT s ib p) (hb : ib_ok ib) (hp : p ≤ ib.length) : ∃ t, f_X9_advanceToken D b o s = some t ∧ MT t ib (tN ib p) ∧ mfq [] s t ∧ t.1 17 = s.1 17 ∧ t.1 22 = s.1 22 := by
  obtain ⟨t, e, T1, q, q17, q7, q22⟩ := m_advance (D := D) (b := b) (o := o) T.1 hb (tS_le hp).2.2 T.2.2.1 T.2.1
  exact ⟨t, e, T1, mfq.of7 q q7 T.2.1 q17, q17, q22⟩
theorem MR.adv {α : Type} {K : MS → Option (Bool × MS)} {m : PR α} {Q : α → MS → Prop} (T : MT s ib p) (hb : ib_ok ib) (hp : p ≤ ib.length) (H : ∀ t, mfq [] s t → MT t ib (tN ib p) → t.1 22 = s.1 22 → MR ib W t (K t) m Q) : MR ib W s ((f_X9_advanceToken D b o s).bind K) m Q := by
  obtain ⟨t, e, T1, F, _, q22⟩ := T.next (D := D) (b := b) (o := o) hb hp
  rw [e, Option.bind_some]
  exact MR.pre (F.up (by simp)) (H t F T1 q22)
theorem mkd_1 {ib : List Nat} {p : Nat} (hp : p ≤ ib.length) : (nI (mkd (tK ib p)) = 1) ↔ tK ib p = 0 := by
  have k5 := (adv_ok hp).2.2.2.1
  have k5 : tK ib p < 5 := k5
  generalize tK ib p = k at *
  match k, k5 with
  | 0, _ => decide
  | 1, _ => decide
  | 2, _ => decide
  | 3, _ => decide
  | 4, _ => decide
  | n + 5, h => omega
theorem mkd_2 {ib : List Nat} {p : Nat} (hp : p ≤ ib.length) : ((nI (mkd (tK ib p)) = 2) ↔ tK ib p = 1) ∧ ((nI (mkd (tK ib p)) = 3) ↔ tK ib p = 2) ∧ ((nI (mkd (tK ib p)) = 0) ↔ tK ib p = 3) := by
  have k5 := (adv_ok hp).2.2.2.1
  have k5 : tK ib p < 5 := k5
  generalize tK ib p = k at *
  match k, k5 with
  | 0, _ => decide
  | 1, _ => decide
  | 2, _ => decide
  | 3, _ => decide
  | 4, _ => decide
  | n + 5, h => omega
theorem MT.k (T : MT s ib p) : s.1 21 = nI (mkd (tK ib p)) := T.2.2.2.2.1
theorem MT.len (T : MT s ib p) (hp : p ≤ ib.length) (hb : ib_ok ib) : s.1 18 - s.1 19 = nI (tN ib p - tS ib p) := by
  have t := tS_le hp
  rw [T.2.2.1, T.2.2.2.1]
  exact pk_sub t.2.1
theorem tW_cut (hp : p ≤ ib.length) (k0 : tK ib p = 0) : tW ib p = cut ib (tS ib p) (tN ib p) ∧ (tW ib p).length = tN ib p - tS ib p ∧ tN ib p - tS ib p ≤ 8 := by
  have t := tS_le hp
  have h := (adv_ok hp).2.2.2.2.2.2.1 k0
  have h1 : tW ib p = cut ib (tS ib p) (tN ib p) := h.1
  have h2 : tN ib p ≤ tS ib p + 8 := h.2.1
  exact ⟨h1, by rw [h1, cut_len t.2.2], by omega⟩
/-- a sign of the token -/
theorem MT.at (T : MT s ib p) (hb : ib_ok ib) (hp : p ≤ ib.length) (k0 : tK ib p = 0) {i : Nat} (hi : i < (tW ib p).length) : ms_ai s 6 (s.1 19 + nI i) = some (nI (tW ib p)[i]) ∧ (tW ib p)[i] < 128 := by
  have t := tS_le hp
  obtain ⟨h1, h2, h3⟩ := tW_cut hp k0
  have h19 : s.1 19 = nI (tS ib p) := T.2.2.2.1
  have e1 : (tW ib p)[i]? = some (tW ib p)[i] := List.getElem?_eq_getElem hi
  have e2 : ib[tS ib p + i]? = some (tW ib p)[i] := by
    rw [← e1]
    rw [h1] at hi ⊢
    rw [cut_at (by rw [cut_len t.2.2] at hi; exact hi)]
  refine ⟨?_, ?_⟩
  · rw [h19, nI_add, ms_ai_n (j := 6) (by decide) rfl (show tS ib p + i < ms_len 6 from by have := hb.1; show _ < 700; omega), T.1.2 _ _ e2]
  · have := ((adv_ok hp).2.2.2.2.2.2.1 k0).2.2 _ (List.getElem_mem hi)
    unfold isL at this
    rw [Bool.and_eq_true, decide_eq_true_eq, decide_eq_true_eq] at this
    omega
theorem m_isWord (T : MT s ib p) (hb : ib_ok ib) (hp : p ≤ ib.length) {a : Nat} {cs : List Nat} (H : hx_str (mh b o s) a cs) (hc : cs ≠ []) : f_X9_isWord D b o s (some a) = some (decide (tW ib p = cs)) := by
  have len := str_len (D := D) H
  have l100 : cs.length < 100 := by obtain ⟨_, _, _, _, _, _, h, _⟩ := H; exact h
  unfold f_X9_isWord
  rw [T.k]
  by_cases k0 : tK ib p = 0
  · obtain ⟨h1, h2, h3⟩ := tW_cut hp k0
    rw [if_pos ((mkd_1 hp).2 k0), Option.bind_some, len, Option.bind_some, T.len hp hb, ← h2]
    by_cases c1 : (tW ib p).length = cs.length
    · rw [if_pos (by rw [c1])]
      obtain ⟨r, e1, e2⟩ := gx_lp (F := fun f (x : Int32) => f_X9_isWord_b28 D b o f s (some a) x) (I := fun i x => x = nI i ∧ ∀ j, j < i → (tW ib p)[j]? = cs[j]?) (Q := fun r => r = decide (tW ib p = cs)) cs.length (by
        intro fu i x hi hI
        obtain ⟨rfl, hI⟩ := hI
        have i2 : i < (tW ib p).length := by omega
        have c2 := T.at hb hp k0 i2
        have c3 : cs[i] < 128 := by
          obtain ⟨_, _, _, _, _, _, _, h⟩ := H
          exact (h i _ (List.getElem?_eq_getElem hi)).2
        simp only [f_X9_isWord_b28, Option.bind_some, len, if_neg (nI_ge hi (show cs.length < 2 ^ 31 by omega)), c2.1, str_chr H hi]
        by_cases c4 : (tW ib p)[i] = cs[i]
        · refine Or.inl ⟨nI (i + 1), ⟨rfl, fun j hj => ?_⟩, ?_⟩
          · by_cases c5 : j = i
            · rw [c5, List.getElem?_eq_getElem hi, List.getElem?_eq_getElem i2, c4]
            · exact hI j (by omega)
          · rw [if_pos (by rw [c4]), gx_c1]
        · refine Or.inr ⟨false, ?_, ?_⟩
          · rw [if_neg (nI_ne (by omega) (by omega) c4)]
          · rw [decide_eq_false (fun e => c4 (by simp only [e]))]) (by
        intro fu x hI
        obtain ⟨rfl, hI⟩ := hI
        refine ⟨true, ?_, ?_⟩
        · simp only [f_X9_isWord_b28, Option.bind_some, len, if_pos (nI_le (Nat.le_refl cs.length) (show cs.length < 2 ^ 31 by omega))]
        · rw [decide_eq_true]
          refine List.ext_getElem? fun i => ?_
          by_cases c5 : i < cs.length
          · exact hI i c5
          · rw [List.getElem?_eq_none (by omega), List.getElem?_eq_none (by omega)]) cs.length 0 gx_fuel 0 (by omega) (by rw [pl_fl]; omega) ⟨rfl, fun j hj => by omega⟩
      rw [e1, e2]
    · rw [if_neg (nI_ne (by omega) (by omega) c1), decide_eq_false (fun e => c1 (by rw [e]))]
  · have t0 : tW ib p = [] := (adv_ok hp).2.2.2.2.2.2.2.1 k0
    rw [if_neg (fun h => k0 ((mkd_1 hp).1 h)), t0, decide_eq_false (fun e => hc e.symm)]
theorem m_seesName (T : MT s ib p) (hb : ib_ok ib) (hp : p ≤ ib.length) : MR ib W s (f_X9_seesName D b o s) (pName ib p) fun v t => t = s ∧ tK ib p = 0 := by
  have fail : MR (α := List Nat) ib W s (f_X9_seesName_b22 D b o s) (.inl (1, tS ib p)) fun v t => t = s ∧ tK ib p = 0 := by
    obtain ⟨b', t, e, F, M⟩ := MT.fail (α := List Nat) (D := D) (b := b) (o := o) (W := W) (Q := fun v t => t = s ∧ tK ib p = 0) T 1
    refine ⟨b', t, ?_, F, M⟩
    obtain ⟨rfl, _⟩ := M
    unfold f_X9_seesName_b22
    rw [show (1 : Int32) = nI 1 from rfl, e, pl_b2_s, if_neg Bool.false_ne_true]
  unfold f_X9_seesName pName
  rw [T.k]
  by_cases k0 : tK ib p = 0
  · obtain ⟨h1, h2, h3⟩ := tW_cut hp k0
    have gt := tN_gt hp (by rw [k0]; decide)
    have l1 : 1 ≤ (tW ib p).length := by
      have := (adv_ok hp).2.2.2.2.1 (by show tK ib p ≠ 3; rw [k0]; decide)
      have : tS ib p < tN ib p := this
      omega
    rw [if_pos ((mkd_1 hp).2 k0), T.len hp hb, ← h2]
    by_cases c : (tW ib p).length ≤ 6
    · rw [if_pos (show nI (tW ib p).length ≤ (6 : Int32) from (nI_leI (a := (tW ib p).length) (b := 6) (by omega) (by decide)).2 c), if_pos ⟨l1, c⟩]
      exact ⟨true, s, rfl, mfq.rf, rfl, ⟨rfl, k0⟩, T⟩
    · rw [if_neg (show ¬ nI (tW ib p).length ≤ (6 : Int32) from fun h => c ((nI_leI (a := (tW ib p).length) (b := 6) (by omega) (by decide)).1 h)), if_neg (fun h => c h.2)]
      exact fail
  · have t0 : tW ib p = [] := (adv_ok hp).2.2.2.2.2.2.2.1 k0
    rw [if_neg (fun h => k0 ((mkd_1 hp).1 h)), if_neg (by rw [t0]; decide)]
    exact fail
theorem m_isNameAt (T : MT s ib p) (hb : ib_ok ib) (hp : p ≤ ib.length) (k0 : tK ib p = 0) (h6 : (tW ib p).length ≤ 6) {c : Nat} {x : List Nat} (hc : c + 7 ≤ 504) (hx : s.2 0 c = nI x.length) (hl : x.length ≤ 6) (hw : ∀ i y, x[i]? = some y → s.2 0 (c + 1 + i) = nI y) (h128 : ∀ y, y ∈ x → y < 2 ^ 31) : f_X9_isNameAt D b o s (nI c) = some (decide (x = tW ib p)) := by
  obtain ⟨h1, h2, h3⟩ := tW_cut hp k0
  unfold f_X9_isNameAt
  rw [ms_w rfl (by omega), Option.bind_some, hx, T.len hp hb, ← h2]
  by_cases c1 : x.length = (tW ib p).length
  · rw [if_pos (by rw [c1])]
    obtain ⟨r, e1, e2⟩ := gx_lp (F := fun f (q : Int32) => f_X9_isNameAt_b22 D b o f s (nI c) q) (I := fun i q => q = nI i ∧ ∀ j, j < i → x[j]? = (tW ib p)[j]?) (Q := fun r => r = decide (x = tW ib p)) x.length (by
      intro fu i q hi hI
      obtain ⟨rfl, hI⟩ := hI
      have i2 : i < (tW ib p).length := by omega
      have c2 := T.at hb hp k0 i2
      have c3 := hw i _ (List.getElem?_eq_getElem hi)
      have c5 := h128 _ (List.getElem_mem hi)
      have a0 : ms_ai s 0 (nI c + 1 + nI i) = some (nI x[i]) := by
        rw [nI_1, nI_add, ms_w rfl (by omega), c3]
      simp only [f_X9_isNameAt_b22, T.len hp hb, ← h2, if_neg (nI_ge i2 (show (tW ib p).length < 2 ^ 31 by omega)), a0, Option.bind_some, c2.1]
      by_cases c4 : x[i] = (tW ib p)[i]
      · refine Or.inl ⟨nI (i + 1), ⟨rfl, fun j hj => ?_⟩, ?_⟩
        · by_cases c5 : j = i
          · rw [c5, List.getElem?_eq_getElem hi, List.getElem?_eq_getElem i2, c4]
          · exact hI j (by omega)
        · rw [if_pos (by rw [c4]), gx_c1]
      · refine Or.inr ⟨false, ?_, ?_⟩
        · rw [if_neg (nI_ne c5 (by omega) c4)]
        · rw [decide_eq_false (fun e => c4 (by simp only [← e]))]) (by
      intro fu q hI
      obtain ⟨rfl, hI⟩ := hI
      refine ⟨true, ?_, ?_⟩
      · simp only [f_X9_isNameAt_b22, T.len hp hb, ← h2, if_pos (nI_le (show (tW ib p).length ≤ x.length by omega) (show x.length < 2 ^ 31 by omega))]
      · rw [decide_eq_true]
        refine List.ext_getElem? fun i => ?_
        by_cases c5 : i < x.length
        · exact hI i c5
        · rw [List.getElem?_eq_none (by omega), List.getElem?_eq_none (by omega)]) x.length 0 gx_fuel 0 (by omega) (by rw [pl_fl]; omega) ⟨rfl, fun j hj => by omega⟩
    rw [e1, e2]
  · rw [if_neg (nI_ne (by omega) (by omega) c1), decide_eq_false (fun e => c1 (by rw [e]))]
end MPS
