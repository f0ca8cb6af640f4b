/-! a heap with a block of new cells behind it (from n on): steps that compute -/
set_option maxRecDepth 100000
def hx_wf (h : HX) : Prop := ∀ q, h.1 ≤ q → h.2.2 q = none
def hx_ap (n : Nat) (h : HX) (B : List gx_E) (s : Nat) : HX := (n + B.length, h.2.1 + s, fun q => if q < n then h.2.2 q else (B[q - n]?).map fun e => (true, e))
theorem ap_0 {h : HX} (w : hx_wf h) : hx_ap h.1 h [] 0 = h := by
  unfold hx_ap
  refine Prod.ext rfl (Prod.ext rfl ?_)
  funext q
  simp only [List.getElem?_nil, Option.map_none]
  by_cases c : q < h.1
  · rw [if_pos c]
  · rw [if_neg c, w q (by omega)]
theorem ap_wf {n : Nat} {h : HX} {B : List gx_E} {s : Nat} : hx_wf (hx_ap n h B s) := fun q hq => by
  have hq : n + B.length ≤ q := hq
  show (if q < n then h.2.2 q else (B[q - n]?).map fun e => (true, e)) = none
  rw [if_neg (by omega), List.getElem?_eq_none (by omega)]
  rfl
theorem ap_at {n : Nat} {h : HX} {B : List gx_E} {s j : Nat} : (hx_ap n h B s).2.2 (n + j) = (B[j]?).map fun e => (true, e) := by
  show (if n + j < n then _ else _) = _
  rw [if_neg (by omega), Nat.add_sub_cancel_left]
theorem ap_at0 {n : Nat} {h : HX} {B : List gx_E} {s : Nat} : (hx_ap n h B s).2.2 n = ((B[0]? : Option gx_E)).map fun e => (true, e) := ap_at (j := 0)
theorem ap_old {n : Nat} {h : HX} {B : List gx_E} {s z : Nat} (hz : z < n) : (hx_ap n h B s).2.2 z = h.2.2 z := if_pos hz
theorem ap_sz {n : Nat} {h : HX} {B : List gx_E} {s : Nat} : (hx_ap n h B s).1 = n + B.length := rfl
theorem ap_sl {n : Nat} {h : HX} {B : List gx_E} {s : Nat} : (hx_ap n h B s).2.1 = h.2.1 + s := rfl
theorem ap_push {n : Nat} {h : HX} {B : List gx_E} {s m : Nat} {e : gx_E} : hx_push (hx_ap n h B s) m e = hx_ap n h (B ++ [e]) (s + m) := by
  unfold hx_push hx_ap
  refine Prod.ext ?_ (Prod.ext ?_ ?_)
  · simp only [List.length_append, List.length_singleton, Nat.add_assoc]
  · simp only [Nat.add_assoc]
  · funext q
    simp only
    by_cases c : q = n + B.length
    · subst c
      rw [if_pos rfl, if_neg (by omega), Nat.add_sub_cancel_left, List.getElem?_append_right (Nat.le_refl _), Nat.sub_self]
      rfl
    · rw [if_neg c]
      by_cases c2 : q < n
      · rw [if_pos c2, if_pos c2]
      · rw [if_neg c2, if_neg c2]
        congr 1
        by_cases c3 : q - n < B.length
        · rw [List.getElem?_append_left c3]
        · rw [List.getElem?_eq_none (by omega), List.getElem?_eq_none (by rw [List.length_append, List.length_singleton]; omega)]
theorem ap_set {n : Nat} {h : HX} {B : List gx_E} {s j : Nat} {e : gx_E} (hj : j < B.length) : hx_set (hx_ap n h B s) (n + j) e = hx_ap n h (B.set j e) s := by
  unfold hx_set hx_ap
  refine Prod.ext ?_ (Prod.ext rfl ?_)
  · simp only [List.length_set]
  · funext q
    simp only
    by_cases c : q = n + j
    · subst c
      rw [if_pos rfl, if_neg (by omega), Nat.add_sub_cancel_left, List.getElem?_set_self hj]
      rfl
    · rw [if_neg c]
      by_cases c2 : q < n
      · rw [if_pos c2, if_pos c2]
      · rw [if_neg c2, if_neg c2, List.getElem?_set_ne (by omega)]
theorem ap_seto {n : Nat} {h : HX} {B : List gx_E} {s z : Nat} {e : gx_E} (hz : z < n) : hx_set (hx_ap n h B s) z e = hx_ap n (hx_set h z e) B s := by
  unfold hx_set hx_ap
  refine Prod.ext rfl (Prod.ext rfl ?_)
  funext q
  simp only
  by_cases c : q = z
  · subst c
    rw [if_pos rfl, if_pos hz, if_pos rfl]
  · rw [if_neg c]
    by_cases c2 : q < n
    · rw [if_pos c2, if_pos c2, if_neg c]
    · rw [if_neg c2, if_neg c2]
/-- two blocks -/
theorem ap_ap {n : Nat} {h : HX} {B C : List gx_E} {s t : Nat} : hx_ap (n + B.length) (hx_ap n h B s) C t = hx_ap n h (B ++ C) (s + t) := by
  unfold hx_ap
  refine Prod.ext ?_ (Prod.ext ?_ ?_)
  · simp only [List.length_append, Nat.add_assoc]
  · simp only [Nat.add_assoc]
  · funext q
    simp only
    by_cases c : q < n
    · rw [if_pos (by omega), if_pos c, if_pos c]
    · rw [if_neg c, if_neg c]
      by_cases c2 : q < n + B.length
      · rw [if_pos c2, List.getElem?_append_left (by omega)]
      · rw [if_neg c2, List.getElem?_append_right (by omega)]
        congr 2
        omega
/-- steps -/
theorem ap_new {n : Nat} {h : HX} {B : List gx_E} {s m ci : Nat} {fs : List Value} : hx_new (hx_ap n h B s) m ci fs = some (n + B.length, hx_ap n h (B ++ [.inr (ci, fs)]) (s + m)) := by
  unfold hx_new
  rw [ap_push]
  rfl
theorem ap_newa {n : Nat} {h : HX} {B : List gx_E} {s t k : Nat} {x : Int32} {e : Nat → (Nat → Int32) ⊕ (Nat → Int64) ⊕ (Nat → UInt32) ⊕ (Nat → UInt64) ⊕ (Nat → Option Nat)} (hx : x = nI k) (hk : k ≤ 60000000) : hx_newa (hx_ap n h B s) t x e = some (n + B.length, hx_ap n h (B ++ [.inl (t, k, e k)]) (s + k)) := by
  subst hx
  unfold hx_newa
  rw [nI_clamp (by omega), if_pos ⟨nI_pos' (by omega), hk⟩, ap_push]
  rfl
theorem ap_pv {n : Nat} {h : HX} {B : List gx_E} {s j : Nat} {k : Nat} {cis : List Nat} {v : Value} : hx_pv (hx_ap n h B s) (n + j) cis k v = match B[j]? with
    | some (.inr (ci, fs)) => if ci ∈ cis ∧ k < fs.length then some (hx_ap n h (B.set j (.inr (ci, fs.set k v))) s) else none
    | _ => none := by
  unfold hx_pv
  rw [ap_at]
  cases e : B[j]? with
  | none => rfl
  | some c =>
    have hj := (List.getElem?_eq_some_iff.1 e).1
    cases c with
    | inl x => rfl
    | inr x =>
      obtain ⟨ci, fs⟩ := x
      simp only [Option.map_some]
      rw [ap_set hj]
theorem ap_pv0 {n : Nat} {h : HX} {B : List gx_E} {s : Nat} {k : Nat} {cis : List Nat} {v : Value} : hx_pv (hx_ap n h B s) n cis k v = match (B[0]? : Option gx_E) with
    | some (.inr (ci, fs)) => if ci ∈ cis ∧ k < fs.length then some (hx_ap n h (B.set 0 (.inr (ci, fs.set k v))) s) else none
    | _ => none := ap_pv (j := 0)
theorem ap_gv {n : Nat} {h : HX} {B : List gx_E} {s j : Nat} {k : Nat} {cis : List Nat} : hx_gv (hx_ap n h B s) (n + j) cis k = match B[j]? with
    | some (.inr (ci, fs)) => if ci ∈ cis then fs[k]? else none
    | _ => none := by
  unfold hx_gv
  rw [ap_at]
  cases e : B[j]? with
  | none => rfl
  | some c => cases c <;> rfl
theorem ap_gv0 {n : Nat} {h : HX} {B : List gx_E} {s : Nat} {k : Nat} {cis : List Nat} : hx_gv (hx_ap n h B s) n cis k = match (B[0]? : Option gx_E) with
    | some (.inr (ci, fs)) => if ci ∈ cis then fs[k]? else none
    | _ => none := ap_gv (j := 0)
theorem ap_is {n : Nat} {h : HX} {B : List gx_E} {s j : Nat} {cis : List Nat} : hx_is (hx_ap n h B s) (n + j) cis = match B[j]? with
    | some (.inr (ci, _)) => if ci ∈ cis then some () else none
    | _ => none := by
  unfold hx_is
  rw [ap_at]
  cases e : B[j]? with
  | none => rfl
  | some c => cases c <;> rfl
theorem ap_is0 {n : Nat} {h : HX} {B : List gx_E} {s : Nat} {cis : List Nat} : hx_is (hx_ap n h B s) n cis = match (B[0]? : Option gx_E) with
    | some (.inr (ci, _)) => if ci ∈ cis then some () else none
    | _ => none := ap_is (j := 0)
theorem ap_len {n : Nat} {h : HX} {B : List gx_E} {s j : Nat} : hx_len (hx_ap n h B s) (n + j) = match B[j]? with
    | some (.inl (_, m, _)) => some (nI m)
    | _ => none := by
  unfold hx_len
  rw [ap_at]
  cases e : B[j]? with
  | none => rfl
  | some c => cases c <;> rfl
theorem ap_len0 {n : Nat} {h : HX} {B : List gx_E} {s : Nat} : hx_len (hx_ap n h B s) n = match (B[0]? : Option gx_E) with
    | some (.inl (_, m, _)) => some (nI m)
    | _ => none := ap_len (j := 0)
theorem ap_ai {n : Nat} {h : HX} {B : List gx_E} {s j : Nat} {t k : Nat} {x : Int32} (hx : x = nI k) (hk : k < 2 ^ 31) : hx_ai (hx_ap n h B s) (n + j) t x = match B[j]? with
    | some (.inl (t', m, .inl f)) => if t' = t ∧ k < m then some (f k) else none
    | _ => none := by
  subst hx
  unfold hx_ai
  rw [ap_at]
  cases e : B[j]? with
  | none => rfl
  | some c =>
    cases c with
    | inr x => rfl
    | inl x =>
      obtain ⟨t', m, u⟩ := x
      cases u with
      | inr y => rfl
      | inl f => simp only [Option.map_some, nI_clamp hk, nI_pos' hk, true_and]
theorem ap_ai0 {n : Nat} {h : HX} {B : List gx_E} {s : Nat} {t k : Nat} {x : Int32} (hx : x = nI k) (hk : k < 2 ^ 31) : hx_ai (hx_ap n h B s) n t x = match (B[0]? : Option gx_E) with
    | some (.inl (t', m, .inl f)) => if t' = t ∧ k < m then some (f k) else none
    | _ => none := ap_ai (j := 0) hx hk
theorem ap_ar {n : Nat} {h : HX} {B : List gx_E} {s j : Nat} {k : Nat} {x : Int32} (hx : x = nI k) (hk : k < 2 ^ 31) : hx_ar (hx_ap n h B s) (n + j) x = match B[j]? with
    | some (.inl (t', m, .inr (.inr (.inr (.inr f))))) => if 4 ≤ t' ∧ k < m then some (f k) else none
    | _ => none := by
  subst hx
  unfold hx_ar
  rw [ap_at]
  cases e : B[j]? with
  | none => rfl
  | some c =>
    cases c with
    | inr x => rfl
    | inl x =>
      obtain ⟨t', m, u⟩ := x
      rcases u with f | f | f | f | f
      · rfl
      · rfl
      · rfl
      · rfl
      · simp only [Option.map_some, nI_clamp hk, nI_pos' hk, true_and]
theorem ap_ar0 {n : Nat} {h : HX} {B : List gx_E} {s : Nat} {k : Nat} {x : Int32} (hx : x = nI k) (hk : k < 2 ^ 31) : hx_ar (hx_ap n h B s) n x = match (B[0]? : Option gx_E) with
    | some (.inl (t', m, .inr (.inr (.inr (.inr f))))) => if 4 ≤ t' ∧ k < m then some (f k) else none
    | _ => none := ap_ar (j := 0) hx hk
theorem ap_si {n : Nat} {h : HX} {B : List gx_E} {s j : Nat} {k : Nat} {x y : Int32} (hx : x = nI k) (hk : k < 2 ^ 31) : hx_si (hx_ap n h B s) (n + j) x y = match B[j]? with
    | some (.inl (t', m, .inl f)) => if t' = 0 ∧ k < m then some (hx_ap n h (B.set j (.inl (0, m, .inl (upd f k y)))) s) else none
    | _ => none := by
  subst hx
  unfold hx_si
  rw [ap_at]
  cases e : B[j]? with
  | none => rfl
  | some c =>
    have hj := (List.getElem?_eq_some_iff.1 e).1
    cases c with
    | inr x => rfl
    | inl x =>
      obtain ⟨t', m, u⟩ := x
      cases u with
      | inr y => rfl
      | inl f =>
        simp only [Option.map_some, nI_clamp hk, nI_pos' hk, true_and]
        rw [ap_set hj]
theorem ap_si0 {n : Nat} {h : HX} {B : List gx_E} {s : Nat} {k : Nat} {x y : Int32} (hx : x = nI k) (hk : k < 2 ^ 31) : hx_si (hx_ap n h B s) n x y = match (B[0]? : Option gx_E) with
    | some (.inl (t', m, .inl f)) => if t' = 0 ∧ k < m then some (hx_ap n h (B.set 0 (.inl (0, m, .inl (upd f k y)))) s) else none
    | _ => none := ap_si (j := 0) hx hk
theorem ap_sb {n : Nat} {h : HX} {B : List gx_E} {s j : Nat} {k : Nat} {x y : Int32} (hx : x = nI k) (hk : k < 2 ^ 31) : hx_sb (hx_ap n h B s) (n + j) x y = match B[j]? with
    | some (.inl (t', m, .inl f)) => if t' = 1 ∧ k < m then some (hx_ap n h (B.set j (.inl (1, m, .inl (upd f k y.toInt8.toInt32)))) s) else none
    | _ => none := by
  subst hx
  unfold hx_sb
  rw [ap_at]
  cases e : B[j]? with
  | none => rfl
  | some c =>
    have hj := (List.getElem?_eq_some_iff.1 e).1
    cases c with
    | inr x => rfl
    | inl x =>
      obtain ⟨t', m, u⟩ := x
      cases u with
      | inr y => rfl
      | inl f =>
        simp only [Option.map_some, nI_clamp hk, nI_pos' hk, true_and]
        rw [ap_set hj]
theorem ap_sb0 {n : Nat} {h : HX} {B : List gx_E} {s : Nat} {k : Nat} {x y : Int32} (hx : x = nI k) (hk : k < 2 ^ 31) : hx_sb (hx_ap n h B s) n x y = match (B[0]? : Option gx_E) with
    | some (.inl (t', m, .inl f)) => if t' = 1 ∧ k < m then some (hx_ap n h (B.set 0 (.inl (1, m, .inl (upd f k y.toInt8.toInt32)))) s) else none
    | _ => none := ap_sb (j := 0) hx hk
theorem ap_sr {n : Nat} {h : HX} {B : List gx_E} {s j : Nat} {t k : Nat} {cis : List Nat} {x : Int32} {r : Option Nat} (hx : x = nI k) (hk : k < 2 ^ 31) : hx_sr (hx_ap n h B s) (n + j) t cis x r = match B[j]? with
    | some (.inl (t', m, .inr (.inr (.inr (.inr f))))) => if t' = t ∧ k < m ∧ hx_okr (hx_ap n h B s) cis r = true then some (hx_ap n h (B.set j (.inl (t, m, .inr (.inr (.inr (.inr (va_up f k r))))))) s) else none
    | _ => none := by
  subst hx
  unfold hx_sr
  rw [ap_at]
  cases e : B[j]? with
  | none => rfl
  | some c =>
    have hj := (List.getElem?_eq_some_iff.1 e).1
    cases c with
    | inr x => rfl
    | inl x =>
      obtain ⟨t', m, u⟩ := x
      rcases u with f | f | f | f | f
      · rfl
      · rfl
      · rfl
      · rfl
      · simp only [Option.map_some, nI_clamp hk, nI_pos' hk, true_and]
        rw [ap_set hj]
theorem ap_sr0 {n : Nat} {h : HX} {B : List gx_E} {s : Nat} {t k : Nat} {cis : List Nat} {x : Int32} {r : Option Nat} (hx : x = nI k) (hk : k < 2 ^ 31) : hx_sr (hx_ap n h B s) n t cis x r = match (B[0]? : Option gx_E) with
    | some (.inl (t', m, .inr (.inr (.inr (.inr f))))) => if t' = t ∧ k < m ∧ hx_okr (hx_ap n h B s) cis r = true then some (hx_ap n h (B.set 0 (.inl (t, m, .inr (.inr (.inr (.inr (va_up f k r))))))) s) else none
    | _ => none := ap_sr (j := 0) hx hk
theorem hx_gi_r {h : HX} {a k : Nat} {cis : List Nat} : hx_gi h a cis k = match hx_gv h a cis k with
  | some (.int x) => some x
  | _ => none := rfl
theorem hx_gr_r {h : HX} {a k : Nat} {cis : List Nat} : hx_gr h a cis k = match hx_gv h a cis k with
  | some (.ref x) => some (some x)
  | some .null => some none
  | _ => none := rfl
theorem va_rf_s {a : Nat} : va_rf (some a) = .ref a := rfl
theorem va_rf_n : va_rf none = .null := rfl
/-- old cells -/
theorem ap_gvo {n : Nat} {h : HX} {B : List gx_E} {s z : Nat} {k : Nat} {cis : List Nat} (hz : z < n) : hx_gv (hx_ap n h B s) z cis k = hx_gv h z cis k := by
  unfold hx_gv
  rw [ap_old hz]
theorem ap_iso {n : Nat} {h : HX} {B : List gx_E} {s z : Nat} {cis : List Nat} (hz : z < n) : hx_is (hx_ap n h B s) z cis = hx_is h z cis := by
  unfold hx_is
  rw [ap_old hz]
theorem ap_leno {n : Nat} {h : HX} {B : List gx_E} {s z : Nat}  (hz : z < n) : hx_len (hx_ap n h B s) z = hx_len h z := by
  unfold hx_len
  rw [ap_old hz]
theorem ap_aio {n : Nat} {h : HX} {B : List gx_E} {s z : Nat} {t : Nat} {x : Int32} (hz : z < n) : hx_ai (hx_ap n h B s) z t x = hx_ai h z t x := by
  unfold hx_ai
  rw [ap_old hz]
theorem ap_aro {n : Nat} {h : HX} {B : List gx_E} {s z : Nat} {x : Int32} (hz : z < n) : hx_ar (hx_ap n h B s) z x = hx_ar h z x := by
  unfold hx_ar
  rw [ap_old hz]
theorem ap_alo {n : Nat} {h : HX} {B : List gx_E} {s z : Nat} {x : Int32} (hz : z < n) : hx_al (hx_ap n h B s) z x = hx_al h z x := by
  unfold hx_al
  rw [ap_old hz]
theorem ap_pvo {n : Nat} {h : HX} {B : List gx_E} {s z : Nat} {k : Nat} {cis : List Nat} {v : Value} (hz : z < n) : hx_pv (hx_ap n h B s) z cis k v = (hx_pv h z cis k v).map fun g => hx_ap n g B s := by
  unfold hx_pv
  rw [ap_old hz]
  split
  · split
    · rw [ap_seto hz]; rfl
    · rfl
  · rfl
theorem ap_sio {n : Nat} {h : HX} {B : List gx_E} {s z : Nat} {x y : Int32} (hz : z < n) : hx_si (hx_ap n h B s) z x y = (hx_si h z x y).map fun g => hx_ap n g B s := by
  unfold hx_si
  rw [ap_old hz]
  split
  · split
    · rw [ap_seto hz]; rfl
    · rfl
  · rfl
theorem ap_sbo {n : Nat} {h : HX} {B : List gx_E} {s z : Nat} {x y : Int32} (hz : z < n) : hx_sb (hx_ap n h B s) z x y = (hx_sb h z x y).map fun g => hx_ap n g B s := by
  unfold hx_sb
  rw [ap_old hz]
  split
  · split
    · rw [ap_seto hz]; rfl
    · rfl
  · rfl
theorem ap_okr {n : Nat} {h : HX} {B : List gx_E} {s j : Nat} {cis : List Nat} : hx_okr (hx_ap n h B s) cis (some (n + j)) = match B[j]? with
    | some (.inr (ci, _)) => decide (ci ∈ cis)
    | _ => false := by
  unfold hx_okr
  simp only [ap_at]
  cases e : B[j]? with
  | none => rfl
  | some c => cases c <;> rfl
theorem ap_okro {n : Nat} {h : HX} {B : List gx_E} {s z ci : Nat} {fs : List Value} {cis : List Nat} (hz : z < n) (H : hx_ob h z ci fs) (hc : ci ∈ cis) : hx_okr (hx_ap n h B s) cis (some z) = true := by
  obtain ⟨b, e⟩ := H
  unfold hx_okr
  simp only [ap_old hz, e]
  exact decide_eq_true hc
theorem hx_okr_n {h : HX} {cis : List Nat} : hx_okr h cis none = true := rfl
theorem hx_okr_o {h : HX} {z ci : Nat} {fs : List Value} {cis : List Nat} (H : hx_ob h z ci fs) (hc : ci ∈ cis) : hx_okr h cis (some z) = true := by
  obtain ⟨b, e⟩ := H
  unfold hx_okr
  simp only [e]
  exact decide_eq_true hc
theorem ap_cpy {n : Nat} {h : HX} {B : List gx_E} {s j a m : Nat} {b : Bool} {f : Nat → Int32} {x : Int32} (ha : a < n) (H : h.2.2 a = some (b, .inl (0, m, .inl f))) (hx : x = nI m) (hm : m < 2 ^ 31) : hx_cpy (hx_ap n h B s) a 0 (n + j) 0 x = match B[j]? with
    | some (.inl (t', m', .inl g)) => if t' = 0 ∧ m ≤ m' then some (hx_ap n h (B.set j (.inl (0, m', .inl (va_cpy f g 0 0 m)))) s) else none
    | _ => none := by
  subst hx
  unfold hx_cpy
  rw [ap_old ha, H, ap_at]
  cases e : B[j]? with
  | none => rfl
  | some c =>
    have hj := (List.getElem?_eq_some_iff.1 e).1
    cases c with
    | inr x => rfl
    | inl x =>
      obtain ⟨t', m', u⟩ := x
      cases u with
      | inr y => rfl
      | inl g =>
        simp only [Option.map_some, nI_clamp hm, show (0 : Int32).toNatClampNeg = 0 from rfl, Nat.zero_add, Nat.le_refl, true_and]
        by_cases c1 : t' = 0
        · subst c1
          by_cases c2 : m ≤ m'
          · rw [if_pos ⟨rfl, Nat.zero_le _, by decide, by decide, nI_pos' hm, c2, fun h => by cases h⟩, if_pos ⟨rfl, c2⟩, ap_set hj]
          · rw [if_neg (fun h => c2 h.2.2.2.2.2.1), if_neg (fun h => c2 h.2)]
        · rw [if_neg (fun h => c1 h.1.symm), if_neg (fun h => c1 h.1)]
