/-! the model's state apart: its int fields, its arrays (by their order); where it lies on the abstract heap -/
set_option maxRecDepth 100000
abbrev MS : Type := (Nat → Int32) × (Nat → Nat → Int32)
def ms_len : Nat → Nat
  | 0 => 504
  | 1 => 504
  | 2 => 504
  | 3 => 4032
  | 4 => 10000
  | 5 => 10000
  | 6 => 700
  | 7 => 9
  | 8 => 31
  | 9 => 62
  | 10 => 10000
  | 11 => 10000
  | 12 => 60
  | _ => 0
def ms_ty : Nat → Nat
  | 10 => 3
  | _ => 0
def mh_fs (o : Nat) (s : MS) : List Value := [va_rf (some (o + 1 + 0)), va_rf (some (o + 1 + 1)), va_rf (some (o + 1 + 2)), va_rf (some (o + 1 + 3)), .int (s.1 4), .int (s.1 5), .int (s.1 6), .int (s.1 7), .int (s.1 8), va_rf (some (o + 1 + 4)), va_rf (some (o + 1 + 5)), .int (s.1 11), va_rf (some (o + 1 + 6)), .int (s.1 13), .int (s.1 14), .int (s.1 15), .int (s.1 16), .int (s.1 17), .int (s.1 18), .int (s.1 19), .int (s.1 20), .int (s.1 21), .int (s.1 22), va_rf (some (o + 1 + 7)), va_rf (some (o + 1 + 8)), va_rf (some (o + 1 + 9)), .int (s.1 26), va_rf (some (o + 1 + 10)), va_rf (some (o + 1 + 11)), va_rf (some (o + 1 + 12)), .int (s.1 30)]
def mh (b : HX) (o : Nat) (s : MS) : HX := (b.1, b.2.1, fun q => if q = o then some (true, .inr (31, mh_fs o s)) else if o < q ∧ q < o + 14 then some (true, .inl (ms_ty (q - o - 1), ms_len (q - o - 1), .inl (s.2 (q - o - 1)))) else b.2.2 q)
def ms_p (s : MS) (k : Nat) (x : Int32) : MS := (fun q => if q = k then x else s.1 q, s.2)
def ms_u (s : MS) (j i : Nat) (x : Int32) : MS := (s.1, fun q => if q = j then upd (s.2 j) i x else s.2 q)
def ms_pf (s : MS) (k : Nat) (x : Int32) : Option MS := some (ms_p s k x)
def ms_ai (s : MS) (j : Nat) (i : Int32) : Option Int32 := if j < 13 ∧ ms_ty j = 0 ∧ 0 ≤ i ∧ i.toNatClampNeg < ms_len j then some (s.2 j i.toNatClampNeg) else none
def ms_si (s : MS) (j : Nat) (i x : Int32) : Option MS := if j < 13 ∧ ms_ty j = 0 ∧ 0 ≤ i ∧ i.toNatClampNeg < ms_len j then some (ms_u s j i.toNatClampNeg x) else none
def ms_az (s : MS) (j : Nat) (i : Int32) : Option Int32 := if j < 13 ∧ ms_ty j = 3 ∧ 0 ≤ i ∧ i.toNatClampNeg < ms_len j then some (s.2 j i.toNatClampNeg) else none
def ms_sz (s : MS) (j : Nat) (i x : Int32) : Option MS := if j < 13 ∧ ms_ty j = 3 ∧ 0 ≤ i ∧ i.toNatClampNeg < ms_len j then some (ms_u s j i.toNatClampNeg (x &&& 1)) else none
theorem mh_o {b : HX} {o : Nat} {s : MS} : (mh b o s).2.2 o = some (true, .inr (31, mh_fs o s)) := if_pos rfl
theorem mh_a {b : HX} {o j : Nat} {s : MS} (hj : j < 13) : (mh b o s).2.2 (o + 1 + j) = some (true, .inl (ms_ty j, ms_len j, .inl (s.2 j))) := by
  simp only [mh]
  rw [if_neg (by omega), if_pos (by omega), show o + 1 + j - o - 1 = j by omega]
theorem mh_gi {b : HX} {o k : Nat} {s : MS} {x : Int32} (h : (mh_fs o s)[k]? = some (.int x)) : hx_gi (mh b o s) o [31] k = some x := by
  have h1 : hx_gv (mh b o s) o [31] k = some (.int x) := by
    unfold hx_gv
    rw [mh_o]
    exact (if_pos (by decide)).trans h
  unfold hx_gi
  rw [h1]
theorem mh_gr {b : HX} {o k a : Nat} {s : MS} (h : (mh_fs o s)[k]? = some (va_rf (some a))) : hx_gr (mh b o s) o [31] k = some (some a) := by
  have h1 : hx_gv (mh b o s) o [31] k = some (.ref a) := by
    unfold hx_gv
    rw [mh_o]
    exact (if_pos (by decide)).trans h
  unfold hx_gr
  rw [h1]
theorem mh_pi {b : HX} {o k : Nat} {s s1 : MS} {x : Int32} (hk : k < 31) (h : (mh_fs o s).set k (.int x) = mh_fs o s1) (h2 : s1.2 = s.2) : hx_pi (mh b o s) o [31] k x = some (mh b o s1) := by
  unfold hx_pi hx_pv
  rw [mh_o]
  refine (if_pos ⟨by decide, hk⟩).trans (congrArg some ?_)
  rw [h]
  refine Prod.ext rfl (Prod.ext rfl (funext fun q => ?_))
  simp only [hx_set, mh, h2]
  by_cases hq : q = o
  · rw [if_pos hq, if_pos hq]
  · rw [if_neg hq, if_neg hq, if_neg hq]
theorem mh_len {b : HX} {o j : Nat} {s : MS} (hj : j < 13) : hx_len (mh b o s) (o + 1 + j) = some (nI (ms_len j)) := by
  unfold hx_len
  rw [mh_a hj]
theorem mh_ai {b : HX} {o j : Nat} {s : MS} {i x : Int32} (g : ms_ai s j i = some x) : hx_ai (mh b o s) (o + 1 + j) 0 i = some x := by
  unfold ms_ai at g
  by_cases c : j < 13 ∧ ms_ty j = 0 ∧ 0 ≤ i ∧ i.toNatClampNeg < ms_len j
  · rw [if_pos c] at g
    unfold hx_ai
    rw [mh_a c.1]
    exact (if_pos ⟨c.2.1, c.2.2⟩).trans g
  · rw [if_neg c] at g; cases g
theorem mh_az {b : HX} {o j : Nat} {s : MS} {i x : Int32} (g : ms_az s j i = some x) : hx_ai (mh b o s) (o + 1 + j) 3 i = some x := by
  unfold ms_az at g
  by_cases c : j < 13 ∧ ms_ty j = 3 ∧ 0 ≤ i ∧ i.toNatClampNeg < ms_len j
  · rw [if_pos c] at g
    unfold hx_ai
    rw [mh_a c.1]
    exact (if_pos ⟨c.2.1, c.2.2⟩).trans g
  · rw [if_neg c] at g; cases g
theorem mh_set {b : HX} {o j i : Nat} {s : MS} {x : Int32} (hj : j < 13) : hx_set (mh b o s) (o + 1 + j) (.inl (ms_ty j, ms_len j, .inl (upd (s.2 j) i x))) = mh b o (ms_u s j i x) := by
  refine Prod.ext rfl (Prod.ext rfl (funext fun q => ?_))
  simp only [hx_set, mh, ms_u]
  by_cases hq : q = o + 1 + j
  · subst hq
    rw [if_pos rfl, if_neg (by omega), if_pos (by omega), show o + 1 + j - o - 1 = j by omega, if_pos rfl]
  · rw [if_neg hq]
    by_cases h2 : q = o
    · rw [if_pos h2, if_pos h2]
      rfl
    · rw [if_neg h2, if_neg h2]
      by_cases h3 : o < q ∧ q < o + 14
      · rw [if_pos h3, if_pos h3, if_neg (by omega)]
      · rw [if_neg h3, if_neg h3]
theorem mh_si {b : HX} {o j : Nat} {s s1 : MS} {i x : Int32} (g : ms_si s j i x = some s1) : hx_si (mh b o s) (o + 1 + j) i x = some (mh b o s1) := by
  unfold ms_si at g
  by_cases c : j < 13 ∧ ms_ty j = 0 ∧ 0 ≤ i ∧ i.toNatClampNeg < ms_len j
  · rw [if_pos c] at g
    cases g
    unfold hx_si
    rw [mh_a c.1]
    refine (if_pos ⟨c.2.1, c.2.2⟩).trans (congrArg some ?_)
    rw [← mh_set c.1, c.2.1]
  · rw [if_neg c] at g; cases g
theorem mh_sz {b : HX} {o j : Nat} {s s1 : MS} {i x : Int32} (g : ms_sz s j i x = some s1) : hx_sz (mh b o s) (o + 1 + j) i x = some (mh b o s1) := by
  unfold ms_sz at g
  by_cases c : j < 13 ∧ ms_ty j = 3 ∧ 0 ≤ i ∧ i.toNatClampNeg < ms_len j
  · rw [if_pos c] at g
    cases g
    unfold hx_sz
    rw [mh_a c.1]
    refine (if_pos ⟨c.2.1, c.2.2⟩).trans (congrArg some ?_)
    rw [← mh_set c.1, c.2.1]
  · rw [if_neg c] at g; cases g
theorem mh_le {b : HX} {o : Nat} {s s1 : MS} : gx_le (mh b o s) (mh b o s1) := by
  refine ⟨Nat.le_refl _, Nat.le_refl _, fun a f ci fs _ he => ?_, fun a x _ he => ?_, fun a _ he => ?_⟩
  · simp only [mh] at he ⊢
    by_cases h1 : a = o
    · rw [if_pos h1] at he ⊢
      cases he
      exact ⟨_, _, rfl⟩
    · rw [if_neg h1] at he ⊢
      by_cases h2 : o < a ∧ a < o + 14
      · rw [if_pos h2] at he; cases he
      · rw [if_neg h2] at he ⊢
        exact ⟨f, fs, he⟩
  · simp only [mh] at he ⊢
    by_cases h1 : a = o
    · rw [if_pos h1] at he; cases he
    · rw [if_neg h1] at he ⊢
      by_cases h2 : o < a ∧ a < o + 14
      · rw [if_pos h2] at he; cases he
      · rw [if_neg h2] at he ⊢
        exact he
  · simp only [mh] at he ⊢
    by_cases h1 : a = o
    · rw [if_pos h1] at he; cases he
    · rw [if_neg h1] at he ⊢
      by_cases h2 : o < a ∧ a < o + 14
      · rw [if_pos h2] at he; cases he
      · rw [if_neg h2] at he ⊢
        exact he
/-- the model's cells are no one else's -/
def mh_hole (h : HX) (o : Nat) : Prop := o + 14 ≤ h.1 ∧ ∀ q : Nat, o ≤ q → q < o + 14 → h.2.2 q = none
theorem mh_hole.le {h h1 : HX} {o : Nat} (H : mh_hole h o) (l : gx_le h h1) : mh_hole h1 o := ⟨Nat.le_trans H.1 l.1, fun q h2 h3 => l.2.2.2.2 q (by have := H.1; omega) (H.2 q h2 h3)⟩
def mh_cut (h : HX) (o : Nat) : HX := (h.1, h.2.1, fun q => if o ≤ q ∧ q < o + 14 then none else h.2.2 q)
theorem mh_cut_hole {h : HX} {o : Nat} (l : o + 14 ≤ h.1) : mh_hole (mh_cut h o) o := ⟨l, fun q h2 h3 => if_pos ⟨h2, h3⟩⟩
theorem mh_cut_eq {h : HX} {o : Nat} {s : MS} : mh (mh_cut h o) o s = mh h o s := by
  refine Prod.ext rfl (Prod.ext rfl (funext fun q => ?_))
  simp only [mh, mh_cut]
  by_cases h1 : q = o
  · rw [if_pos h1, if_pos h1]
  · rw [if_neg h1, if_neg h1]
    by_cases h2 : o < q ∧ q < o + 14
    · rw [if_pos h2, if_pos h2]
    · rw [if_neg h2, if_neg h2, if_neg (by omega)]
/-- what lies elsewhere -/
theorem mh_out {h : HX} {o a : Nat} {s : MS} {x : Bool × gx_E} (H : mh_hole h o) (e : h.2.2 a = some x) : (mh h o s).2.2 a = some x := by
  have h1 : ¬ (o ≤ a ∧ a < o + 14) := fun ⟨z1, z2⟩ => by rw [H.2 a z1 z2] at e; cases e
  simp only [mh]
  rw [if_neg (by omega), if_neg (by omega)]
  exact e
theorem mh_oai {h : HX} {o a t : Nat} {s : MS} {i x : Int32} (H : mh_hole h o) (g : hx_ai h a t i = some x) : hx_ai (mh h o s) a t i = some x := by
  unfold hx_ai at g ⊢
  split at g
  · rename_i e
    rw [mh_out H e]
    exact g
  · cases g
theorem mh_oal {h : HX} {o a : Nat} {s : MS} {i : Int32} {x : Int64} (H : mh_hole h o) (g : hx_al h a i = some x) : hx_al (mh h o s) a i = some x := by
  unfold hx_al at g ⊢
  split at g
  · rename_i e
    rw [mh_out H e]
    exact g
  · cases g
theorem mh_olen {h : HX} {o a : Nat} {s : MS} {x : Int32} (H : mh_hole h o) (g : hx_len h a = some x) : hx_len (mh h o s) a = some x := by
  unfold hx_len at g ⊢
  split at g
  · rename_i e
    rw [mh_out H e]
    exact g
  · cases g
theorem mh_ois {h : HX} {o a : Nat} {s : MS} {cis : List Nat} (H : mh_hole h o) (g : gx_isC h a cis) : gx_isC (mh h o s) a cis := by
  obtain ⟨b, ci, fs, e, m⟩ := g
  exact ⟨b, ci, fs, mh_out H e, m⟩
theorem mh_ole {h h1 : HX} {o : Nat} {s : MS} (H : mh_hole h o) (l : gx_le h h1) : gx_le (mh h o s) (mh h1 o s) := by
  have H1 := H.le l
  refine ⟨l.1, l.2.1, fun a f ci fs ha he => ?_, fun a x ha he => ?_, fun a ha he => ?_⟩
  · simp only [mh] at he ⊢
    by_cases q1 : a = o
    · rw [if_pos q1] at he ⊢
      exact ⟨f, fs, he⟩
    · rw [if_neg q1] at he ⊢
      by_cases q2 : o < a ∧ a < o + 14
      · rw [if_pos q2] at he; cases he
      · rw [if_neg q2] at he ⊢
        exact l.2.2.1 a f ci fs ha he
  · simp only [mh] at he ⊢
    by_cases q1 : a = o
    · rw [if_pos q1] at he; cases he
    · rw [if_neg q1] at he ⊢
      by_cases q2 : o < a ∧ a < o + 14
      · rw [if_pos q2] at he; cases he
      · rw [if_neg q2] at he ⊢
        exact l.2.2.2.1 a x ha he
  · simp only [mh] at he ⊢
    by_cases q1 : a = o
    · rw [if_pos q1] at he; cases he
    · rw [if_neg q1] at he ⊢
      by_cases q2 : o < a ∧ a < o + 14
      · rw [if_pos q2] at he; cases he
      · rw [if_neg q2] at he ⊢
        exact l.2.2.2.2 a ha he
theorem mh_is {b : HX} {o : Nat} {s : MS} : gx_isC (mh b o s) o [31] := ⟨true, 31, _, mh_o, by decide⟩
theorem mh_same {b : HX} {o : Nat} {s : MS} {r : MS} : mh (mh b o s) o r = mh b o r := by
  refine Prod.ext rfl (Prod.ext rfl (funext fun q => ?_))
  simp only [mh]
  by_cases h1 : q = o
  · rw [if_pos h1, if_pos h1]
  · rw [if_neg h1, if_neg h1, if_neg h1]
    by_cases h2 : o < q ∧ q < o + 14
    · rw [if_pos h2, if_pos h2]
    · rw [if_neg h2, if_neg h2, if_neg h2]
theorem mh_p4 {o : Nat} {s : MS} {x : Int32} : (mh_fs o s).set 4 (.int x) = mh_fs o (ms_p s 4 x) := rfl
theorem mh_p5 {o : Nat} {s : MS} {x : Int32} : (mh_fs o s).set 5 (.int x) = mh_fs o (ms_p s 5 x) := rfl
theorem mh_p6 {o : Nat} {s : MS} {x : Int32} : (mh_fs o s).set 6 (.int x) = mh_fs o (ms_p s 6 x) := rfl
theorem mh_p7 {o : Nat} {s : MS} {x : Int32} : (mh_fs o s).set 7 (.int x) = mh_fs o (ms_p s 7 x) := rfl
theorem mh_p8 {o : Nat} {s : MS} {x : Int32} : (mh_fs o s).set 8 (.int x) = mh_fs o (ms_p s 8 x) := rfl
theorem mh_p11 {o : Nat} {s : MS} {x : Int32} : (mh_fs o s).set 11 (.int x) = mh_fs o (ms_p s 11 x) := rfl
theorem mh_p13 {o : Nat} {s : MS} {x : Int32} : (mh_fs o s).set 13 (.int x) = mh_fs o (ms_p s 13 x) := rfl
theorem mh_p14 {o : Nat} {s : MS} {x : Int32} : (mh_fs o s).set 14 (.int x) = mh_fs o (ms_p s 14 x) := rfl
theorem mh_p15 {o : Nat} {s : MS} {x : Int32} : (mh_fs o s).set 15 (.int x) = mh_fs o (ms_p s 15 x) := rfl
theorem mh_p16 {o : Nat} {s : MS} {x : Int32} : (mh_fs o s).set 16 (.int x) = mh_fs o (ms_p s 16 x) := rfl
theorem mh_p17 {o : Nat} {s : MS} {x : Int32} : (mh_fs o s).set 17 (.int x) = mh_fs o (ms_p s 17 x) := rfl
theorem mh_p18 {o : Nat} {s : MS} {x : Int32} : (mh_fs o s).set 18 (.int x) = mh_fs o (ms_p s 18 x) := rfl
theorem mh_p19 {o : Nat} {s : MS} {x : Int32} : (mh_fs o s).set 19 (.int x) = mh_fs o (ms_p s 19 x) := rfl
theorem mh_p20 {o : Nat} {s : MS} {x : Int32} : (mh_fs o s).set 20 (.int x) = mh_fs o (ms_p s 20 x) := rfl
theorem mh_p21 {o : Nat} {s : MS} {x : Int32} : (mh_fs o s).set 21 (.int x) = mh_fs o (ms_p s 21 x) := rfl
theorem mh_p22 {o : Nat} {s : MS} {x : Int32} : (mh_fs o s).set 22 (.int x) = mh_fs o (ms_p s 22 x) := rfl
theorem mh_p26 {o : Nat} {s : MS} {x : Int32} : (mh_fs o s).set 26 (.int x) = mh_fs o (ms_p s 26 x) := rfl
theorem mh_p30 {o : Nat} {s : MS} {x : Int32} : (mh_fs o s).set 30 (.int x) = mh_fs o (ms_p s 30 x) := rfl
/-- the model's state off a heap on which it lies so -/
def mh_arr (h : HX) (a t n : Nat) : Option (Nat → Int32) := match h.2.2 a with
  | some (true, .inl (t', n', .inl f)) => if t' = t ∧ n' = n then some f else none
  | _ => none
def mh_int (v : Option Value) : Int32 := match v with
  | some (.int x) => x
  | _ => 0
def mh_of (h : HX) (o : Nat) : Option MS := match h.2.2 o with
  | some (true, .inr (ci, fs)) => if ci = 31 ∧ (∀ j, j < 13 → (mh_arr h (o + 1 + j) (ms_ty j) (ms_len j)).isSome = true) ∧ fs = mh_fs o (fun k => mh_int fs[k]?, fun _ _ => 0) then some (fun k => mh_int fs[k]?, fun j => (mh_arr h (o + 1 + j) (ms_ty j) (ms_len j)).getD (fun _ => 0)) else none
  | _ => none
theorem mh_of_ok {h : HX} {o : Nat} {s : MS} (g : mh_of h o = some s) : h = mh h o s := by
  unfold mh_of at g
  split at g
  · rename_i ci fs e
    split at g
    · rename_i c
      obtain ⟨rfl, c2, c3⟩ := c
      cases g
      refine Prod.ext rfl (Prod.ext rfl (funext fun q => ?_))
      simp only [mh]
      by_cases h1 : q = o
      · rw [if_pos h1, h1, e]
        exact congrArg (fun z => some (true, Sum.inr (31, z))) c3
      · rw [if_neg h1]
        by_cases h2 : o < q ∧ q < o + 14
        · rw [if_pos h2]
          have h3 := c2 (q - o - 1) (by omega)
          rw [show o + 1 + (q - o - 1) = q by omega] at h3 ⊢
          unfold mh_arr at h3 ⊢
          split at h3
          · rename_i t' n' f e2
            split at h3
            · rename_i c4
              rw [e2, if_pos c4]
              obtain ⟨rfl, rfl⟩ := c4
              rfl
            · cases h3
          · cases h3
        · rw [if_neg h2]
    · cases g
  · cases g
theorem mh_pg {b : HX} {o k : Nat} {s s1 : MS} {x : Int32} (hk : k < 31) (h : ∀ (s : MS) (x : Int32), (mh_fs o s).set k (.int x) = mh_fs o (ms_p s k x)) (g : ms_pf s k x = some s1) : hx_pi (mh b o s) o [31] k x = some (mh b o s1) := by
  cases g
  exact mh_pi hk (h s x) rfl
theorem mh_le9 {h : HX} {o : Nat} {s s1 : MS} (e : h = mh h o s) : gx_le h (mh h o s1) := by
  have k : gx_le (mh h o s) (mh h o s1) := mh_le
  exact (congrArg (fun z => gx_le z (mh h o s1)) e.symm).mp k
theorem gx_heq {p : Program} {l : Launch} {e : Env} {R : Room} {s : State} {m : MethodId} {args : Array Value} {below : List Frame} {meth : Method} {c : Code} {Q : State → Prop} {nL : Nat} {D : gx_D} {h0 hz h h' : HX} {pc : Nat} {L : List (Nat × Value)} {st : List Value} (e1 : h = h') (k : gx_G p l e R s m args below meth c D h0 hz nL Q pc L st h') : gx_G p l e R s m args below meth c D h0 hz nL Q pc L st h := by
  rw [e1]
  exact k
