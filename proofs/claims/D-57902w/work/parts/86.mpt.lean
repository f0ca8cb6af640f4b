/-! the model's parsers: names, numbers, operators -/
set_option maxRecDepth 100000
set_option linter.unusedSimpArgs false
def nc_ok (xs : List (List Nat)) : Prop := ∀ x, x ∈ xs → ∀ y, y ∈ x → y < 128
theorem tV_lt {ib : List Nat} {p : Nat} (hp : p ≤ ib.length) (c : tK ib p = 1) : tV ib p < 1000 := by
  have t := adv_ok hp
  obtain ⟨u1, u2, u3⟩ := t.2.2.2.2.2.2.2.2 c
  have nl := numV_lt (cut ib (tS ib p) (tN ib p)) 0 u3
  have cl : (cut ib (tS ib p) (tN ib p)).length = tN ib p - tS ib p := cut_len (tS_le hp).2.2
  have h10 : (10 : Nat) ^ (cut ib (tS ib p) (tN ib p)).length ≤ 10 ^ 3 := Nat.pow_le_pow_right (by decide) (by
    rw [cl]
    have : tN ib p ≤ tS ib p + 3 := u2
    omega)
  have : tV ib p = numV (cut ib (tS ib p) (tN ib p)) := u1
  have : numV (cut ib (tS ib p) (tN ib p)) < (0 + 1) * 10 ^ (cut ib (tS ib p) (tN ib p)).length := nl
  omega
/-- a list of names in the model's array -/
def mnL (w : Nat → Int32) (c m : Nat) (xs : List (List Nat)) : Prop := m_nm w c xs ∧ w m = nI xs.length ∧ m < 504 ∧ xs.length ≤ 10 ∧ c + 7 * xs.length ≤ 504 ∧ nm_ok xs ∧ nc_ok xs
theorem ms_u_self {s : MS} {j i : Nat} {x : Int32} : (ms_u s j i x).2 j = upd (s.2 j) i x := by
  show (if j = j then upd (s.2 j) i x else s.2 j) = _
  rw [if_pos rfl]
section MPT
variable {D : gx_D} {b : HX} {o p : Nat} {s : MS} {ib W : List Nat}
theorem MT.mov {t : MS} {V : List Nat} (T : MT s ib p) (F : mfq V s t) (h6 : 6 ∉ V) (k : ∀ j, 16 ≤ j → j ≤ 21 → t.1 j = s.1 j) : MT t ib p := by
  obtain ⟨t1, t2, t3, t4, t5, t6⟩ := T
  exact ⟨F.in h6 t1, (k 16 (by decide) (by decide)).trans t2, (k 18 (by decide) (by decide)).trans t3, (k 19 (by decide) (by decide)).trans t4, (k 21 (by decide) (by decide)).trans t5, fun h => (k 20 (by decide) (by decide)).trans (t6 h)⟩
theorem MT.u {j i : Nat} {x : Int32} (T : MT s ib p) (h : j ≠ 6) : MT (ms_u s j i x) ib p := T.mov (V := [j]) (mfq.u (by simp)) (by simp [Ne.symm h]) (fun _ _ _ => rfl)
theorem m_nameHere (T : MT s ib p) (hb : ib_ok ib) (hp : p ≤ ib.length) (k0 : tK ib p = 0) (h6 : (tW ib p).length ≤ 6) {c m : Nat} {xs : List (List Nat)} (N : mnL (s.2 0) c m xs) : f_X9_nameHere D b o s (nI c) (nI m) = some (oI (idx xs (tW ib p))) := by
  obtain ⟨n1, n2, n3, n4, n5, n6, n7⟩ := N
  unfold f_X9_nameHere idx
  refine gx_fi xs (fun x => decide (x = tW ib p)) (fun f x => f_X9_nameHere_b2 D b o f s (nI c) (nI m) x) (by omega) ?_ ?_
  · intro f i hi
    have hm := List.getElem_mem hi
    obtain ⟨w1, w2⟩ := n1 i _ (List.getElem?_eq_getElem hi)
    have nl := (n6 _ hm).2
    have at' := m_isNameAt (D := D) (b := b) (o := o) T hb hp k0 h6 (c := c + 7 * i) (x := xs[i]) (by omega) w1 nl (fun j y hy => w2 j y hy) (fun y hy => by have := n7 _ hm y hy; omega)
    have e7 : nI c + 7 * nI i = nI (c + 7 * i) := by rw [show (7 : Int32) = nI 7 from rfl, pk_mul, nI_add]
    simp only [f_X9_nameHere_b2, ms_w rfl n3, Option.bind_some, n2, if_neg (nI_ge hi (show xs.length < 2 ^ 31 by omega)), e7, at', gx_c1]
  · intro f
    simp only [f_X9_nameHere_b2, ms_w rfl n3, Option.bind_some, n2, if_pos (nI_le (Nat.le_refl xs.length) (show xs.length < 2 ^ 31 by omega))]
theorem m_takesKnown (T : MT s ib p) (hb : ib_ok ib) (hp : p ≤ ib.length) {k c m : Nat} {xs : List (List Nat)} (N : mnL (s.2 0) c m xs) (hk : k < 9) : MR ib [7] s (f_X9_takesKnown D b o s (nI k) (nI c) (nI m)) (pKnown ib xs p) fun v t => t.2 7 = upd (s.2 7) k (nI v) := by
  unfold f_X9_takesKnown pKnown
  refine MR.bnd (m_seesName (W := [7]) T hb hp) fun w p' t em F q T1 => ?_
  obtain ⟨rfl, k0⟩ := q
  obtain ⟨rfl, rfl, l1, l2⟩ := pName_q em
  have nl := N.2.2.2.1
  rw [m_nameHere T hb hp k0 l2 N, Option.bind_some, ms_si_n (j := 7) (by decide) rfl (show k < ms_len 7 from hk), Option.bind_some, ms_ai_n (j := 7) (by decide) rfl (show k < ms_len 7 from hk), Option.bind_some]
  have e7 : (ms_u t 7 k (oI (idx xs (tW ib p')))).2 7 = upd (t.2 7) k (oI (idx xs (tW ib p'))) := ms_u_self
  rw [e7, pk_us]
  have Tu : MT (ms_u t 7 k (oI (idx xs (tW ib p')))) ib p' := T1.u (by decide)
  have Fu : mfq [7] t (ms_u t 7 k (oI (idx xs (tW ib p')))) := mfq.u (by simp)
  cases e : idx xs (tW ib p') with
  | none =>
    rw [e] at Tu Fu e7
    rw [if_pos oI_nn, gx_b2_id]
    exact MR.pre Fu (Tu.fail 4)
  | some i =>
    have hi := idx_lt e
    rw [e] at Tu Fu e7
    rw [if_neg (oI_sne (show i < 2 ^ 31 by omega))]
    refine MR.pre Fu (MR.adv Tu hb hp fun t2 F2 T2 q22 => ⟨true, t2, rfl, mfq.rf, rfl, ?_, T2⟩)
    show t2.2 7 = _
    rw [F2.2 7 (by simp), e7]
    rfl
theorem m_takes (T : MT s ib p) (hb : ib_ok ib) (hp : p ≤ ib.length) {k : Nat} (hk : k < 9) : MR ib [7] s (f_X9_takes D b o s (nI k)) (pNum ib p) fun v t => t.2 7 = upd (s.2 7) k (nI v) := by
  have num : MR ib [7] s (f_X9_takesNumber D b o s 0 9) (pNum ib p) fun v t => t.2 7 = s.2 7 ∧ t.1 22 = nI v := by
    have see : (tK ib p = 1 ∧ tV ib p ≤ 9 ∧ f_X9_seesNumber D b o s 0 9 = some (true, ms_p s 22 (nI (tV ib p)))) ∨ (∃ c, (1 ≤ c ∧ c ≤ 7) ∧ pNum ib p = .inl (c, tS ib p) ∧ f_X9_seesNumber D b o s 0 9 = f_X9_failsAt D b o s (nI c)) := by
      unfold f_X9_seesNumber pNum
      rw [T.k]
      by_cases c1 : tK ib p = 1
      · have v20 := T.2.2.2.2.2 c1
        have v20 : s.1 20 = nI (tV ib p) := v20
        have tv := tV_lt hp c1
        rw [if_pos ((mkd_2 hp).1.2 c1), if_pos c1, v20, m_inRange, Option.bind_some]
        by_cases c2 : tV ib p ≤ 9
        · left
          refine ⟨c1, c2, ?_⟩
          have d1 : (decide ((0 : Int32) ≤ nI (tV ib p)) && decide (nI (tV ib p) ≤ (9 : Int32))) = true := by
            rw [Bool.and_eq_true, decide_eq_true_eq, decide_eq_true_eq]
            exact ⟨nI_pos' (by omega), (nI_leI (a := tV ib p) (b := 9) (by omega) (by decide)).2 c2⟩
          rw [d1, if_pos rfl]
          rfl
        · right
          refine ⟨2, by decide, by rw [if_neg c2], ?_⟩
          have d1 : (decide ((0 : Int32) ≤ nI (tV ib p)) && decide (nI (tV ib p) ≤ (9 : Int32))) = false := by
            rw [decide_eq_false (show ¬ nI (tV ib p) ≤ (9 : Int32) from fun h => c2 ((nI_leI (a := tV ib p) (b := 9) (by omega) (by decide)).1 h)), Bool.and_false]
          rw [d1, if_neg Bool.false_ne_true, gx_b2_id]
          rfl
      · right
        refine ⟨1, by decide, by rw [if_neg c1], ?_⟩
        rw [if_neg (fun h => c1 ((mkd_2 hp).1.1 h)), gx_b2_id]
        rfl
    unfold f_X9_takesNumber
    rcases see with ⟨c1, c2, e⟩ | ⟨c, c17, e1, e2⟩
    · rw [e, pl_b2_s, if_pos rfl]
      have en : pNum ib p = .inr (tV ib p, tN ib p) := by
        unfold pNum
        rw [if_pos c1, if_pos c2]
      rw [en]
      have F1 : mfq [7] s (ms_p s 22 (nI (tV ib p))) := mfq.p (by decide)
      have T1 : MT (ms_p s 22 (nI (tV ib p))) ib p := T.mov (V := [7]) F1 (by decide) (fun j h1 h2 => ms_p1n (by omega))
      refine MR.pre F1 (MR.adv T1 hb hp fun t F T2 q22 => ⟨true, t, rfl, mfq.rf, rfl, ⟨F.2 7 (by simp), q22⟩, T2⟩)
    · rw [e1, e2]
      obtain ⟨b', t, e, F, M⟩ := MT.fail (α := Nat) (D := D) (b := b) (o := o) (W := [7]) (Q := fun v t => t.2 7 = s.2 7 ∧ t.1 22 = nI v) T c c17
      refine ⟨b', t, ?_, F, M⟩
      obtain ⟨rfl, _⟩ := M
      rw [e, pl_b2_s, if_neg Bool.false_ne_true]
  have e1 : pNum ib p = pb (pNum ib p) fun v p' => .inr (v, p') := by
    cases pNum ib p <;> rfl
  unfold f_X9_takes
  rw [e1]
  refine MR.bnd num fun v p' t em F q T1 => ?_
  rw [q.2, ms_si_n (j := 7) (by decide) rfl (show k < ms_len 7 from hk), Option.bind_some]
  refine ⟨true, _, rfl, mfq.u (by simp), rfl, ?_, T1.u (by decide)⟩
  show (if (7 : Nat) = 7 then upd (t.2 7) k (nI v) else t.2 7) = _
  rw [if_pos rfl, q.1]
theorem m_takesWord {α : Type} (T : MT s ib p) (hb : ib_ok ib) (hp : p ≤ ib.length) (c : Bool) (v : α) {Q : α → MS → Prop} (hQ : ∀ t, mfq [] s t → Q v t) : MR ib W s (f_X9_takesWord D b o s c) (if c = true then .inr (v, tN ib p) else .inl (1, tS ib p)) Q := by
  unfold f_X9_takesWord
  cases c with
  | true =>
    rw [if_pos rfl, if_pos rfl]
    exact MR.adv T hb hp fun t F T2 q22 => ⟨true, t, rfl, mfq.rf, rfl, hQ t F, T2⟩
  | false =>
    rw [if_neg Bool.false_ne_true, if_neg Bool.false_ne_true, gx_b2_id]
    exact T.fail 1
theorem m_semi (T : MT s ib p) (hb : ib_ok ib) (hp : p ≤ ib.length) : MR ib W s (f_X9_takesSemicolon D b o s) (pSemi ib p) fun _ t => mfq [] s t := by
  unfold f_X9_takesSemicolon pSemi
  rw [T.k]
  by_cases c : tK ib p = 2
  · rw [if_pos ((mkd_2 hp).2.1.2 c), if_pos c]
    exact MR.adv T hb hp fun t F T2 q22 => ⟨true, t, rfl, mfq.rf, rfl, F, T2⟩
  · rw [if_neg (fun h => c ((mkd_2 hp).2.1.1 h)), if_neg c, gx_b2_id]
    exact T.fail 1
theorem m_opHere (K : KM D b o) (T : MT s ib p) (hb : ib_ok ib) (hp : p ≤ ib.length) : f_X9_opHere D b o s = some (oI (idx opW (tW ib p))) := by
  have w : ∀ i cs, kcs[i]? = some cs → cs ≠ [] → f_X9_isWord D b o s (some (D.2.2.1 i)) = some (decide (tW ib p = cs)) := fun i cs hi hc => m_isWord T hb hp (K s i cs hi) hc
  unfold f_X9_opHere
  rw [w 37 (kw 28) rfl (by decide), w 38 (kw 27) rfl (by decide), w 39 (kw 29) rfl (by decide), w 40 (kw 30) rfl (by decide), w 41 (kw 26) rfl (by decide), w 42 (kw 25) rfl (by decide)]
  simp only [Option.bind_some, decide_eq_true_eq]
  unfold idx opW
  obtain ⟨V, hV⟩ : ∃ V, tW ib p = V := ⟨_, rfl⟩
  rw [hV]
  generalize kw 28 = w0 at *
  generalize kw 27 = w1 at *
  generalize kw 29 = w2 at *
  generalize kw 30 = w3 at *
  generalize kw 26 = w4 at *
  generalize kw 25 = w5 at *
  have sy : ∀ w : List Nat, (V = w) = (w = V) := fun w => propext ⟨Eq.symm, Eq.symm⟩
  simp only [sy]
  by_cases c0 : w0 = V
  · simp [List.findIdx?_cons, c0]; rfl
  by_cases c1 : w1 = V
  · simp [List.findIdx?_cons, c0, c1]; rfl
  by_cases c2 : w2 = V
  · simp [List.findIdx?_cons, c0, c1, c2]; rfl
  by_cases c3 : w3 = V
  · simp [List.findIdx?_cons, c0, c1, c2, c3]; rfl
  by_cases c4 : w4 = V
  · simp [List.findIdx?_cons, c0, c1, c2, c3, c4]; rfl
  by_cases c5 : w5 = V
  · simp [List.findIdx?_cons, c0, c1, c2, c3, c4, c5]; rfl
  · simp [List.findIdx?_cons, c0, c1, c2, c3, c4, c5]; rfl
theorem m_actionHere (K : KM D b o) (T : MT s ib p) (hb : ib_ok ib) (hp : p ≤ ib.length) : f_X9_actionHere D b o s = some (oI (idx efW (tW ib p))) := by
  have w : ∀ i cs, kcs[i]? = some cs → cs ≠ [] → f_X9_isWord D b o s (some (D.2.2.1 i)) = some (decide (tW ib p = cs)) := fun i cs hi hc => m_isWord T hb hp (K s i cs hi) hc
  unfold f_X9_actionHere
  rw [w 43 (kw 18) rfl (by decide), w 44 (kw 19) rfl (by decide), w 45 (kw 20) rfl (by decide)]
  simp only [Option.bind_some, decide_eq_true_eq]
  unfold idx efW
  obtain ⟨V, hV⟩ : ∃ V, tW ib p = V := ⟨_, rfl⟩
  rw [hV]
  generalize kw 18 = w0 at *
  generalize kw 19 = w1 at *
  generalize kw 20 = w2 at *
  have sy : ∀ w : List Nat, (V = w) = (w = V) := fun w => propext ⟨Eq.symm, Eq.symm⟩
  simp only [sy]
  by_cases c0 : w0 = V
  · simp [List.findIdx?_cons, c0]; rfl
  by_cases c1 : w1 = V
  · simp [List.findIdx?_cons, c0, c1]; rfl
  by_cases c2 : w2 = V
  · simp [List.findIdx?_cons, c0, c1, c2]; rfl
  · simp [List.findIdx?_cons, c0, c1, c2]; rfl
theorem m_takesThree (K : KM D b o) (T : MT s ib p) (hb : ib_ok ib) (hp : p ≤ ib.length) {k : Nat} {xs : List (List Nat)} (g : Bool) (N : mnL (s.2 0) 483 2 xs) (hk : k + 2 < 9) : MR ib [7] s (f_X9_takesThree D b o s (nI k) g) (pThree ib (if g = true then opW else efW) xs p) fun v t => t.2 7 = upd (upd (upd (s.2 7) k (nI v.1)) (k + 1) (nI v.2.1)) (k + 2) (nI v.2.2) := by
  unfold f_X9_takesThree pThree
  refine MR.bnd (m_takesKnown (k := k) (c := 483) (m := 2) T hb hp N (by omega)) fun v p1 t em F q T1 => ?_
  have l1 := ((gO_known hp).r em).2
  have key : ∀ (x : Int32) (i : Option Nat), x = oI i → (∀ j, i = some j → j < 10) → MR ib [7] t (f_X9_takesThree_b36 D b o t (nI k) x (nI k + 1) 7) (pb (match i with | none => (.inl (1, tS ib p1) : PR Nat) | some j => .inr (j, tN ib p1)) fun o p2 => pb (pNum ib p2) fun c p3 => .inr ((v, o, c), p3)) fun v t => t.2 7 = upd (upd (upd (s.2 7) k (nI v.1)) (k + 1) (nI v.2.1)) (k + 2) (nI v.2.2) := fun x i hx hi => by
    subst hx
    unfold f_X9_takesThree_b36
    rw [nI_1, ms_si_n (j := 7) (by decide) rfl (show k + 1 < ms_len 7 from by show _ < 9; omega), Option.bind_some, ms_ai_n (j := 7) (by decide) rfl (show k + 1 < ms_len 7 from by show _ < 9; omega), Option.bind_some]
    have e7 : (ms_u t 7 (k + 1) (oI i)).2 7 = upd (t.2 7) (k + 1) (oI i) := ms_u_self
    rw [e7, pk_us]
    have Tu : MT (ms_u t 7 (k + 1) (oI i)) ib p1 := T1.u (by decide)
    have Fu : mfq [7] t (ms_u t 7 (k + 1) (oI i)) := mfq.u (by simp)
    refine MR.pre Fu ?_
    have b55 : ∀ c : Bool, f_X9_takesThree_b55 D b o (ms_u t 7 (k + 1) (oI i)) (nI k) c = gx_b2 (f_X9_takesWord D b o (ms_u t 7 (k + 1) (oI i)) c) fun b12 h13 => if b12 = true then f_X9_takes D b o h13 (nI (k + 2)) else some (false, h13) := fun c => by
      unfold f_X9_takesThree_b55
      congr 1
      funext b12 h13
      cases b12 with
      | false => rfl
      | true =>
        rw [if_pos rfl, if_pos rfl, show (2 : Int32) = nI 2 from rfl, nI_add]
        cases f_X9_takes D b o h13 (nI (k + 2)) with
        | none => rfl
        | some u =>
          obtain ⟨b16, h17⟩ := u
          rw [pl_b2_s]
          cases b16 <;> rfl
    rw [b55, b55]
    cases i with
    | none =>
      rw [if_pos oI_nn]
      exact MR.bnd (m_takesWord (α := Nat) (Q := fun _ _ => True) Tu hb l1 false 0 (fun _ _ => trivial)) fun v p' t em F q T1 => (by have em : (.inl (1, tS ib p1) : PR Nat) = .inr (v, p') := em; cases em)
    | some j =>
      have hj := hi j rfl
      rw [if_neg (oI_sne (show j < 2 ^ 31 by omega))]
      refine MR.bnd (m_takesWord (α := Nat) (Q := fun v' t' => v' = j ∧ t'.2 7 = upd (t.2 7) (k + 1) (nI j)) Tu hb l1 true j (fun t' F' => ⟨rfl, by rw [F'.2 7 (by simp), e7]; rfl⟩)) fun j' p2 t2 em2 F2 q2 T2 => ?_
      obtain ⟨rfl, q2⟩ := q2
      have l2 : p2 ≤ ib.length := by
        have em2 : (.inr (j', tN ib p1) : PR Nat) = .inr (j', p2) := em2
        cases em2
        exact (tS_le l1).2.2
      obtain ⟨b', t3, e3, F3, M3⟩ := m_takes (D := D) (b := b) (o := o) (k := k + 2) T2 hb l2 (by omega)
      refine ⟨b', t3, e3, F3, ?_⟩
      cases em3 : pNum ib p2 with
      | inl e => rw [em3] at M3; exact M3
      | inr u =>
        rw [em3] at M3
        obtain ⟨m1, m2, m3⟩ := M3
        refine ⟨m1, ?_, m3⟩
        show t3.2 7 = _
        rw [m2, q2, q]
  cases g with
  | true =>
    rw [if_pos rfl, if_pos rfl, m_opHere K T1 hb l1, Option.bind_some]
    exact key _ _ rfl (fun j hj => by have := (idx_lt hj).1; have e6 : opW.length = 6 := rfl; omega)
  | false =>
    rw [if_neg Bool.false_ne_true, if_neg Bool.false_ne_true, m_actionHere K T1 hb l1, Option.bind_some]
    exact key _ _ rfl (fun j hj => by have := (idx_lt hj).1; have e6 : efW.length = 3 := rfl; omega)
end MPT
