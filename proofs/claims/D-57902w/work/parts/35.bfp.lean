/-! a search in breadth: ways, depths, first events -/
set_option maxRecDepth 100000
/-- a way of n events -/
def pth (nx : CF → Nat → Option CF) (nE : Nat) : Nat → CF → CF → Prop
  | 0, a, b => a = b
  | n + 1, a, b => ∃ c e, pth nx nE n a c ∧ e < nE ∧ nx c e = some b
/-- a way of n + 1 events whose first is e -/
def pthF (nx : CF → Nat → Option CF) (nE : Nat) (e n : Nat) (a b : CF) : Prop := ∃ c, e < nE ∧ nx a e = some c ∧ pth nx nE n c b
theorem pthF.toP {nx : CF → Nat → Option CF} {nE e : Nat} : ∀ {n : Nat} {a b : CF}, pthF nx nE e n a b → pth nx nE (n + 1) a b
  | 0, a, b, ⟨c, h1, h2, h3⟩ => ⟨a, e, rfl, h1, by rw [h2, show c = b from h3]⟩
  | n + 1, a, b, ⟨c, h1, h2, d, e', h3, h4, h5⟩ => ⟨d, e', pthF.toP ⟨c, h1, h2, h3⟩, h4, h5⟩
/-- a search that is over -/
def bfE (nx : CF → Nat → Option CF) (nE : Nat) (q0 : CF) (L : List EN) : Prop := bfI nx nE q0 L (10 * L.length)
theorem bfA_bfE {nx : CF → Nat → Option CF} {nE : Nat} {q0 : CF} (hE : nE ≤ 8) (hn : nx_ok nx) (h : cf_ok q0) : bfE nx nE q0 (bfA nx nE q0) := by
  have h1 := bfs_len hE hn h 10000
  have h2 : bfA nx nE q0 = bfs nx nE q0 10000 := rfl
  have h3 := bfs_inv (nx := nx) (q0 := q0) hE 10000
  unfold bfE
  rw [h2]
  obtain ⟨a0, a1, a2, a3, a4⟩ := h3
  refine ⟨a0, fun k x hk h => ?_, a2, a3, fun c' x q hc hn' hx hq => a4 c' x q (by omega) hn' hx hq⟩
  obtain ⟨p, b1, b2, b3, b4, b5, b6, b7⟩ := a1 k x hk h
  have := (List.getElem?_eq_some_iff.1 b1).1
  exact ⟨p, b1, b2, b3, b4, b5, by omega, b7⟩
theorem bfE.mono {nx : CF → Nat → Option CF} {nE : Nat} {q0 : CF} {L : List EN} (H : bfE nx nE q0 L) : ∀ (k' k : Nat) (x x' : EN), L[k]? = some x → L[k']? = some x' → k ≤ k' → x.2.1 ≤ x'.2.1 := by
  obtain ⟨h0, h1, h2, h3, h4⟩ := H
  intro k'
  induction k' using Nat.strongRecOn with
  | ind k' ih =>
    intro k x x' hk hk' hle
    by_cases c : k = k'
    · subst c
      rw [hk] at hk'
      cases hk'
      exact Nat.le_refl _
    · by_cases c0 : k = 0
      · subst c0
        rw [h0] at hk
        cases hk
        exact Nat.zero_le _
      · obtain ⟨p, a1, a2, a3, a4, a5, a6, a7⟩ := h1 k x hk (by omega)
        obtain ⟨p', b1, b2, b3, b4, b5, b6, b7⟩ := h1 k' x' hk' (by omega)
        have c1 := h2 k k' x x' hk hk' (by omega) (by omega)
        have c2 := ih (x'.2.2.2 / 10) b2 (x.2.2.2 / 10) p p' a1 b1 (by omega)
        omega
theorem bfE.min {nx : CF → Nat → Option CF} {nE : Nat} {q0 : CF} {L : List EN} (H : bfE nx nE q0 L) (hE : nE ≤ 8) : ∀ (n : Nat) (q : CF), pth nx nE n q0 q → ∃ (k : Nat) (y : EN), L[k]? = some y ∧ y.1 = q ∧ y.2.1 ≤ n := by
  have H' := H
  obtain ⟨h0, h1, h2, h3, h4⟩ := H
  intro n
  induction n with
  | zero =>
    intro q hp
    exact ⟨0, _, h0, hp, Nat.le_refl _⟩
  | succ n ih =>
    intro q hp
    obtain ⟨c, e, p1, p2, p3⟩ := hp
    obtain ⟨k, y, a1, a2, a3⟩ := ih c p1
    have hk := (List.getElem?_eq_some_iff.1 a1).1
    have d1 : (10 * k + e) / 10 = k := by omega
    have d2 : (10 * k + e) % 10 = e := by omega
    obtain ⟨k', y', b1, b2, b3⟩ := h4 (10 * k + e) y q (by omega) (by omega) (by rw [d1]; exact a1) (by rw [d2, a2]; exact p3)
    refine ⟨k', y', b1, b2, ?_⟩
    by_cases c0 : k' = 0
    · subst c0
      rw [h0] at b1
      cases b1
      exact Nat.zero_le _
    · obtain ⟨p, e1, e2, e3, e4, e5, e6, e7⟩ := h1 k' y' b1 (by omega)
      have c1 : y'.2.2.2 ≤ 10 * k + e := by omega
      have c2 := H'.mono k (y'.2.2.2 / 10) p y e1 a1 (by omega)
      omega
theorem bfE.way {nx : CF → Nat → Option CF} {nE : Nat} {q0 : CF} {L : List EN} (H : bfE nx nE q0 L) : ∀ (k : Nat) (x : EN), L[k]? = some x → pth nx nE x.2.1 q0 x.1 ∧ (0 < x.2.1 → pthF nx nE x.2.2.1 (x.2.1 - 1) q0 x.1) ∧ (0 < k → 0 < x.2.1) := by
  obtain ⟨h0, h1, h2, h3, h4⟩ := H
  intro k
  induction k using Nat.strongRecOn with
  | ind k ih =>
    intro x hk
    by_cases c0 : k = 0
    · subst c0
      rw [h0] at hk
      cases hk
      exact ⟨rfl, fun h => absurd h (by simp), fun h => absurd h (by omega)⟩
    · obtain ⟨p, a1, a2, a3, a4, a5, a6, a7⟩ := h1 k x hk (by omega)
      obtain ⟨i1, i2, i3⟩ := ih (x.2.2.2 / 10) a2 p a1
      rw [a4]
      refine ⟨⟨p.1, _, i1, a7, a3⟩, fun _ => ?_, fun _ => by omega⟩
      rw [Nat.add_sub_cancel, a5]
      by_cases c1 : p.2.1 = 0
      · rw [if_pos c1, c1]
        rw [c1] at i1
        exact ⟨x.1, a7, by rw [show q0 = p.1 from i1]; exact a3, rfl⟩
      · rw [if_neg c1]
        obtain ⟨c, j1, j2, j3⟩ := i2 (by omega)
        obtain ⟨m, hm⟩ : ∃ m, p.2.1 = m + 1 := ⟨p.2.1 - 1, by omega⟩
        rw [hm] at j3 ⊢
        exact ⟨c, j1, j2, p.1, _, j3, a7, a3⟩
theorem bfE.lab {nx : CF → Nat → Option CF} {nE : Nat} {q0 : CF} {L : List EN} (H : bfE nx nE q0 L) : ∀ (d k k' : Nat) (x x' : EN), L[k]? = some x → L[k']? = some x' → 0 < k → k ≤ k' → x.2.1 = d → x'.2.1 = d → x.2.2.1 ≤ x'.2.2.1 := by
  have H' := H
  obtain ⟨h0, h1, h2, h3, h4⟩ := H
  intro d
  induction d with
  | zero =>
    intro k k' x x' hk hk' h hle hd hd'
    have := (H'.way k x hk).2.2 h
    omega
  | succ d ih =>
    intro k k' x x' hk hk' h hle hd hd'
    by_cases c : k = k'
    · subst c
      rw [hk] at hk'
      cases hk'
      exact Nat.le_refl _
    · obtain ⟨p, a1, a2, a3, a4, a5, a6, a7⟩ := h1 k x hk (by omega)
      obtain ⟨p', b1, b2, b3, b4, b5, b6, b7⟩ := h1 k' x' hk' (by omega)
      have c1 := h2 k k' x x' hk hk' (by omega) (by omega)
      by_cases z : d = 0
      · have e1 : p.2.1 = 0 := by omega
        have e2 : p'.2.1 = 0 := by omega
        rw [a5, b5, if_pos e1, if_pos e2]
        have e3 : ∀ (j : Nat) (y : EN), L[j]? = some y → y.2.1 = 0 → j = 0 := fun j y hj hy => by
          have := (H'.way j y hj).2.2
          omega
        have := e3 _ _ a1 e1
        have := e3 _ _ b1 e2
        omega
      · rw [a5, b5, if_neg (by omega), if_neg (by omega)]
        refine ih _ _ p p' a1 b1 ?_ (by omega) (by omega) (by omega)
        · refine Nat.pos_of_ne_zero fun e => ?_
          rw [e, h0] at a1
          cases a1
          simp only at a4
          omega
theorem bfE.labmin {nx : CF → Nat → Option CF} {nE : Nat} {q0 : CF} {L : List EN} (H : bfE nx nE q0 L) (hE : nE ≤ 8) : ∀ (n k e : Nat) (x : EN), L[k]? = some x → x.2.1 = n + 1 → pthF nx nE e n q0 x.1 → x.2.2.1 ≤ e := by
  have H' := H
  obtain ⟨h0, h1, h2, h3, h4⟩ := H
  intro n
  induction n with
  | zero =>
    intro k e x hk hd hp
    obtain ⟨c, p1, p2, p3⟩ := hp
    have p3 : c = x.1 := p3
    obtain ⟨k', y', b1, b2, b3⟩ := h4 e (q0, 0, 0, 0) x.1 (by have := (List.getElem?_eq_some_iff.1 h0).1; omega) (by omega) (by rw [show e / 10 = 0 by omega]; exact h0) (by rw [show e % 10 = e by omega, ← p3]; exact p2)
    have ek := h3 k' k y' x b1 hk b2
    subst ek
    rw [hk] at b1
    cases b1
    have hk0 : 0 < k' := by
      refine Nat.pos_of_ne_zero fun e => ?_
      rw [e, h0] at hk
      cases hk
      simp only at hd
      omega
    obtain ⟨p, a1, a2, a3, a4, a5, a6, a7⟩ := h1 k' x hk hk0
    rw [a5, if_pos (by omega)]
    omega
  | succ n ih =>
    intro k e x hk hd hp
    obtain ⟨c, p1, p2, r, e', p3, p4, p5⟩ := hp
    have pr : pthF nx nE e n q0 r := ⟨c, p1, p2, p3⟩
    obtain ⟨j, y, j1, j2, j3⟩ := H'.min hE (n + 1) r pr.toP
    have hj := (List.getElem?_eq_some_iff.1 j1).1
    obtain ⟨k', y', b1, b2, b3⟩ := h4 (10 * j + e') y x.1 (by omega) (by omega) (by rw [show (10 * j + e') / 10 = j by omega]; exact j1) (by rw [show (10 * j + e') % 10 = e' by omega, j2]; exact p5)
    have ek := h3 k' k y' x b1 hk b2
    subst ek
    rw [hk] at b1
    cases b1
    have hk0 : 0 < k' := by
      refine Nat.pos_of_ne_zero fun e => ?_
      rw [e, h0] at hk
      cases hk
      simp only at hd
      omega
    obtain ⟨p, a1, a2, a3, a4, a5, a6, a7⟩ := h1 k' x hk hk0
    have c1 := H'.mono j (x.2.2.2 / 10) p y a1 j1 (by omega)
    have c2 : y.2.1 = n + 1 := by omega
    have c3 := ih j e y j1 c2 (by rw [j2]; exact pr)
    rw [a5, if_neg (by omega)]
    have c4 : 0 < x.2.2.2 / 10 := by
      refine Nat.pos_of_ne_zero fun e => ?_
      rw [e, h0] at a1
      cases a1
      simp only at a4
      omega
    exact Nat.le_trans (H'.lab (n + 1) _ j p y a1 j1 c4 (by omega) (by omega) c2) c3
/-- the first place that is sought; its depth -/
def bfF (L : List EN) (P : CF → Bool) : Option Nat := L.findIdx? fun x => P x.1
def bfD (L : List EN) (P : CF → Bool) : Option Nat := match bfF L P with
  | none => none
  | some k => match L[k]? with
    | none => none
    | some x => some x.2.1
theorem bfD_some {nx : CF → Nat → Option CF} {nE : Nat} {q0 : CF} {L : List EN} {P : CF → Bool} (H : bfE nx nE q0 L) (hE : nE ≤ 8) {n : Nat} : bfD L P = some n ↔ (∃ b, P b = true ∧ pth nx nE n q0 b) ∧ ∀ m b, P b = true → pth nx nE m q0 b → n ≤ m := by
  unfold bfD bfF
  cases e : L.findIdx? fun x => P x.1 with
  | none =>
    simp only
    refine ⟨fun h => (by cases h), fun ⟨⟨b, h1, h2⟩, _⟩ => ?_⟩
    obtain ⟨k, y, a1, a2, a3⟩ := H.min hE n b h2
    have := List.findIdx?_eq_none_iff.1 e y (List.mem_of_getElem? a1)
    rw [a2, h1] at this
    cases this
  | some k =>
    obtain ⟨hk, e1, e2⟩ := List.findIdx?_eq_some_iff_getElem.1 e
    simp only [List.getElem?_eq_getElem hk]
    have w := H.way k _ (List.getElem?_eq_getElem hk)
    have mn : ∀ m b, P b = true → pth nx nE m q0 b → L[k].2.1 ≤ m := fun m b hb hp => by
      obtain ⟨j, y, a1, a2, a3⟩ := H.min hE m b hp
      have hj := (List.getElem?_eq_some_iff.1 a1)
      have c : k ≤ j := by
        refine Nat.le_of_not_lt fun c => ?_
        have := e2 j c
        rw [hj.2, a2, hb] at this
        exact this rfl
      have := H.mono j k _ y (List.getElem?_eq_getElem hk) a1 c
      omega
    constructor
    · intro h
      have h := Option.some.inj h
      subst h
      exact ⟨⟨_, e1, w.1⟩, mn⟩
    · intro ⟨⟨b, h1, h2⟩, h3⟩
      have a1 := mn n b h1 h2
      have a2 := h3 _ _ e1 w.1
      congr 1
      omega
/-- the first event of the first place that is sought is the least event that leads onto a shortest way -/
theorem bf_first {nx : CF → Nat → Option CF} {nE : Nat} {q0 : CF} {L : List EN} {P : CF → Bool} (H : bfE nx nE q0 L) (hE : nE ≤ 8) {k : Nat} {x : EN} (hk : bfF L P = some k) (hx : L[k]? = some x) (hd : 0 < x.2.1) (L1 : CF → List EN) (H1 : ∀ q1 e, nx q0 e = some q1 → bfE nx nE q1 (L1 q1)) :
    x.2.2.1 < nE ∧ (∃ q1, nx q0 x.2.2.1 = some q1 ∧ bfD (L1 q1) P = some (x.2.1 - 1)) ∧ ∀ e q1, e < x.2.2.1 → nx q0 e = some q1 → bfD (L1 q1) P ≠ some (x.2.1 - 1) := by
  obtain ⟨hk0, e1, e2⟩ := List.findIdx?_eq_some_iff_getElem.1 hk
  have ex : x = L[k] := by rw [List.getElem?_eq_getElem hk0] at hx; exact (Option.some.inj hx).symm
  obtain ⟨w1, w2, w3⟩ := H.way k x hx
  obtain ⟨c, p1, p2, p3⟩ := w2 hd
  have kk : 0 < k := by
    refine Nat.pos_of_ne_zero fun e => ?_
    subst e
    rw [H.1] at hx
    cases hx
    simp only at hd
    omega
  have least : ∀ m b, P b = true → pth nx nE m q0 b → ∃ j y, L[j]? = some y ∧ k ≤ j ∧ y.1 = b ∧ y.2.1 ≤ m ∧ x.2.1 ≤ y.2.1 := fun m b hb hp => by
    obtain ⟨j, y, a1, a2, a3⟩ := H.min hE m b hp
    have hj := (List.getElem?_eq_some_iff.1 a1)
    have c : k ≤ j := by
      refine Nat.le_of_not_lt fun c => ?_
      have := e2 j c
      rw [hj.2, a2, hb] at this
      exact this rfl
    exact ⟨j, y, a1, c, a2, a3, H.mono j k x y hx a1 c⟩
  refine ⟨p1, ⟨c, p2, ?_⟩, fun e q1 he hq hD => ?_⟩
  · refine (bfD_some (H1 c _ p2) hE).2 ⟨⟨x.1, by rw [ex]; exact e1, p3⟩, fun m b hb hp => ?_⟩
    have hp' : pthF nx nE x.2.2.1 m q0 b := ⟨c, p1, p2, hp⟩
    obtain ⟨j, y, a1, a2, a3, a4, a5⟩ := least (m + 1) b hb hp'.toP
    omega
  · obtain ⟨⟨b, hb, hp⟩, _⟩ := (bfD_some (H1 q1 e hq) hE).1 hD
    have hp' : pthF nx nE e (x.2.1 - 1) q0 b := ⟨q1, by omega, hq, hp⟩
    obtain ⟨j, y, a1, a2, a3, a4, a5⟩ := least (x.2.1 - 1 + 1) b hb hp'.toP
    have a6 : y.2.1 = x.2.1 - 1 + 1 := by omega
    have a7 := H.labmin hE (x.2.1 - 1) j e y a1 a6 (by rw [a3]; exact hp')
    have a8 := H.lab x.2.1 k j x y hx a1 kk a2 rfl (by omega)
    omega
