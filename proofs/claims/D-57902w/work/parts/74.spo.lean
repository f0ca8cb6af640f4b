/-! what a setup builds, statement by statement -/
set_option maxRecDepth 100000
def sp_ok (S : SP) : Prop := (S.1.sn.length ≤ 10 ∧ S.1.en.length ≤ 8 ∧ S.1.vn.length ≤ 3 ∧ S.1.ts.length ≤ 24 ∧ S.2.length ≤ 12) ∧ (nm_ok S.1.sn ∧ nm_ok S.1.en ∧ nm_ok S.1.vn) ∧ (∀ t, t ∈ S.1.ts → tr_ok t ∧ t.1 < S.1.sn.length ∧ t.2.2.1 < S.1.sn.length ∧ t.2.1 < S.1.en.length) ∧ (cf_ok S.1.ini ∧ S.1.ini.1 = 0 ∧ ∀ j, S.1.vn.length ≤ j → j < 3 → cf_val S.1.ini j = 0) ∧ ∀ i, i ∈ S.2 → iv_ok i
theorem sp_ok0 : sp_ok S0 := ⟨⟨by decide, by decide, by decide, by decide, by decide⟩, ⟨fun c h => (by cases h), fun c h => (by cases h), fun c h => (by cases h)⟩, fun t h => (by cases h), ⟨⟨by decide, by decide, by decide, by decide⟩, rfl, fun j _ h => by match j, h with | 0, _ => rfl | 1, _ => rfl | 2, _ => rfl | n + 3, h => omega⟩, fun i h => by cases h⟩
section PI
variable {ib : List Nat} {p p' : Nat}
theorem pb_r {α β : Type} {m : PR α} {k : α → Nat → PR β} {v : β} {q : Nat} (h : pb m k = .inr (v, q)) : ∃ u p1, m = .inr (u, p1) ∧ k u p1 = .inr (v, q) := by
  cases m with
  | inl e => cases h
  | inr u => exact ⟨u.1, u.2, rfl, h⟩
theorem pKnown_i {xs : List (List Nat)} {k : Nat} (h : pKnown ib xs p = .inr (k, p')) : k < xs.length := by
  unfold pKnown at h
  obtain ⟨w, p1, h1, h2⟩ := pb_r h
  split at h2
  · cases h2
  · rename_i k' e
    cases h2
    exact (idx_lt e).1
theorem pNew_i {xs : List (List Nat)} {w : List Nat} (h : pNew ib xs p = .inr (w, p')) : 1 ≤ w.length ∧ w.length ≤ 6 := by
  unfold pNew at h
  obtain ⟨w', p1, h1, h2⟩ := pb_r h
  split at h2
  · cases h2
    exact (pName_q h1).2.2
  · cases h2
theorem pNum_i {v : Nat} (h : pNum ib p = .inr (v, p')) : v ≤ 9 := by
  unfold pNum at h
  split at h
  · split at h
    · rename_i c; cases h; exact c
    · cases h
  · cases h
theorem pOf_i {ws : List (List Nat)} {k : Nat} (h : pOf ib ws p = .inr (k, p')) : k < ws.length := by
  unfold pOf at h
  split at h
  · cases h
  · rename_i k' e
    cases h
    exact (idx_lt e).1
theorem pThree_i {ws vn : List (List Nat)} {v : Nat × Nat × Nat} (h : pThree ib ws vn p = .inr (v, p')) : v.1 < vn.length ∧ v.2.1 < ws.length ∧ v.2.2 < 10 := by
  unfold pThree at h
  obtain ⟨a, p1, h1, h2⟩ := pb_r h
  obtain ⟨b, p2, h3, h4⟩ := pb_r h2
  obtain ⟨c, p3, h5, h6⟩ := pb_r h4
  cases h6
  have := pNum_i h5
  exact ⟨pKnown_i h1, pOf_i h3, by show c < 10; omega⟩
theorem pIf_i {k : List Nat} {ws vn : List (List Nat)} {v : Option (Nat × Nat × Nat)} (h : pIf ib k ws vn p = .inr (v, p')) : ∀ u, v = some u → u.1 < vn.length ∧ u.2.1 < ws.length ∧ u.2.2 < 10 := by
  unfold pIf at h
  split at h
  · obtain ⟨a, p1, h1, h2⟩ := pb_r h
    cases h2
    intro u hu
    cases hu
    exact pThree_i h1
  · cases h
    intro u hu
    cases hu
theorem pTrans_i {S : SP} {t : TR} (hS : sp_ok S) (h : pTrans ib S.1 p = .inr (t, p')) : tr_ok t ∧ t.1 < S.1.sn.length ∧ t.2.2.1 < S.1.sn.length ∧ t.2.1 < S.1.en.length := by
  obtain ⟨⟨l1, l2, l3, l4, l5⟩, _⟩ := hS
  unfold pTrans at h
  obtain ⟨a, p1, h1, h⟩ := pb_r h
  obtain ⟨b, p2, h2, h⟩ := pb_r h
  obtain ⟨c, p3, h3, h⟩ := pb_r h
  obtain ⟨d, p4, h4, h⟩ := pb_r h
  obtain ⟨e, p5, h5, h⟩ := pb_r h
  obtain ⟨f, p6, h6, h⟩ := pb_r h
  cases h
  have k1 := pKnown_i h1
  have k2 := pKnown_i h2
  have k3 := pKnown_i h4
  refine ⟨⟨by show a < 10; omega, by show b < 8; omega, by show d < 10; omega, fun g hg => ?_, fun g hg => ?_⟩, k1, k3, k2⟩
  · obtain ⟨u1, u2, u3⟩ := pIf_i h5 g hg
    exact ⟨by omega, u2, u3⟩
  · obtain ⟨u1, u2, u3⟩ := pIf_i h6 g hg
    exact ⟨by omega, u2, u3⟩
theorem pMany_i {α : Type} {c : Prop} [Decidable c] {k : Nat → PR α} {v : α} (h : pMany ib c p k = .inr (v, p')) : c ∧ k (tN ib p) = .inr (v, p') := by
  unfold pMany at h
  split at h
  · rename_i hc; exact ⟨hc, h⟩
  · cases h
theorem nm_snoc {xs : List (List Nat)} {w : List Nat} (h : nm_ok xs) (hw : 1 ≤ w.length ∧ w.length ≤ 6) : nm_ok (xs ++ [w]) := fun c hc => by
  rcases List.mem_append.1 hc with hc | hc
  · exact h c hc
  · rw [List.mem_singleton] at hc
    rw [hc]
    exact hw
theorem pStm_i {S S' : SP} (hS : sp_ok S) (h : pStm ib S p = .inr (S', p')) : sp_ok S' := by
  have hS0 := hS
  obtain ⟨⟨l1, l2, l3, l4, l5⟩, ⟨n1, n2, n3⟩, ts, ⟨i1, i2, i3⟩, is⟩ := hS
  have len : ∀ {α : Type} (xs : List α) (x : α), (xs ++ [x]).length = xs.length + 1 := fun xs x => by rw [List.length_append, List.length_singleton]
  unfold pStm at h
  split at h
  · obtain ⟨c, h⟩ := pMany_i h
    obtain ⟨w, p1, h1, h⟩ := pb_r h
    cases h
    refine ⟨⟨by rw [len]; omega, l2, l3, l4, l5⟩, ⟨nm_snoc n1 (pNew_i h1), n2, n3⟩, fun t ht => ?_, ⟨i1, i2, i3⟩, is⟩
    obtain ⟨a, b, c, d⟩ := ts t ht
    exact ⟨a, by rw [len]; omega, by rw [len]; omega, d⟩
  split at h
  · obtain ⟨c, h⟩ := pMany_i h
    obtain ⟨w, p1, h1, h⟩ := pb_r h
    cases h
    refine ⟨⟨l1, by rw [len]; omega, l3, l4, l5⟩, ⟨n1, nm_snoc n2 (pNew_i h1), n3⟩, fun t ht => ?_, ⟨i1, i2, i3⟩, is⟩
    obtain ⟨a, b, c, d⟩ := ts t ht
    exact ⟨a, b, c, by rw [len]; omega⟩
  split at h
  · obtain ⟨c, h⟩ := pMany_i h
    obtain ⟨w, p1, h1, h⟩ := pb_r h
    obtain ⟨v, p2, h2, h⟩ := pb_r h
    cases h
    have v9 := pNum_i h2
    refine ⟨⟨l1, l2, by rw [len]; omega, l4, l5⟩, ⟨n1, n2, nm_snoc n3 (pNew_i h1)⟩, ts, ⟨cf_set_ok i1 (by omega), ?_, fun j hj hj3 => ?_⟩, is⟩
    · show (cf_set S.1.ini S.1.vn.length v).1 = 0
      unfold cf_set
      split <;> exact i2
    · have hj : (S.1.vn ++ [w]).length ≤ j := hj
      rw [len] at hj
      have := i3 j (by omega) hj3
      show cf_val (cf_set S.1.ini S.1.vn.length v) j = 0
      have vl : S.1.vn.length < 3 := c
      rw [← this]
      obtain ⟨k, hk⟩ : ∃ k, k = S.1.vn.length := ⟨_, rfl⟩
      rw [← hk] at hj vl ⊢
      match k, j, vl, hj, hj3 with
      | 0, 1, _, _, _ => rfl
      | 0, 2, _, _, _ => rfl
      | 1, 2, _, _, _ => rfl
      | 0, 0, _, h, _ => omega
      | 1, 0, _, h, _ => omega
      | 1, 1, _, h, _ => omega
      | 2, j, _, h, h2 => omega
      | n + 3, _, h, _, _ => omega
      | _, n + 3, _, _, h => omega
  split at h
  · obtain ⟨c, h⟩ := pMany_i h
    obtain ⟨t0, p1, h1, h⟩ := pb_r h
    cases h
    refine ⟨⟨l1, l2, l3, by rw [len]; omega, l5⟩, ⟨n1, n2, n3⟩, fun t ht => ?_, ⟨i1, i2, i3⟩, is⟩
    rcases List.mem_append.1 ht with ht | ht
    · exact ts t ht
    · rw [List.mem_singleton] at ht
      rw [ht]
      have := pTrans_i (S := S) hS0 h1
      exact this
  split at h
  · obtain ⟨c, h⟩ := pMany_i h
    obtain ⟨t0, p1, h1, h⟩ := pb_r h
    cases h
    refine ⟨⟨l1, l2, l3, l4, by rw [len]; omega⟩, ⟨n1, n2, n3⟩, ts, ⟨i1, i2, i3⟩, fun i hi => ?_⟩
    rcases List.mem_append.1 hi with hi | hi
    · exact is i hi
    · rw [List.mem_singleton] at hi
      rw [hi]
      obtain ⟨u1, u2, u3⟩ := pThree_i h1
      exact ⟨fun k hk => (by cases hk), by show t0.1 < 3; omega, u2, u3⟩
  split at h
  · obtain ⟨c, h⟩ := pMany_i h
    obtain ⟨s, p1, h1, h⟩ := pb_r h
    obtain ⟨t0, p2, h2, h⟩ := pb_r h
    cases h
    refine ⟨⟨l1, l2, l3, l4, by rw [len]; omega⟩, ⟨n1, n2, n3⟩, ts, ⟨i1, i2, i3⟩, fun i hi => ?_⟩
    rcases List.mem_append.1 hi with hi | hi
    · exact is i hi
    · rw [List.mem_singleton] at hi
      rw [hi]
      obtain ⟨u1, u2, u3⟩ := pThree_i h2
      have := pKnown_i h1
      exact ⟨fun k hk => (by cases hk; omega), by show t0.1 < 3; omega, u2, u3⟩
  · cases h
theorem pStmt_i {S S' : SP} (hS : sp_ok S) (h : pStmt ib S p = .inr (S', p')) : sp_ok S' := by
  unfold pStmt at h
  obtain ⟨S1, p1, h1, h⟩ := pb_r h
  obtain ⟨u, p2, h2, h⟩ := pb_r h
  cases h
  exact pStm_i hS h1
end PI
