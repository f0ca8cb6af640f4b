/-! a search in breadth, on its own -/
set_option maxRecDepth 100000
/-- an entry: configuration, depth, first event, where it came from (10 * place + event) -/
abbrev EN : Type := CF × Nat × Nat × Nat
def bxN (nx : CF → Nat → Option CF) (L : List EN) (b e : Nat) : List EN := match L[b]? with
  | none => L
  | some x => match nx x.1 e with
    | none => L
    | some q => if q ∈ L.map (·.1) then L else L ++ [(q, x.2.1 + 1, if x.2.1 = 0 then e else x.2.2.1, 10 * b + e)]
def bxs (nx : CF → Nat → Option CF) (L : List EN) (b : Nat) : Nat → List EN
  | 0 => L
  | e + 1 => bxN nx (bxs nx L b e) b e
def bfs (nx : CF → Nat → Option CF) (nE : Nat) (q0 : CF) : Nat → List EN
  | 0 => [(q0, 0, 0, 0)]
  | b + 1 => bxs nx (bfs nx nE q0 b) b nE
def bfI (nx : CF → Nat → Option CF) (nE : Nat) (q0 : CF) (L : List EN) (c : Nat) : Prop :=
  L[0]? = some (q0, 0, 0, 0) ∧
  (∀ (k : Nat) (x : EN), L[k]? = some x → 0 < k → ∃ p : EN, L[x.2.2.2 / 10]? = some p ∧ x.2.2.2 / 10 < k ∧ nx p.1 (x.2.2.2 % 10) = some x.1 ∧ x.2.1 = p.2.1 + 1 ∧ x.2.2.1 = (if p.2.1 = 0 then x.2.2.2 % 10 else p.2.2.1) ∧ x.2.2.2 < c ∧ x.2.2.2 % 10 < nE) ∧
  (∀ (k k' : Nat) (x x' : EN), L[k]? = some x → L[k']? = some x' → 0 < k → k < k' → x.2.2.2 < x'.2.2.2) ∧
  (∀ (k k' : Nat) (x x' : EN), L[k]? = some x → L[k']? = some x' → x.1 = x'.1 → k = k') ∧
  (∀ (c' : Nat) (x : EN) (q : CF), c' < c → c' % 10 < nE → L[c' / 10]? = some x → nx x.1 (c' % 10) = some q → ∃ (k : Nat) (y : EN), L[k]? = some y ∧ y.1 = q ∧ (k = 0 ∨ y.2.2.2 ≤ c'))
theorem bxN_pre {nx : CF → Nat → Option CF} {L : List EN} {b e : Nat} : L <+: bxN nx L b e := by
  unfold bxN
  split
  · exact List.prefix_refl _
  · split
    · exact List.prefix_refl _
    · split
      · exact List.prefix_refl _
      · exact List.prefix_append _ _
theorem bxs_pre {nx : CF → Nat → Option CF} {L : List EN} {b : Nat} : ∀ e, L <+: bxs nx L b e
  | 0 => List.prefix_refl _
  | e + 1 => (bxs_pre e).trans bxN_pre
theorem pre_get {L L' : List EN} (h : L <+: L') {k : Nat} {x : EN} (e : L[k]? = some x) : L'[k]? = some x := by
  obtain ⟨t, rfl⟩ := h
  obtain ⟨hk, _⟩ := List.getElem?_eq_some_iff.1 e
  rw [List.getElem?_append_left hk]
  exact e
theorem bfI.step {nx : CF → Nat → Option CF} {nE : Nat} {q0 : CF} {L : List EN} {b e : Nat} (H : bfI nx nE q0 L (10 * b + e)) (he : e < nE) (hE : nE ≤ 8) (hb : b < L.length) : bfI nx nE q0 (bxN nx L b e) (10 * b + e + 1) := by
  obtain ⟨h0, h1, h2, h3, h4⟩ := H
  have hx := List.getElem?_eq_getElem hb
  have d1 : (10 * b + e) / 10 = b := by omega
  have d2 : (10 * b + e) % 10 = e := by omega
  unfold bxN
  simp only [hx]
  have old : ∀ L', L <+: L' → (∀ q, nx L[b].1 e = some q → ∃ (k : Nat) (y : EN), L'[k]? = some y ∧ y.1 = q ∧ (k = 0 ∨ y.2.2.2 ≤ 10 * b + e)) → (∀ (k : Nat) (x : EN), L'[k]? = some x → k < L.length ∨ (10 * b + e ≤ x.2.2.2)) → (∀ (c' : Nat) (x : EN) (q : CF), c' < 10 * b + e + 1 → c' % 10 < nE → L'[c' / 10]? = some x → nx x.1 (c' % 10) = some q → ∃ (k : Nat) (y : EN), L'[k]? = some y ∧ y.1 = q ∧ (k = 0 ∨ y.2.2.2 ≤ c')) := by
    intro L' hp hq _ c' x q hc hn hx' hnx
    have hlt : c' / 10 < L.length := by omega
    have e1 : x = L[c' / 10] := by
      have := pre_get hp (List.getElem?_eq_getElem hlt)
      rw [this] at hx'
      exact (Option.some.inj hx').symm
    by_cases c : c' = 10 * b + e
    · subst c
      rw [d2] at hnx
      have e2 : x = L[b] := by rw [e1]; congr 1
      rw [e2] at hnx
      exact hq q hnx
    · obtain ⟨k, y, a1, a2, a3⟩ := h4 c' x q (by omega) hn (by rw [e1]; exact List.getElem?_eq_getElem hlt) hnx
      exact ⟨k, y, pre_get hp a1, a2, a3⟩
  cases hn : nx L[b].1 e with
  | none =>
    simp only
    refine ⟨h0, fun k x hk h => ?_, h2, h3, old L (List.prefix_refl _) (fun q hq => by rw [hn] at hq; cases hq) (fun k x hk => Or.inl (List.getElem?_eq_some_iff.1 hk).1)⟩
    obtain ⟨p, a1, a2, a3, a4, a5, a6, a7⟩ := h1 k x hk h
    exact ⟨p, a1, a2, a3, a4, a5, by omega, a7⟩
  | some q =>
    simp only
    by_cases hm : q ∈ L.map (·.1)
    · rw [if_pos hm]
      obtain ⟨y, hy, rfl⟩ := List.mem_map.1 hm
      obtain ⟨k, hk, rfl⟩ := List.getElem_of_mem hy
      refine ⟨h0, fun k x hk h => ?_, h2, h3, old L (List.prefix_refl _) (fun q hq => ?_) (fun k x hk => Or.inl (List.getElem?_eq_some_iff.1 hk).1)⟩
      · obtain ⟨p, a1, a2, a3, a4, a5, a6, a7⟩ := h1 k x hk h
        exact ⟨p, a1, a2, a3, a4, a5, by omega, a7⟩
      · rw [hn] at hq
        cases hq
        refine ⟨k, L[k], List.getElem?_eq_getElem hk, rfl, ?_⟩
        by_cases c : k = 0
        · exact Or.inl c
        · obtain ⟨p, a1, a2, a3, a4, a5, a6, a7⟩ := h1 k _ (List.getElem?_eq_getElem hk) (by omega)
          exact Or.inr (by omega)
    · rw [if_neg hm]
      have hp : L <+: L ++ [(q, L[b].2.1 + 1, if L[b].2.1 = 0 then e else L[b].2.2.1, 10 * b + e)] := List.prefix_append _ _
      have cs : ∀ (k : Nat) (x : EN), (L ++ [(q, L[b].2.1 + 1, if L[b].2.1 = 0 then e else L[b].2.2.1, 10 * b + e)])[k]? = some x → L[k]? = some x ∨ k = L.length ∧ x = (q, L[b].2.1 + 1, if L[b].2.1 = 0 then e else L[b].2.2.1, 10 * b + e) := by
        intro k x hk
        by_cases c : k < L.length
        · rw [List.getElem?_append_left c] at hk
          exact Or.inl hk
        · rw [List.getElem?_append_right (by omega)] at hk
          obtain ⟨c2, c3⟩ := List.getElem?_eq_some_iff.1 hk
          simp only [List.length_singleton] at c2
          have c4 : k = L.length := by omega
          subst c4
          simp only [Nat.sub_self, List.getElem_singleton] at c3
          exact Or.inr ⟨rfl, c3.symm⟩
      refine ⟨pre_get hp h0, fun k x hk h => ?_, fun k k' x x' hk hk' h h' => ?_, fun k k' x x' hk hk' he' => ?_, old _ hp (fun q' hq => ?_) (fun k x hk => ?_)⟩
      · rcases cs k x hk with c | ⟨c, rfl⟩
        · obtain ⟨p, a1, a2, a3, a4, a5, a6, a7⟩ := h1 k x c h
          exact ⟨p, pre_get hp a1, a2, a3, a4, a5, by omega, a7⟩
        · simp only [d1, d2]
          exact ⟨L[b], pre_get hp hx, by omega, hn, rfl, rfl, by omega, he⟩
      · rcases cs k x hk with c | ⟨c, rfl⟩
        · rcases cs k' x' hk' with c' | ⟨c', rfl⟩
          · exact h2 k k' x x' c c' h h'
          · obtain ⟨p, a1, a2, a3, a4, a5, a6, a7⟩ := h1 k x c h
            exact a6
        · rcases cs k' x' hk' with c' | ⟨c', rfl⟩
          · have := (List.getElem?_eq_some_iff.1 c').1
            omega
          · omega
      · rcases cs k x hk with c | ⟨c, rfl⟩
        · rcases cs k' x' hk' with c' | ⟨c', rfl⟩
          · exact h3 k k' x x' c c' he'
          · exact absurd (List.mem_map.2 ⟨x, List.mem_of_getElem? c, he'⟩) hm
        · rcases cs k' x' hk' with c' | ⟨c', rfl⟩
          · exact absurd (List.mem_map.2 ⟨x', List.mem_of_getElem? c', he'.symm⟩) hm
          · omega
      · rw [hn] at hq
        cases hq
        exact ⟨L.length, (q, L[b].2.1 + 1, if L[b].2.1 = 0 then e else L[b].2.2.1, 10 * b + e), by rw [List.getElem?_append_right (Nat.le_refl _), Nat.sub_self]; rfl, rfl, Or.inr (Nat.le_refl _)⟩
      · rcases cs k x hk with c | ⟨c, rfl⟩
        · exact Or.inl (List.getElem?_eq_some_iff.1 c).1
        · exact Or.inr (Nat.le_refl _)
theorem bfI.steps {nx : CF → Nat → Option CF} {nE : Nat} {q0 : CF} {L : List EN} {b : Nat} (H : bfI nx nE q0 L (10 * b)) (hE : nE ≤ 8) (hb : b < L.length) : ∀ e, e ≤ nE → bfI nx nE q0 (bxs nx L b e) (10 * b + e)
  | 0, _ => H
  | e + 1, he => (bfI.steps H hE hb e (by omega)).step (by omega) hE (Nat.lt_of_lt_of_le hb (bxs_pre e).length_le)
theorem bfI.up {nx : CF → Nat → Option CF} {nE : Nat} {q0 : CF} {L : List EN} {c c2 : Nat} (H : bfI nx nE q0 L c) (h : c ≤ c2) (hd : ∀ c' x, c ≤ c' → c' < c2 → c' % 10 < nE → L[c' / 10]? = some x → False) : bfI nx nE q0 L c2 := by
  obtain ⟨h0, h1, h2, h3, h4⟩ := H
  refine ⟨h0, fun k x hk h' => ?_, h2, h3, fun c' x q hc hn hx hq => ?_⟩
  · obtain ⟨p, a1, a2, a3, a4, a5, a6, a7⟩ := h1 k x hk h'
    exact ⟨p, a1, a2, a3, a4, a5, by omega, a7⟩
  · by_cases c3 : c' < c
    · exact h4 c' x q c3 hn hx hq
    · exact (hd c' x (by omega) hc hn hx).elim
theorem bxs_end {nx : CF → Nat → Option CF} {L : List EN} {b : Nat} (hb : L.length ≤ b) : ∀ e, bxs nx L b e = L
  | 0 => rfl
  | e + 1 => by
    unfold bxs
    rw [bxs_end hb e]
    unfold bxN
    rw [List.getElem?_eq_none hb]
theorem bfs_inv {nx : CF → Nat → Option CF} {nE : Nat} {q0 : CF} (hE : nE ≤ 8) : ∀ b, bfI nx nE q0 (bfs nx nE q0 b) (10 * b)
  | 0 => by
    refine ⟨rfl, fun k x hk h => ?_, fun k k' x x' hk hk' h h' => ?_, fun k k' x x' hk hk' h => ?_, fun c' x q hc => by omega⟩
    · have := (List.getElem?_eq_some_iff.1 hk).1
      simp only [bfs, List.length_singleton] at this
      omega
    · have := (List.getElem?_eq_some_iff.1 hk').1
      simp only [bfs, List.length_singleton] at this
      omega
    · have := (List.getElem?_eq_some_iff.1 hk).1
      have := (List.getElem?_eq_some_iff.1 hk').1
      simp only [bfs, List.length_singleton] at *
      omega
  | b + 1 => by
    have ih := bfs_inv (nx := nx) (q0 := q0) hE b
    unfold bfs
    by_cases hb : b < (bfs nx nE q0 b).length
    · refine (ih.steps hE hb nE (Nat.le_refl _)).up (by omega) fun c' x h1 h2 h3 h4 => ?_
      omega
    · rw [bxs_end (by omega)]
      refine ih.up (by omega) fun c' x h1 h2 h3 h4 => ?_
      have := (List.getElem?_eq_some_iff.1 h4).1
      omega
theorem nodup_le : ∀ (n : Nat) (xs : List Nat), xs.Nodup → (∀ x, x ∈ xs → x < n) → xs.length ≤ n
  | 0, xs, _, h2 => by
    cases xs with
    | nil => exact Nat.le_refl _
    | cons x t => exact absurd (h2 x (List.mem_cons_self ..)) (by omega)
  | n + 1, xs, h1, h2 => by
    by_cases c : n ∈ xs
    · have e1 := List.length_erase_of_mem c
      have e2 := nodup_le n (xs.erase n) (h1.erase n) fun x hx => by
        have a1 := h1.mem_erase_iff.1 hx
        have a2 := h2 x a1.2
        have a3 := a1.1
        omega
      omega
    · have := nodup_le n xs h1 fun x hx => by
        have a2 := h2 x hx
        have a3 : x ≠ n := fun e => c (e ▸ hx)
        omega
      omega
theorem cf_c_inj {p q : CF} (hp : cf_ok p) (hq : cf_ok q) (e : cf_c p = cf_c q) : p = q := by
  obtain ⟨p1, p2, p3, p4⟩ := hp
  obtain ⟨q1, q2, q3, q4⟩ := hq
  obtain ⟨a1, a2, a3, a4⟩ := p
  obtain ⟨b1, b2, b3, b4⟩ := q
  unfold cf_c at e
  simp only at *
  have h1 : a1 = b1 := by omega
  have h2 : a2 = b2 := by omega
  have h3 : a3 = b3 := by omega
  have h4 : a4 = b4 := by omega
  rw [h1, h2, h3, h4]
theorem cf_m_inj {p q : CF} (hp : cf_ok p) (hq : cf_ok q) (e : cf_m p = cf_m q) : p = q := by
  obtain ⟨p1, p2, p3, p4⟩ := hp
  obtain ⟨q1, q2, q3, q4⟩ := hq
  obtain ⟨a1, a2, a3, a4⟩ := p
  obtain ⟨b1, b2, b3, b4⟩ := q
  unfold cf_m at e
  simp only at *
  have h1 : a1 = b1 := by omega
  have h2 : a2 = b2 := by omega
  have h3 : a3 = b3 := by omega
  have h4 : a4 = b4 := by omega
  rw [h1, h2, h3, h4]
def nx_ok (nx : CF → Nat → Option CF) : Prop := ∀ q e p, cf_ok q → nx q e = some p → cf_ok p
theorem bxN_ok {nx : CF → Nat → Option CF} {L : List EN} {b e : Nat} (hn : nx_ok nx) (h : ∀ x, x ∈ L → cf_ok x.1) : ∀ x, x ∈ bxN nx L b e → cf_ok x.1 := by
  unfold bxN
  split
  · exact h
  · rename_i y hy
    split
    · exact h
    · rename_i q hq
      split
      · exact h
      · intro x hx
        rcases List.mem_append.1 hx with c | c
        · exact h x c
        · rw [List.mem_singleton.1 c]
          exact hn _ _ _ (h _ (List.mem_of_getElem? hy)) hq
theorem bxs_ok {nx : CF → Nat → Option CF} {L : List EN} {b : Nat} (hn : nx_ok nx) (h : ∀ x, x ∈ L → cf_ok x.1) : ∀ e x, x ∈ bxs nx L b e → cf_ok x.1
  | 0, x, hx => h x hx
  | e + 1, x, hx => bxN_ok hn (bxs_ok hn h e) x hx
theorem bfs_ok {nx : CF → Nat → Option CF} {nE : Nat} {q0 : CF} (hn : nx_ok nx) (h : cf_ok q0) : ∀ b x, x ∈ bfs nx nE q0 b → cf_ok x.1
  | 0, x, hx => by
    rw [List.mem_singleton.1 hx]
    exact h
  | b + 1, x, hx => bxs_ok hn (bfs_ok hn h b) nE x hx
theorem en_len {L : List EN} (h3 : ∀ (k k' : Nat) (x x' : EN), L[k]? = some x → L[k']? = some x' → x.1 = x'.1 → k = k') (ho : ∀ x, x ∈ L → cf_ok x.1) : L.length ≤ 10000 := by
  have h := nodup_le 10000 (L.map fun x => cf_c x.1) (by
    refine List.pairwise_iff_getElem.2 fun i j hi hj hij e => ?_
    rw [List.length_map] at hi hj
    rw [List.getElem_map, List.getElem_map] at e
    have e := cf_c_inj (ho _ (List.getElem_mem _)) (ho _ (List.getElem_mem _)) e
    have := h3 i j _ _ (List.getElem?_eq_getElem hi) (List.getElem?_eq_getElem hj) e
    omega) (by
    intro x hx
    obtain ⟨y, hy, rfl⟩ := List.mem_map.1 hx
    exact cf_c_lt (ho y hy))
  rwa [List.length_map] at h
theorem bfs_len {nx : CF → Nat → Option CF} {nE : Nat} {q0 : CF} (hE : nE ≤ 8) (hn : nx_ok nx) (h : cf_ok q0) (b : Nat) : (bfs nx nE q0 b).length ≤ 10000 := en_len (bfs_inv hE b).2.2.2.1 (bfs_ok hn h b)
theorem bfs_pre {nx : CF → Nat → Option CF} {nE : Nat} {q0 : CF} (b : Nat) : ∀ n, bfs nx nE q0 b <+: bfs nx nE q0 (b + n)
  | 0 => List.prefix_refl _
  | n + 1 => (bfs_pre b n).trans (bxs_pre nE)
/-- the whole search -/
def bfA (nx : CF → Nat → Option CF) (nE : Nat) (q0 : CF) : List EN := bfs nx nE q0 10000
theorem bfs_end {nx : CF → Nat → Option CF} {nE : Nat} {q0 : CF} {b : Nat} (hb : (bfs nx nE q0 b).length ≤ b) : ∀ n, bfs nx nE q0 (b + n) = bfs nx nE q0 b
  | 0 => rfl
  | n + 1 => by
    show bxs nx (bfs nx nE q0 (b + n)) (b + n) nE = _
    rw [bfs_end hb n]
    exact bxs_end (by omega) nE
theorem bfA_end {nx : CF → Nat → Option CF} {nE : Nat} {q0 : CF} {b : Nat} (hE : nE ≤ 8) (hn : nx_ok nx) (h : cf_ok q0) (hb : (bfs nx nE q0 b).length ≤ b) : bfA nx nE q0 = bfs nx nE q0 b := by
  unfold bfA
  by_cases c : b ≤ 10000
  · obtain ⟨n, e⟩ : ∃ n, 10000 = b + n := ⟨10000 - b, by omega⟩
    rw [e]
    exact bfs_end hb n
  · obtain ⟨n, rfl⟩ : ∃ n, b = 10000 + n := ⟨b - 10000, by omega⟩
    exact (bfs_end (bfs_len hE hn h 10000) n).symm
theorem bfA_pre {nx : CF → Nat → Option CF} {nE : Nat} {q0 : CF} {b : Nat} (hE : nE ≤ 8) (hn : nx_ok nx) (h : cf_ok q0) : bfs nx nE q0 b <+: bfA nx nE q0 := by
  by_cases c : b ≤ 10000
  · obtain ⟨n, e⟩ : ∃ n, 10000 = b + n := ⟨10000 - b, by omega⟩
    unfold bfA
    rw [e]
    exact bfs_pre b n
  · obtain ⟨n, rfl⟩ : ∃ n, b = 10000 + n := ⟨b - 10000, by omega⟩
    rw [bfs_end (bfs_len hE hn h 10000) n]
    exact List.prefix_refl _
