/-! the component's getters, goes on -/
set_option maxRecDepth 100000
set_option linter.unusedSimpArgs false
theorem shr0 {n : Nat} (h : n < 2 ^ 31) : nI n >>> ((0 : Int32) &&& 31) = nI n := by
  rw [show ((0 : Int32) &&& 31) = 0 by decide, pk_shrN h 0 0 (by decide), Nat.pow_zero, Nat.div_one]
theorem chr_n {c : Nat} (h : c < 256) : (Int32.toUInt32 (nI c &&& (255 : Int32)) % 65536).toInt32 = nI c := by
  rw [pk_andN (show c < 2 ^ 32 by omega) 8 (by decide), pk_char, pk_tn (by omega)]
  congr 1
  omega
theorem str_len {D : gx_D} {h : HX} {a : Nat} {cs : List Nat} (H : hx_str h a cs) : f_J9_length D h a = some (nI cs.length) := by
  obtain ⟨v, b, c, f, h1, h2, h3, h4⟩ := H
  unfold f_J9_length f_J9_coder
  simp only [h1.is (show 2 ∈ [2] by decide), h1.gr (show 2 ∈ [2] by decide) (k := 0) rfl, h1.gi (show 2 ∈ [2] by decide) (k := 1) rfl, Option.bind_some, h2.len, if_pos (show (Int32.toInt8 0).toInt32 = 0 by decide), shr0 (show cs.length < 2 ^ 31 by omega)]
theorem str_chr {D : gx_D} {h : HX} {a k : Nat} {cs : List Nat} (H : hx_str h a cs) (hk : k < cs.length) : f_J9_charAt D h a (nI k) = some (nI cs[k]) := by
  obtain ⟨v, b, c, f, h1, h2, h3, h4⟩ := H
  obtain ⟨e, l⟩ := h4 k _ (List.getElem?_eq_getElem hk)
  have e1 : ¬ nI k < 0 := nI_pos (by omega)
  have e2 : nI k < nI cs.length := nI_lt hk (by omega)
  have ci : f_J9_checkIndex D h (nI k) (nI cs.length) = some () := by
    unfold f_J9_checkIndex f_J14_checkIndex
    rw [if_neg e1, if_pos e2]
    rfl
  have i1 : (0 : Int32) ≤ nI cs[k] ∧ nI cs[k] ≤ 65535 := ⟨nI_pos' (by omega), (nI_leI (b := 65535) (by omega) (by decide)).2 (by omega)⟩
  unfold f_J9_charAt f_J9_isLatin1 f_J15_charAt
  simp only [h1.is (show 2 ∈ [2] by decide), h1.gr (show 2 ∈ [2] by decide) (k := 0) rfl, h1.gi (show 2 ∈ [2] by decide) (k := 1) rfl, Option.bind_some, if_true, h2.len, ci, h2.ai hk (by omega), e, chr_n (show cs[k] < 256 by omega), if_pos i1]
theorem g_letter {D : gx_D} {h : HX} {a m : Nat} {xs : List (List Nat)} (H : hx_lst hx_str h a m xs) (hm : m ≤ 10) (i j : Int32) : ansI (f_X1_letter D h (some a) i j) h cIOOBE (ixB i xs.length) (nmA xs i j) := by
  have cap := H.cap
  refine ⟨fun c => ?_, fun c => ?_⟩
  · unfold f_X1_letter
    rw [Option.bind_some, H.len, Option.bind_some, f_checkIndex, c, if_neg Bool.false_ne_true, pl_bx_r]
  · obtain ⟨k, hk, rfl⟩ := ixB_t (by omega) c
    obtain ⟨b, b1, b2⟩ := H.at (D := D) hk
    have l := str_len (D := D) b2
    obtain ⟨v, y, z, f, h1, h2, h3, h4⟩ := id b2
    have w := f_within (D := D) (h := h) j 0 (nI xs[k].length - 1)
    rw [show Int32.toInt64 0 = 0 by decide] at w
    unfold f_X1_letter nmA
    rw [Option.bind_some, H.len, Option.bind_some, f_checkIndex, c, if_pos rfl, pl_bx_l, b1, Option.bind_some, pl_cast h1 (by decide), Option.bind_some, Option.bind_some, l, Option.bind_some, w, Option.bind_some, nI_clamp (by omega), List.getElem?_eq_getElem hk]
    show (if ixB j xs[k].length = true then _ else _) = some (Sum.inl (if ixB j xs[k].length = true then xs[k].getD j.toNatClampNeg 0 |> nI else -1), h)
    cases e : ixB j xs[k].length with
    | false => rfl
    | true =>
      obtain ⟨q, hq, rfl⟩ := ixB_t (by omega) e
      rw [if_pos rfl, if_pos rfl, str_chr b2 hq, Option.bind_some, nI_clamp (by omega), List.getD_eq_getElem?_getD, List.getElem?_eq_getElem hq]
      rfl
theorem g_names {D : gx_D} {h : HX} {x : Nat} {F : DF} {R : RN} (H : hx_vm D h x F R) (i j : Int32) : ansI (f_X1_stateNameByte D h x i j) h cIOOBE (ixB i F.sn.length) (nmA F.sn i j) ∧ ansI (f_X1_eventNameByte D h x i j) h cIOOBE (ixB i F.en.length) (nmA F.en i j) ∧ ansI (f_X1_variableNameByte D h x i j) h cIOOBE (ixB i F.vn.length) (nmA F.vn i j) := by
  have hi := vm_is H
  obtain ⟨d, r, sl, el, vl, tl, il, a1, a2, a3, a4, a5, x5, x6, d0, d1, d2, d3, d4, d5, l1, l2, l3, _⟩ := vm_rd H
  have k1 := g_letter (D := D) l1 (by decide) i j
  have k2 := g_letter (D := D) l2 (by decide) i j
  have k3 := g_letter (D := D) l3 (by decide) i j
  unfold f_X1_stateNameByte f_X1_eventNameByte f_X1_variableNameByte
  rw [hi, Option.bind_some, Option.bind_some, Option.bind_some, x5, Option.bind_some, Option.bind_some, Option.bind_some, Option.bind_some, Option.bind_some, Option.bind_some, d1, d2, d3, Option.bind_some, Option.bind_some, Option.bind_some]
  exact ⟨⟨fun c => by rw [k1.1 c, pl_bx_r], fun c => by rw [k1.2 c, pl_bx_l]⟩, ⟨fun c => by rw [k2.1 c, pl_bx_r], fun c => by rw [k2.2 c, pl_bx_l]⟩, ⟨fun c => by rw [k3.1 c, pl_bx_r], fun c => by rw [k3.2 c, pl_bx_l]⟩⟩
theorem g_trace {D : gx_D} {h : HX} {x : Nat} {F : DF} {R : RN} (H : hx_vm D h x F R) (ht : R.tr.length ≤ 20) (i : Int32) : f_X1_traceEvent D h x i = some (if ixB i R.tr.length = true then tr_e R.tr i.toNatClampNeg else -1) ∧ f_X1_traceTransition D h x i = some (if ixB i R.tr.length = true then tr_t R.tr i.toNatClampNeg else -1) := by
  have hi := vm_is H
  obtain ⟨d, r, sl, el, vl, tl, il, a1, a2, a3, a4, a5, x5, x6, d0, d1, d2, d3, d4, d5, l1, l2, l3, l4, r0, r1, r2, r3, r4, r5, r6, r7, r8, r9, l5, l6, l7, l8, l9⟩ := vm_rd H
  have w := f_within (D := D) (h := h) i 0 (nI R.tr.length - 1)
  rw [show Int32.toInt64 0 = 0 by decide] at w
  have w : f_X1_isWithin D h i.toInt64 0 (Int32.toInt64 (nI R.tr.length - 1)) = some (ixB i R.tr.length) := w
  unfold f_X1_traceEvent f_X1_traceTransition
  simp only [hi, Option.bind_some, x6, r9, w, r5, r6]
  cases c : ixB i R.tr.length with
  | false => exact ⟨rfl, rfl⟩
  | true =>
    obtain ⟨k, hk, rfl⟩ := ixB_t (by omega) c
    simp only [if_true, (l9 k hk (by omega)).1, (l9 k hk (by omega)).2, nI_clamp (show k < 2 ^ 31 by omega), Option.bind_some]
    exact ⟨trivial, trivial⟩
theorem g_rejected {D : gx_D} {h : HX} {x : Nat} {F : DF} {R : RN} (H : hx_vm D h x F R) (h0 : R.rj 0 = 0) : f_X1_rejectedCount D h x = some (R.rj 1 + R.rj 2 + R.rj 3 + R.rj 4) := by
  have hi := vm_is H
  obtain ⟨d, r, sl, el, vl, tl, il, a1, a2, a3, a4, a5, x5, x6, d0, d1, d2, d3, d4, d5, l1, l2, l3, l4, r0, r1, r2, r3, r4, r5, r6, r7, r8, r9, l5, l6, l7, l8, l9⟩ := vm_rd H
  unfold f_X1_rejectedCount f_X4_allRejected
  simp only [hi, Option.bind_some, x6, r0, r4, l8.len]
  obtain ⟨f, e⟩ := gx_sum (F := fun f i acc => f_X4_allRejected_b13 D f h acc (some a3) (nI 5) i) (g := R.rj) 5 (by decide) (fun f i a hi => by
    simp only [f_X4_allRejected_b13, if_neg (nI_ge hi (show 5 < 2 ^ 31 by decide)), Option.bind_some, l8.ai hi (by decide), gx_c1])
  rw [e]
  simp only [f_X4_allRejected_b13, if_pos (nI_le (Nat.le_refl 5) (show 5 < 2 ^ 31 by decide)), Option.bind_some, sumI, h0, Int32.zero_add]
theorem g_rejectedWith {D : gx_D} {h : HX} {x : Nat} {F : DF} {R : RN} (H : hx_vm D h x F R) (i : Int32) : ansI (f_X1_rejectedWith D h x i) h cIAE (decide (1 ≤ i) && decide (i ≤ 4)) (R.rj i.toNatClampNeg) := by
  have hi := vm_is H
  obtain ⟨d, r, sl, el, vl, tl, il, a1, a2, a3, a4, a5, x5, x6, d0, d1, d2, d3, d4, d5, l1, l2, l3, l4, r0, r1, r2, r3, r4, r5, r6, r7, r8, r9, l5, l6, l7, l8, l9⟩ := vm_rd H
  have w := f_within (D := D) (h := h) i 1 4
  rw [show Int32.toInt64 1 = 1 by decide, show Int32.toInt64 4 = 4 by decide] at w
  unfold f_X1_rejectedWith f_X1_requireArgument
  rw [hi, Option.bind_some, w, Option.bind_some]
  refine ⟨fun c => ?_, fun c => ?_⟩
  · rw [c, if_neg Bool.false_ne_true, pl_bx_r]
    rfl
  · have c' := c
    rw [Bool.and_eq_true, decide_eq_true_eq, decide_eq_true_eq] at c
    obtain ⟨k, hk, rfl⟩ : ∃ k, k < 5 ∧ i = nI k := by
      have h3 : ¬ i < 0 := fun e => by
        have c1 := c.1
        rw [Int32.lt_iff_toInt_lt] at e
        rw [Int32.le_iff_toInt_le] at c1
        have : (1 : Int32).toInt = 1 := by decide
        have : (0 : Int32).toInt = 0 := by decide
        omega
      obtain ⟨j, h1, h2⟩ := nI_of2 (n := 4) (M := 4) (by decide) h3 c.2
      exact ⟨j, by omega, h2⟩
    rw [c', if_pos rfl, pl_bx_l, x6, Option.bind_some, Option.bind_some, r4, Option.bind_some, Option.bind_some, l8.ai hk (by decide), Option.bind_some, nI_clamp (by omega)]
theorem g_deadlocked {D : gx_D} {h : HX} {x : Nat} {F : DF} {R : RN} (hap : gx_apt D) (hne : gx_apt2 D) (H : hx_vm D h x F R) (hF : tr_oks F.ts) (hq : cf_ok R.cf) : f_X1_isDeadlocked D h x = some (stuckN F R R.cf) := by
  have hi := vm_is H
  have k := f_isDeadlock hap hne H hF hq
  obtain ⟨d, r, sl, el, vl, tl, il, a1, a2, a3, a4, a5, x5, x6, d0, d1, d2, d3, d4, d5, l1, l2, l3, l4, r0, r1, r2, r3, r4, r5, r6, r7, _⟩ := vm_rd H
  unfold f_X1_isDeadlocked
  rw [hi, Option.bind_some, x6, Option.bind_some, Option.bind_some, r7, Option.bind_some, k, Option.bind_some]
/-- loops on both sides that give the same numbers -/
def unN (R : RN) (n : Nat) : Option Nat := (List.range n).find? fun k => decide (R.tk k = 0)
def mvN (R : RN) : Nat → Nat → Nat
  | 0, b => b
  | m + 1, b => if R.vi (mvN R m b) < R.vi (m + 1) then m + 1 else mvN R m b
theorem mvN_le {R : RN} : ∀ m, mvN R m 0 ≤ m
  | 0 => Nat.le_refl _
  | m + 1 => by
    unfold mvN
    split
    · exact Nat.le_refl _
    · exact Nat.le_succ_of_le (mvN_le m)
theorem fst_loop {ρ : Type} {P : Nat → Bool} {F : Nat → Int32 → Option ρ} {c : Int32 → ρ} (n : Nat) (hn : n < 1000) (step : ∀ f i, i < n → F (f + 1) (nI i) = if P i = true then some (c (nI i)) else F f (nI (i + 1))) (stop : ∀ f, F (f + 1) (nI n) = some (c (-1))) : F gx_fuel 0 = some (c (oI ((List.range n).find? P))) := by
  obtain ⟨r, e1, e2⟩ := gx_lp (F := F) (I := fun i s => s = nI i ∧ ∀ j, j < i → P j = false) (Q := fun r => r = c (oI ((List.range n).find? P))) n (by
    intro f i s hi hI
    obtain ⟨rfl, hI⟩ := hI
    cases e : P i with
    | true =>
      refine Or.inr ⟨_, by rw [step f i hi, e]; exact if_pos rfl, ?_⟩
      have : (List.range n).find? P = some i := by
        rw [List.find?_range_eq_some]
        exact ⟨e, List.mem_range.2 hi, fun j hj => by rw [hI j hj]; rfl⟩
      rw [this]
      rfl
    | false =>
      refine Or.inl ⟨nI (i + 1), ⟨rfl, fun j hj => ?_⟩, by rw [step f i hi, e]; exact if_neg Bool.false_ne_true⟩
      by_cases c : j = i
      · rw [c]; exact e
      · exact hI j (by omega)) (by
    intro f s hI
    obtain ⟨rfl, hI⟩ := hI
    refine ⟨_, stop f, ?_⟩
    have : (List.range n).find? P = none := List.find?_eq_none.2 fun j hj => by rw [hI j (List.mem_range.1 hj)]; exact Bool.false_ne_true
    rw [this]
    rfl) n 0 gx_fuel 0 (by omega) (by rw [pl_fl]; omega) ⟨rfl, fun j h => by omega⟩
  rw [e1, e2]
theorem g_firstUncovered {D : gx_D} {h : HX} {x : Nat} {F : DF} {R : RN} (H : hx_vm D h x F R) : f_X1_firstUncovered D h x = some (oI (unN R F.ts.length)) := by
  have hi := vm_is H
  obtain ⟨d, r, sl, el, vl, tl, il, a1, a2, a3, a4, a5, x5, x6, d0, d1, d2, d3, d4, d5, l1, l2, l3, l4, r0, r1, r2, r3, r4, r5, r6, r7, r8, r9, l5, l6, l7, l8, l9⟩ := vm_rd H
  have cap := l4.cap
  unfold f_X1_firstUncovered unN
  rw [hi, Option.bind_some]
  refine fst_loop (c := fun x => x) (P := fun k => decide (R.tk k = 0)) (F := fun f i => f_X1_firstUncovered_b2 D f h x i) F.ts.length (by omega) (fun f i hi => ?_) (fun f => ?_)
  · simp only [f_X1_firstUncovered_b2, x5, x6, d4, r2, Option.bind_some, l4.len, if_neg (nI_ge hi (show F.ts.length < 2 ^ 31 by omega)), l6.ai (show i < 24 by omega) (by decide), gx_c1, decide_eq_true_eq]
  · simp only [f_X1_firstUncovered_b2, x5, d4, Option.bind_some, l4.len, if_pos (nI_le (Nat.le_refl F.ts.length) (show F.ts.length < 2 ^ 31 by omega))]
theorem h_firstUncovered {D : gx_D} {b : HX} {o : Nat} {s : MS} {F : DF} {R : RN} (H : mM s F R) : f_X9_firstUncovered D b o s = some (oI (unN R F.ts.length), ms_p s 6 0) := by
  obtain ⟨hdf, hrn, hF, hR⟩ := id H
  have cap := hF.2.2.2.1
  have d3 : (ms_p s 6 0).2 0 3 = _ := hdf.2.2.2.1.1
  have q10 := hrn.2.2.2.2.2.2.2.2.2
  unfold f_X9_firstUncovered ms_pf unN
  rw [Option.bind_some]
  refine fst_loop (c := fun x => (x, ms_p s 6 0)) (P := fun k => decide (R.tk k = 0)) (F := fun f i => f_X9_firstUncovered_b7 D b o f (ms_p s 6 0) i) F.ts.length (by omega) (fun f i hi => ?_) (fun f => ?_)
  · have i69 : (69 : Int32) + nI i = nI (69 + i) := by rw [show (69 : Int32) = nI 69 from rfl, nI_add]
    simp only [f_X9_firstUncovered_b7, ms_w (s := ms_p s 6 0) (x := 3) (k := 3) rfl (by decide), d3, Option.bind_some, if_neg (nI_ge hi (show F.ts.length < 2 ^ 31 by omega)), i69, ms_w (s := ms_p s 6 0) (x := nI (69 + i)) (k := 69 + i) rfl (by omega), show (ms_p s 6 0).2 0 (69 + i) = R.tk i from q10 i (by omega), gx_c1, decide_eq_true_eq]
  · simp only [f_X9_firstUncovered_b7, ms_w (s := ms_p s 6 0) (x := 3) (k := 3) rfl (by decide), d3, Option.bind_some, if_pos (nI_le (Nat.le_refl F.ts.length) (show F.ts.length < 2 ^ 31 by omega))]
theorem i_nle {a b : Int32} : (a ≤ b) ↔ ¬ b < a := by
  rw [Int32.le_iff_toInt_le, Int32.lt_iff_toInt_lt]
  omega
theorem g_mostVisited {D : gx_D} {h : HX} {x : Nat} {F : DF} {R : RN} (H : hx_vm D h x F R) (h1 : 1 ≤ F.sn.length) : f_X1_mostVisitedState D h x = some (nI (mvN R (F.sn.length - 1) 0)) := by
  have hi := vm_is H
  obtain ⟨d, r, sl, el, vl, tl, il, a1, a2, a3, a4, a5, x5, x6, d0, d1, d2, d3, d4, d5, l1, l2, l3, l4, r0, r1, r2, r3, r4, r5, r6, r7, r8, r9, l5, l6, l7, l8, l9⟩ := vm_rd H
  have cap := l1.cap
  unfold f_X1_mostVisitedState
  rw [hi, Option.bind_some]
  obtain ⟨z, k1, k2⟩ := gx_lq (F := fun f (z : Int32 × Int32) => f_X1_mostVisitedState_b4 D f h x z.1 z.2) (I := fun m z => z = (nI (mvN R m 0), nI (m + 1))) (F.sn.length - 1) (by
    intro f m z hm hI
    subst hI
    have ml := mvN_le (R := R) m
    refine ⟨_, rfl, ?_⟩
    simp only [f_X1_mostVisitedState_b4, f_X1_mostVisitedState_b43, x5, x6, d1, r3, Option.bind_some, l1.len, if_neg (nI_ge (show m + 1 < F.sn.length by omega) (show F.sn.length < 2 ^ 31 by omega)), l7.ai (show m + 1 < 10 by omega) (by decide), l7.ai (show mvN R m 0 < 10 by omega) (by decide), gx_c1, i_nle (a := R.vi (m + 1))]
    show _ = f_X1_mostVisitedState_b4 D f h x (nI (if R.vi (mvN R m 0) < R.vi (m + 1) then m + 1 else mvN R m 0)) (nI (m + 1 + 1))
    by_cases c : R.vi (mvN R m 0) < R.vi (m + 1)
    · rw [if_neg (fun h => absurd c h), if_pos c]
    · rw [if_pos c, if_neg c]) (F.sn.length - 1) 0 gx_fuel (0, 1) (by omega) (by rw [pl_fl]; omega) rfl
  subst k1
  obtain ⟨u, hu⟩ : ∃ g, gx_fuel - (F.sn.length - 1) = g + 1 := ⟨gx_fuel - F.sn.length, by rw [pl_fl]; omega⟩
  rw [hu] at k2
  rw [show f_X1_mostVisitedState_b4 D gx_fuel h x 0 1 = _ from k2]
  simp only [f_X1_mostVisitedState_b4, x5, d1, Option.bind_some, l1.len, if_pos (nI_le (show F.sn.length ≤ F.sn.length - 1 + 1 by omega) (show F.sn.length - 1 + 1 < 2 ^ 31 by omega))]
theorem h_mostVisited {D : gx_D} {b : HX} {o : Nat} {s : MS} {F : DF} {R : RN} (H : mM s F R) : f_X9_mostVisitedState D b o s = some (nI (mvN R (F.sn.length - 1) 0), ms_p s 6 0) := by
  obtain ⟨hdf, hrn, hF, hR⟩ := id H
  have h1 := hF.1.1
  have cap := hF.1.2
  have d0 : (ms_p s 6 0).2 0 0 = _ := hdf.1
  have q9 := hrn.2.2.2.2.2.2.2.2.1
  have rd : ∀ k, k < 10 → ms_ai (ms_p s 6 0) 0 ((59 : Int32) + nI k) = some (R.vi k) := fun k hk => by
    rw [show (59 : Int32) + nI k = nI (59 + k) by rw [show (59 : Int32) = nI 59 from rfl, nI_add], ms_w (k := 59 + k) rfl (by omega)]
    exact congrArg some (q9 k hk)
  unfold f_X9_mostVisitedState ms_pf
  rw [Option.bind_some]
  obtain ⟨z, k1, k2⟩ := gx_lq (F := fun f (z : Int32 × Int32) => f_X9_mostVisitedState_b9 D b o f (ms_p s 6 0) z.1 z.2) (I := fun m z => z = (nI (mvN R m 0), nI (m + 1))) (F.sn.length - 1) (by
    intro f m z hm hI
    subst hI
    have ml := mvN_le (R := R) m
    refine ⟨_, rfl, ?_⟩
    simp only [f_X9_mostVisitedState_b9, f_X9_mostVisitedState_b42, ms_w (s := ms_p s 6 0) (x := 0) (k := 0) rfl (by decide), d0, Option.bind_some, if_neg (nI_ge (show m + 1 < F.sn.length by omega) (show F.sn.length < 2 ^ 31 by omega)), rd (m + 1) (by omega), rd (mvN R m 0) (by omega), gx_c1, i_nle (a := R.vi (m + 1))]
    show _ = f_X9_mostVisitedState_b9 D b o f (ms_p s 6 0) (nI (if R.vi (mvN R m 0) < R.vi (m + 1) then m + 1 else mvN R m 0)) (nI (m + 1 + 1))
    by_cases c : R.vi (mvN R m 0) < R.vi (m + 1)
    · rw [if_neg (fun h => absurd c h), if_pos c]
    · rw [if_pos c, if_neg c]) (F.sn.length - 1) 0 gx_fuel (0, 1) (by omega) (by rw [pl_fl]; omega) rfl
  subst k1
  obtain ⟨u, hu⟩ : ∃ g, gx_fuel - (F.sn.length - 1) = g + 1 := ⟨gx_fuel - F.sn.length, by rw [pl_fl]; omega⟩
  rw [hu] at k2
  rw [show f_X9_mostVisitedState_b9 D b o gx_fuel (ms_p s 6 0) 0 1 = _ from k2]
  simp only [f_X9_mostVisitedState_b9, ms_w (s := ms_p s 6 0) (x := 0) (k := 0) rfl (by decide), d0, Option.bind_some, if_pos (nI_le (show F.sn.length ≤ F.sn.length - 1 + 1 by omega) (show F.sn.length - 1 + 1 < 2 ^ 31 by omega))]
