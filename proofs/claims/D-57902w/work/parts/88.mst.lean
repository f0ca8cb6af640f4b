/-! the model reads a setup's statements -/
set_option maxRecDepth 100000
set_option linter.unusedSimpArgs false
theorem pMany_pb {α β : Type} {ib : List Nat} {c : Prop} [Decidable c] {p : Nat} {k : Nat → PR α} {g : α → Nat → PR β} : pb (pMany ib c p k) g = pMany ib c p fun q => pb (k q) g := by
  unfold pMany
  split <;> rfl
theorem tW_l {ib : List Nat} {p : Nat} (hp : p ≤ ib.length) : ∀ y, y ∈ tW ib p → y < 128 := fun y hy => by
  by_cases k0 : tK ib p = 0
  · have := ((adv_ok hp).2.2.2.2.2.2.1 k0).2.2 y hy
    unfold isL at this
    rw [Bool.and_eq_true, decide_eq_true_eq, decide_eq_true_eq] at this
    omega
  · have t0 : tW ib p = [] := (adv_ok hp).2.2.2.2.2.2.2.1 k0
    rw [t0] at hy
    cases hy
theorem pNew_w {ib : List Nat} {p p' : Nat} {xs : List (List Nat)} {w : List Nat} (h : pNew ib xs p = .inr (w, p')) : w = tW ib p := by
  unfold pNew at h
  obtain ⟨w', p1, h1, h2⟩ := pb_r h
  split at h2
  · cases h2
    exact (pName_q h1).2.1
  · cases h2
theorem nc_snoc {xs : List (List Nat)} {w : List Nat} (h : nc_ok xs) (hw : ∀ y, y ∈ w → y < 128) : nc_ok (xs ++ [w]) := fun x hx => by
  rcases List.mem_append.1 hx with hx | hx
  · exact h x hx
  · rw [List.mem_singleton] at hx
    rw [hx]
    exact hw
theorem pStm_nc {ib : List Nat} {p p' : Nat} {S S' : SP} (hp : p ≤ ib.length) (K : sp_nc S) (h : pStm ib S p = .inr (S', p')) : sp_nc S' := by
  refine ⟨pStm_i K.1 h, ?_⟩
  obtain ⟨_, k1, k2, k3⟩ := K
  have l1 := (tS_le hp).2.2
  unfold pStm at h
  split at h
  · obtain ⟨c, h⟩ := pMany_i h
    obtain ⟨w, p1, h1, h⟩ := pb_r h
    cases h
    exact ⟨nc_snoc k1 (by rw [pNew_w h1]; exact tW_l l1), k2, k3⟩
  split at h
  · obtain ⟨c, h⟩ := pMany_i h
    obtain ⟨w, p1, h1, h⟩ := pb_r h
    cases h
    exact ⟨k1, nc_snoc k2 (by rw [pNew_w h1]; exact tW_l l1), k3⟩
  split at h
  · obtain ⟨c, h⟩ := pMany_i h
    obtain ⟨w, p1, h1, h⟩ := pb_r h
    obtain ⟨v, p2, h2, h⟩ := pb_r h
    cases h
    exact ⟨k1, k2, nc_snoc k3 (by rw [pNew_w h1]; exact tW_l l1)⟩
  split at h
  · obtain ⟨c, h⟩ := pMany_i h
    obtain ⟨t, p1, h1, h⟩ := pb_r h
    cases h
    exact ⟨k1, k2, k3⟩
  split at h
  · obtain ⟨c, h⟩ := pMany_i h
    obtain ⟨t, p1, h1, h⟩ := pb_r h
    cases h
    exact ⟨k1, k2, k3⟩
  split at h
  · obtain ⟨c, h⟩ := pMany_i h
    obtain ⟨t, p1, h1, h⟩ := pb_r h
    obtain ⟨t2, p2, h2, h⟩ := pb_r h
    cases h
    exact ⟨k1, k2, k3⟩
  · cases h
theorem pStmt_nc {ib : List Nat} {p p' : Nat} {S S' : SP} (hp : p ≤ ib.length) (K : sp_nc S) (h : pStmt ib S p = .inr (S', p')) : sp_nc S' := by
  unfold pStmt at h
  obtain ⟨S1, p1, h1, h⟩ := pb_r h
  obtain ⟨u, p2, h2, h⟩ := pb_r h
  cases h
  exact pStm_nc hp K h1
theorem MR.bn {α β : Type} {ib W V : List Nat} {s : MS} {res : Option (Bool × MS)} {m : PR α} {Q : α → MS → Prop} {K : MS → Option (Bool × MS)} {f : α → Nat → PR β} {Q' : β → MS → Prop} (H : MR ib W s res m Q) (hW : ∀ q, q ∈ W → q ∈ V)
    (hK : ∀ v p' t, m = .inr (v, p') → mfq W s t → Q v t → MT t ib p' → MR ib V t (K t) (f v p') Q') : MR ib V s (gx_b2 res fun b t => if b = true then K t else some (false, t)) (pb m f) Q' := by
  obtain ⟨b, t, e, F, M⟩ := H
  cases m with
  | inl e' =>
    obtain ⟨rfl, M2⟩ := M
    exact ⟨false, t, by rw [e, pl_b2_s, if_neg Bool.false_ne_true], F.up hW, rfl, M2⟩
  | inr v =>
    obtain ⟨v, p'⟩ := v
    obtain ⟨rfl, M2, M3⟩ := M
    obtain ⟨b2, t2, e2, F2, M4⟩ := hK v p' t rfl F M2 M3
    exact ⟨b2, t2, by rw [e, pl_b2_s, if_pos rfl, e2], (F.up hW).tr F2, M4⟩
section MST
variable {D : gx_D} {b : HX} {o p : Nat} {s : MS} {ib : List Nat} {S : SP}
theorem MR.many {α : Type} {W : List Nat} {x y : Int32} {K : MS → Option (Bool × MS)} {k : Nat → PR α} {Q : α → MS → Prop} {c : Prop} [Decidable c] (T : MT s ib p) (hb : ib_ok ib) (hp : p ≤ ib.length) (hx : (x = y) ↔ ¬ c) (H : c → ∀ t, mfq [] s t → MT t ib (tN ib p) → MR ib W t (K t) (k (tN ib p)) Q) : MR ib W s (if x = y then gx_b2 (f_X9_failsAt D b o s 5) fun b4 h5 => some (b4, h5) else (f_X9_advanceToken D b o s).bind K) (pMany ib c p k) Q := by
  unfold pMany
  by_cases h : c
  · rw [if_pos h, if_neg (fun e => hx.1 e h)]
    exact MR.adv T hb hp fun t F T2 _ => H h t F T2
  · rw [if_neg h, if_pos (hx.2 h), gx_b2_id]
    exact T.fail 5
theorem many_x {n m : Nat} (h : n ≤ m) (hm : m < 1000) : (nI n = nI m) ↔ ¬ n < m := ⟨fun e hn => nI_ne (by omega) (by omega) (by omega) e, fun hn => by rw [show n = m by omega]⟩
theorem m_takesNew {c m : Nat} {xs : List (List Nat)} (T : MT s ib p) (hb : ib_ok ib) (hp : p ≤ ib.length) (N : mnL (s.2 0) c m xs) (hc : c + 7 * xs.length + 7 ≤ 504) : MR ib [0] s (f_X9_takesNewName D b o s (nI c) (nI m)) (pNew ib xs p) fun v t => (∀ k, (k < c + 7 * xs.length ∨ c + 7 * xs.length + 7 ≤ k) → t.2 0 k = s.2 0 k) ∧ t.2 0 (c + 7 * xs.length) = nI v.length ∧ ∀ i y, v[i]? = some y → t.2 0 (c + 7 * xs.length + 1 + i) = nI y := by
  unfold f_X9_takesNewName pNew
  refine MR.bnd (m_seesName (W := [0]) T hb hp) fun w p' t em F q T1 => ?_
  obtain ⟨rfl, k0⟩ := q
  obtain ⟨rfl, rfl, l1, l2⟩ := pName_q em
  obtain ⟨z1, z2, z3⟩ := tW_cut hp k0
  rw [m_nameHere T hb hp k0 l2 N, Option.bind_some]
  cases e : idx xs (tW ib p') with
  | some i =>
    have hi := idx_lt e
    have nl := N.2.2.2.1
    rw [if_neg (oI_sne (show i < 2 ^ 31 by omega)), gx_b2_id]
    exact T1.fail 3
  | none =>
    obtain ⟨L, hL⟩ : ∃ L, L = c + 7 * xs.length := ⟨_, rfl⟩
    rw [← hL] at hc ⊢
    have e7 : nI c + 7 * nI xs.length = nI L := by rw [show (7 : Int32) = nI 7 from rfl, pk_mul, nI_add, hL]
    rw [if_pos oI_nn, ms_w rfl N.2.2.1, Option.bind_some, N.2.1, e7, T.len hp hb, ← z2, mw_x (x := nI L) (k := L) rfl (by omega), Option.bind_some]
    obtain ⟨z, ⟨hz2, w6, hz1, g1, g2, g3⟩, ez⟩ := gx_lq (F := fun f (z : MS × Int32) => f_X9_takesNewName_b55 D b o f z.1 (nI L) z.2) (I := fun i z => z.2 = nI i ∧ ∃ w, z.1 = mw t w ∧ (∀ k, (k < L ∨ L + 7 ≤ k) → w k = t.2 0 k) ∧ w L = nI (tW ib p').length ∧ ∀ j y, j < i → (tW ib p')[j]? = some y → w (L + 1 + j) = nI y) 6 (by
      intro f i z hi hI
      obtain ⟨z, q⟩ := z
      obtain ⟨rfl, w, rfl, g1, g2, g3⟩ : q = nI i ∧ ∃ w, z = mw t w ∧ _ := hI
      have Tw := T1.w w
      have c6 : ¬ (6 : Int32) ≤ nI i := nI_ge hi (by decide)
      have ix : nI (L + 1) + nI i = nI (L + 1 + i) := nI_add _ _
      by_cases cl : i < (tW ib p').length
      · have at' := Tw.at hb hp k0 cl
        refine ⟨(mw t (upd w (L + 1 + i) (nI (tW ib p')[i])), nI (i + 1)), ⟨rfl, _, rfl, fun k hk => by rw [pk_un (by omega)]; exact g1 k hk, by rw [pk_un (by omega)]; exact g2, fun j y hj hy => ?_⟩, ?_⟩
        · by_cases cj : j = i
          · subst cj
            rw [List.getElem?_eq_getElem cl] at hy
            cases hy
            rw [pk_us]
          · rw [pk_un (by omega)]
            exact g3 j y (by omega) hy
        · show f_X9_takesNewName_b55 D b o (f + 1) (mw t w) (nI L) (nI i) = _
          simp only [f_X9_takesNewName_b55, f_X9_takesNewName_b102, if_neg c6, Tw.len hp hb, ← z2, if_neg (nI_ge cl (show (tW ib p').length < 2 ^ 31 by omega)), at'.1, Option.bind_some, ix, mw_y (x := nI (L + 1 + i)) (k := L + 1 + i) rfl (by omega), gx_c1]
      · refine ⟨(mw t (upd w (L + 1 + i) 0), nI (i + 1)), ⟨rfl, _, rfl, fun k hk => by rw [pk_un (by omega)]; exact g1 k hk, by rw [pk_un (by omega)]; exact g2, fun j y hj hy => ?_⟩, ?_⟩
        · have := (List.getElem?_eq_some_iff.1 hy).1
          rw [pk_un (by omega)]
          exact g3 j y (by omega) hy
        · show f_X9_takesNewName_b55 D b o (f + 1) (mw t w) (nI L) (nI i) = _
          simp only [f_X9_takesNewName_b55, f_X9_takesNewName_b102, if_neg c6, Tw.len hp hb, ← z2, if_pos (nI_le (show (tW ib p').length ≤ i by omega) (show i < 2 ^ 31 by omega)), Option.bind_some, ix, mw_y (x := nI (L + 1 + i)) (k := L + 1 + i) rfl (by omega), gx_c1]) 6 0 gx_fuel (mw t (upd (t.2 0) L (nI (tW ib p').length)), 0) (by omega) (by rw [pl_fl]; omega) ⟨rfl, _, rfl, fun k hk => by rw [pk_un (by omega)], by rw [pk_us], fun j y hj => by omega⟩
    obtain ⟨z, q⟩ := z
    have hz2 : q = nI 6 := hz2
    have hz1 : z = mw t w6 := hz1
    subst hz2 hz1
    obtain ⟨f, hf⟩ : ∃ f, gx_fuel - 6 = f + 1 := ⟨gx_fuel - 7, by rw [pl_fl]⟩
    rw [hf] at ez
    have ez : f_X9_takesNewName_b55 D b o gx_fuel (mw t (upd (t.2 0) L (nI (tW ib p').length))) (nI L) 0 = f_X9_takesNewName_b55 D b o (f + 1) (mw t w6) (nI L) (nI 6) := ez
    rw [ez]
    simp only [f_X9_takesNewName_b55, if_pos (show (6 : Int32) ≤ nI 6 by decide), f_X9_takesNewName_b109]
    refine MR.pre mw_F (MR.adv (T1.w w6) hb hp fun t2 F2 T2 _ => ⟨true, t2, rfl, mfq.rf, rfl, ?_, T2⟩)
    have e0 : t2.2 0 = w6 := by rw [F2.2 0 (by simp), mw_2]
    show (∀ k, (k < L ∨ L + 7 ≤ k) → t2.2 0 k = t.2 0 k) ∧ t2.2 0 L = nI (tW ib p').length ∧ ∀ i y, (tW ib p')[i]? = some y → t2.2 0 (L + 1 + i) = nI y
    rw [e0]
    exact ⟨g1, g2, fun i y hy => g3 i y (by have := (List.getElem?_eq_some_iff.1 hy).1; omega) hy⟩
/-- behind a statement's body -/
theorem m_endS {t : MS} {S' : SP} {p' : Nat} (T : MT t ib p') (hb : ib_ok ib) (hp : p' ≤ ib.length) (H : mSP (t.2 0) S') : MR ib [0, 7] t (f_X9_takesSemicolon D b o t) (pb (pSemi ib p') fun _ p'' => (.inr (S', p'') : PR SP)) fun S' t => mSP (t.2 0) S' := by
  obtain ⟨b', t2, e, F, M⟩ := m_semi (D := D) (b := b) (o := o) (W := [0, 7]) T hb hp
  refine ⟨b', t2, e, F, ?_⟩
  cases em : pSemi ib p' with
  | inl e => rw [em] at M; exact M
  | inr v =>
    rw [em] at M
    obtain ⟨m1, m2, m3⟩ := M
    refine ⟨m1, ?_, m3⟩
    show mSP (t2.2 0) S'
    rw [m2.2 0 (by simp)]
    exact H
theorem m_b66 {t : MS} {S' : SP} {p' m n : Nat} (T : MT t ib p') (hb : ib_ok ib) (hp : p' ≤ ib.length) (hm : m < 504) (hn : t.2 0 m = nI n) (H : mSP (upd (t.2 0) m (nI (n + 1))) S') : MR ib [0, 7] t (f_X9_readNamed_b66 D b o t (nI m)) (pb (pSemi ib p') fun _ p'' => (.inr (S', p'') : PR SP)) fun S' t => mSP (t.2 0) S' := by
  unfold f_X9_readNamed_b66
  rw [ms_w rfl hm, Option.bind_some, hn, nI_1, mw_x rfl hm, Option.bind_some, gx_b2_id]
  exact MR.pre (mw_F.up (by simp)) (m_endS (T.w _) hb hp (by rw [mw_2]; exact H))
theorem m_readS (T : MT s ib p) (hb : ib_ok ib) (hp : p ≤ ib.length) (H : mSP (s.2 0) S) (K : sp_nc S) : MR ib [0, 7] s (f_X9_readNamed D b o s 357 0 10) (pMany ib (S.1.sn.length < 10) p fun p1 => pb (pNew ib S.1.sn p1) fun w p2 => pb (pSemi ib p2) fun _ p'' => .inr (((S.1.sn ++ [w], S.1.en, S.1.vn, S.1.ts, S.1.ini), S.2), p'')) fun S' t => mSP (t.2 0) S' := by
  unfold f_X9_readNamed
  rw [ms_w (x := 0) (k := 0) rfl (by decide), Option.bind_some, H.1.1]
  refine MR.many T hb hp (many_x K.1.1.1 (by decide)) fun hc t F T1 => ?_
  have l1 := (tS_le hp).2.2
  have e0 := F.2 0 (by simp)
  have Hn := H.sn K
  refine MR.bnd ((m_takesNew (c := 357) (m := 0) T1 hb l1 (by rw [e0]; exact Hn) (by omega)).up (by simp)) fun w p2 t2 em F2 q T2 => ?_
  have l2 := ((gO_new l1).r em).2
  rw [if_neg (by decide)]
  obtain ⟨q1, q2, q3⟩ := q
  rw [e0] at q1
  refine m_b66 (m := 0) (n := S.1.sn.length) T2 hb l2 (by decide) (by rw [q1 0 (by omega)]; exact H.1.1) (H.addS K hc (fun i h0 hi => by rw [pk_un h0]; exact q1 i hi) (by rw [pk_us]) (by rw [pk_un (by omega)]; exact q2) (fun i y hy => by rw [pk_un (by omega)]; exact q3 i y hy))
theorem m_readE (T : MT s ib p) (hb : ib_ok ib) (hp : p ≤ ib.length) (H : mSP (s.2 0) S) (K : sp_nc S) : MR ib [0, 7] s (f_X9_readNamed D b o s 427 1 8) (pMany ib (S.1.en.length < 8) p fun p1 => pb (pNew ib S.1.en p1) fun w p2 => pb (pSemi ib p2) fun _ p'' => .inr (((S.1.sn, S.1.en ++ [w], S.1.vn, S.1.ts, S.1.ini), S.2), p'')) fun S' t => mSP (t.2 0) S' := by
  unfold f_X9_readNamed
  rw [ms_w (x := 1) (k := 1) rfl (by decide), Option.bind_some, H.1.2.1]
  refine MR.many T hb hp (many_x K.1.1.2.1 (by decide)) fun hc t F T1 => ?_
  have l1 := (tS_le hp).2.2
  have e0 := F.2 0 (by simp)
  have Hn := H.en K
  refine MR.bnd ((m_takesNew (c := 427) (m := 1) T1 hb l1 (by rw [e0]; exact Hn) (by omega)).up (by simp)) fun w p2 t2 em F2 q T2 => ?_
  have l2 := ((gO_new l1).r em).2
  rw [if_neg (by decide)]
  obtain ⟨q1, q2, q3⟩ := q
  rw [e0] at q1
  refine m_b66 (m := 1) (n := S.1.en.length) T2 hb l2 (by decide) (by rw [q1 1 (by omega)]; exact H.1.2.1) (H.addE K hc (fun i h0 hi => by rw [pk_un h0]; exact q1 i hi) (by rw [pk_us]) (by rw [pk_un (by omega)]; exact q2) (fun i y hy => by rw [pk_un (by omega)]; exact q3 i y hy))
theorem m_readV (T : MT s ib p) (hb : ib_ok ib) (hp : p ≤ ib.length) (H : mSP (s.2 0) S) (K : sp_nc S) : MR ib [0, 7] s (f_X9_readNamed D b o s 483 2 3) (pMany ib (S.1.vn.length < 3) p fun p1 => pb (pNew ib S.1.vn p1) fun w p2 => pb (pNum ib p2) fun v p3 => pb (pSemi ib p3) fun _ p'' => .inr (((S.1.sn, S.1.en, S.1.vn ++ [w], S.1.ts, cf_set S.1.ini S.1.vn.length v), S.2), p'')) fun S' t => mSP (t.2 0) S' := by
  unfold f_X9_readNamed
  rw [ms_w (x := 2) (k := 2) rfl (by decide), Option.bind_some, H.1.2.2.1]
  refine MR.many T hb hp (many_x K.1.1.2.2.1 (by decide)) fun hc t F T1 => ?_
  have l1 := (tS_le hp).2.2
  have e0 := F.2 0 (by simp)
  have Hn := H.vn K
  refine MR.bnd ((m_takesNew (c := 483) (m := 2) T1 hb l1 (by rw [e0]; exact Hn) (by omega)).up (by simp)) fun w p2 t2 em F2 q T2 => ?_
  have l2 := ((gO_new l1).r em).2
  rw [if_pos rfl]
  obtain ⟨q1, q2, q3⟩ := q
  rw [e0] at q1
  refine (m_takes (k := 0) T2 hb l2 (by decide)).bn (by simp) fun v p3 t3 em3 F3 q4 T3 => ?_
  have l3 := ((gO_num l2).r em3).2
  have e3 : t3.2 0 = t2.2 0 := F3.2 0 (by simp)
  have n2 : t3.2 0 2 = nI S.1.vn.length := by rw [e3, q1 2 (by omega)]; exact H.1.2.2.1
  rw [ms_w (x := 2) (k := 2) rfl (by decide), Option.bind_some, n2, show ms_ai t3 7 0 = some (t3.2 7 0) from ms_ai_n (j := 7) (k := 0) (by decide) rfl (by decide), Option.bind_some, q4, pk_us]
  rw [show (9 : Int32) + nI S.1.vn.length = nI (9 + S.1.vn.length) from nI_add 9 _, mw_x rfl (by omega), Option.bind_some]
  refine MR.pre (mw_F.up (by simp)) (m_b66 (m := 2) (n := S.1.vn.length) (T3.w _) hb l3 (by decide) (by rw [mw_2, pk_un (by omega)]; exact n2) ?_)
  rw [mw_2]
  refine H.addV K hc (fun i h0 h1 hi => by rw [pk_un h0, pk_un h1, e3]; exact q1 i hi) (by rw [pk_us]) (by rw [pk_un (by omega), pk_un (by omega), e3]; exact q2) (fun i y hy => by rw [pk_un (by omega), pk_un (by omega), e3]; exact q3 i y hy) (by rw [pk_un (by omega), pk_us])
theorem m_b46 (KS : KM D b o) (T : MT s ib p) (hb : ib_ok ib) (hp : p ≤ ib.length) (H : mSP (s.2 0) S) (K : sp_nc S) (hl : S.2.length < 12) (i : Option Nat) (h0 : s.2 7 0 = oI i) : MR ib [0, 7] s (f_X9_readInvariant_b46 D b o s) (pb (pThree ib opW S.1.vn p) fun c p2 => pb (pSemi ib p2) fun _ p'' => .inr (((S.1, S.2 ++ [(i, c)]) : SP), p'')) fun S' t => mSP (t.2 0) S' := by
  unfold f_X9_readInvariant_b46
  refine (m_takesThree (k := 1) KS T hb hp true (H.vn K) (by decide)).bn (by simp) fun c p2 t em F q T2 => ?_
  have l2 := ((gO_three (ws := opW) hp).r em).2
  have e0 : t.2 0 = s.2 0 := F.2 0 (by simp)
  have a7 : ∀ j, j < 9 → ms_ai t 7 (nI j) = some (t.2 7 j) := fun j hj => ms_ai_n (by decide) rfl hj
  have a0 := a7 0 (by decide)
  have a1 := a7 1 (by decide)
  have a2 := a7 2 (by decide)
  have a3 := a7 3 (by decide)
  rw [show ms_ai t 7 0 = some (t.2 7 0) from a0, Option.bind_some, show ms_ai t 7 1 = some (t.2 7 1) from a1, Option.bind_some, show ms_ai t 7 2 = some (t.2 7 2) from a2, Option.bind_some, show ms_ai t 7 3 = some (t.2 7 3) from a3, Option.bind_some]
  have v0 : t.2 7 0 = oI i := by rw [q, pk_un (by decide), pk_un (by decide), pk_un (by decide)]; exact h0
  have v1 : t.2 7 1 = nI c.1 := by rw [q, pk_un (by decide), pk_un (by decide), pk_us]
  have v2 : t.2 7 2 = nI c.2.1 := by rw [q, pk_un (by decide), pk_us]
  have v3 : t.2 7 3 = nI c.2.2 := by rw [q, pk_us]
  obtain ⟨w, x, e, Hw⟩ := m_keepsS (D := D) (b := b) (o := o) (s := t) (S := S) (by rw [e0]; exact H) K hl i c
  rw [v0, v1, v2, v3, e, pl_b2_s, gx_b2_id]
  exact MR.pre (mw_F.up (by simp)) (m_endS (T2.w w) hb l2 (by rw [mw_2]; exact Hw))
theorem m_readI (KS : KM D b o) (T : MT s ib p) (hb : ib_ok ib) (hp : p ≤ ib.length) (H : mSP (s.2 0) S) (K : sp_nc S) (inside : Bool) : MR ib [0, 7] s (f_X9_readInvariant D b o s inside) (pMany ib (S.2.length < 12) p fun p1 => if inside = true then pb (pKnown ib S.1.sn p1) fun st p2 => pb (pThree ib opW S.1.vn p2) fun c p3 => pb (pSemi ib p3) fun _ p'' => .inr (((S.1, S.2 ++ [(some st, c)]) : SP), p'') else pb (pThree ib opW S.1.vn p1) fun c p2 => pb (pSemi ib p2) fun _ p'' => .inr (((S.1, S.2 ++ [(none, c)]) : SP), p'')) fun S' t => mSP (t.2 0) S' := by
  unfold f_X9_readInvariant
  rw [ms_w (x := 4) (k := 4) rfl (by decide), Option.bind_some, H.2.1.1]
  refine MR.many T hb hp (many_x K.1.1.2.2.2.2 (by decide)) fun hc t F T1 => ?_
  have l1 := (tS_le hp).2.2
  have e0 := F.2 0 (by simp)
  rw [show ms_si t 7 0 (-1) = some (ms_u t 7 0 (-1)) from ms_si_n (j := 7) (k := 0) (by decide) rfl (by decide), Option.bind_some]
  have Tu : MT (ms_u t 7 0 (-1)) ib (tN ib p) := T1.u (by decide)
  have eu : (ms_u t 7 0 (-1)).2 0 = s.2 0 := e0
  have e7 : (ms_u t 7 0 (-1)).2 7 0 = oI none := by rw [ms_u_self, pk_us]; rfl
  refine MR.pre (mfq.u (W := [0, 7]) (j := 7) (i := 0) (x := -1) (by simp)) ?_
  cases inside with
  | false =>
    rw [if_neg Bool.false_ne_true]
    show MR ib [0, 7] _ _ (if false = true then _ else pb (pThree ib opW S.1.vn (tN ib p)) fun c p2 => pb (pSemi ib p2) fun _ p'' => (.inr (((S.1, S.2 ++ [(none, c)]) : SP), p'') : PR SP)) _
    rw [if_neg Bool.false_ne_true]
    exact m_b46 KS Tu hb l1 (by rw [eu]; exact H) K hc none e7
  | true =>
    rw [if_pos rfl]
    show MR ib [0, 7] _ _ (if true = true then pb (pKnown ib S.1.sn (tN ib p)) fun st p2 => pb (pThree ib opW S.1.vn p2) fun c p3 => pb (pSemi ib p3) fun _ p'' => (.inr (((S.1, S.2 ++ [(some st, c)]) : SP), p'') : PR SP) else _) _
    rw [if_pos rfl]
    refine (m_takesKnown (k := 0) (c := 357) (m := 0) Tu hb l1 (by rw [eu]; exact H.sn K) (by decide)).bn (by simp) fun st p2 t2 em F2 q T2 => ?_
    have l2 := ((gO_known l1).r em).2
    have e2 : t2.2 0 = s.2 0 := (F2.2 0 (by simp)).trans eu
    exact m_b46 KS T2 hb l2 (by rw [e2]; exact H) K hc (some st) (by rw [q, pk_us]; rfl)
/-- a guard or an action, where the word is there -/
theorem m_readT (KS : KM D b o) (T : MT s ib p) (hb : ib_ok ib) (hp : p ≤ ib.length) (H : mSP (s.2 0) S) (K : sp_nc S) : MR ib [0, 7] s (f_X9_readTransition D b o s) (pMany ib (S.1.ts.length < 24) p fun p1 => pb (pTrans ib S.1 p1) fun t p2 => pb (pSemi ib p2) fun _ p'' => .inr (((S.1.sn, S.1.en, S.1.vn, S.1.ts ++ [t], S.1.ini), S.2), p'')) fun S' t => mSP (t.2 0) S' := by
  unfold f_X9_readTransition
  rw [ms_w (x := 3) (k := 3) rfl (by decide), Option.bind_some, H.1.2.2.2.1.1]
  refine MR.many T hb hp (many_x K.1.1.2.2.2.1 (by decide)) fun hc t F T1 => ?_
  have l1 := (tS_le hp).2.2
  have e0 := F.2 0 (by simp)
  show MR ib [0, 7] _ _ (pb (pTrans ib S.1 (tN ib p)) fun t p2 => pb (pSemi ib p2) fun _ p'' => (.inr (((S.1.sn, S.1.en, S.1.vn, S.1.ts ++ [t], S.1.ini), S.2), p'') : PR SP)) _
  unfold pTrans
  simp only [pb_assoc, pb_ret]
  refine (m_takesKnown (k := 0) (c := 357) (m := 0) T1 hb l1 (by rw [e0]; exact H.sn K) (by decide)).bn (by simp) fun st p2 t2 em2 F2 q2 T2 => ?_
  have l2 := ((gO_known l1).r em2).2
  have e2 : t2.2 0 = s.2 0 := (F2.2 0 (by simp)).trans e0
  refine (m_takesKnown (k := 1) (c := 427) (m := 1) T2 hb l2 (by rw [e2]; exact H.en K) (by decide)).bn (by simp) fun ev p3 t3 em3 F3 q3 T3 => ?_
  have l3 := ((gO_known l2).r em3).2
  have e3 : t3.2 0 = s.2 0 := (F3.2 0 (by simp)).trans e2
  rw [m_isWord T3 hb l3 (KS t3 35 (kw 15) rfl) (by decide), Option.bind_some]
  have pw : pWord ib (kw 15) p3 = if decide (tW ib p3 = kw 15) = true then .inr ((), tN ib p3) else .inl (1, tS ib p3) := by
    unfold pWord
    simp only [decide_eq_true_eq]
  rw [pw]
  refine (m_takesWord (W := [7]) (Q := fun _ t => mfq [] t3 t) T3 hb l3 _ () (fun t h => h)).bn (by simp) fun u p4 t4 em4 F4 q4 T4 => ?_
  have l4 : p4 ≤ ib.length := ((gO_word (k := kw 15) l3).r (by rw [pw]; exact em4)).2
  have e4 : t4.2 0 = s.2 0 := (F4.2 0 (by simp)).trans e3
  have f47 : t4.2 7 = t3.2 7 := q4.2 7 (by simp)
  refine (m_takesKnown (k := 2) (c := 357) (m := 0) T4 hb l4 (by rw [e4]; exact H.sn K) (by decide)).bn (by simp) fun tg p5 t5 em5 F5 q5 T5 => ?_
  have l5 := ((gO_known l4).r em5).2
  have e5 : t5.2 0 = s.2 0 := (F5.2 0 (by simp)).trans e4
  have b0 : t5.2 7 0 = nI st := by rw [q5, pk_un (by decide), f47, q3, pk_un (by decide), q2, pk_us]
  have b1 : t5.2 7 1 = nI ev := by rw [q5, pk_un (by decide), f47, q3, pk_us]
  have b2 : t5.2 7 2 = nI tg := by rw [q5, pk_us]
  have a7 : ∀ (z : MS) j, j < 9 → ms_ai z 7 (nI j) = some (z.2 7 j) := fun z j hj => ms_ai_n (by decide) rfl hj
  rw [show ms_ai t5 7 0 = some (t5.2 7 0) from a7 _ 0 (by decide), Option.bind_some, show ms_ai t5 7 1 = some (t5.2 7 1) from a7 _ 1 (by decide), Option.bind_some, show ms_ai t5 7 2 = some (t5.2 7 2) from a7 _ 2 (by decide), Option.bind_some, b0, b1, b2]
  obtain ⟨w6, e6, H6⟩ := m_leads (D := D) (b := b) (o := o) (s := t5) (S := S) (by rw [e5]; exact H) K hc st ev tg
  rw [e6, Option.bind_some]
  refine MR.pre ((mw_F (s := t5) (w := w6)).up (by simp)) ?_
  have T6 := T5.w w6
  have KF : sp_nc (S.1, S.2) := K
  -- the action and the end
  have act : ∀ (z : MS) (g : Option CP) (p6 : Nat), MT z ib p6 → p6 ≤ ib.length → mSP (z.2 0) ((S.1.sn, S.1.en, S.1.vn, S.1.ts ++ [(st, ev, tg, g, none)], S.1.ini), S.2) → MR ib [0, 7] z (f_X9_readTransition_b144 D b o z) (pb (pIf ib (kw 17) efW S.1.vn p6) fun a p7 => pb (pSemi ib p7) fun _ p'' => (.inr (((S.1.sn, S.1.en, S.1.vn, S.1.ts ++ [(st, ev, tg, g, a)], S.1.ini), S.2), p'') : PR SP)) fun S' t => mSP (t.2 0) S' := fun z g p6 Tz l6 Hz => by
    unfold f_X9_readTransition_b144 pIf
    rw [m_isWord Tz hb l6 (KS z 46 (kw 17) rfl) (by decide), Option.bind_some]
    have b195 : ∀ z, f_X9_readTransition_b195 D b o z = f_X9_takesSemicolon D b o z := fun z => gx_b2_id
    by_cases cw : tW ib p6 = kw 17
    · rw [if_pos (decide_eq_true cw), if_pos cw]
      refine MR.adv Tz hb l6 fun t8 F8 T8 _ => ?_
      have l8 := (tS_le l6).2.2
      have e8 : t8.2 0 = z.2 0 := F8.2 0 (by simp)
      have V8 : mnL (t8.2 0) 483 2 S.1.vn := ⟨by rw [e8]; exact Hz.1.2.2.2.2.2.2.1, by rw [e8]; exact Hz.1.2.2.1, by decide, by have := K.1.1.2.2.1; omega, by have := K.1.1.2.2.1; omega, K.1.2.1.2.2, K.2.2.2⟩
      simp only [pb_assoc, pb_ret]
      refine (m_takesThree (k := 6) KS T8 hb l8 false V8 (by decide)).bn (by simp) fun ac p9 t9 em9 F9 q9 T9 => ?_
      have l9 := ((gO_three (ws := efW) l8).r em9).2
      have e9 : t9.2 0 = z.2 0 := (F9.2 0 (by simp)).trans e8
      have c6 : t9.2 7 6 = nI ac.1 := by rw [q9, pk_un (by decide), pk_un (by decide), pk_us]
      have c7 : t9.2 7 7 = nI ac.2.1 := by rw [q9, pk_un (by decide), pk_us]
      have c8 : t9.2 7 8 = nI ac.2.2 := by rw [q9, pk_us]
      rw [show ms_ai t9 7 6 = some (t9.2 7 6) from a7 _ 6 (by decide), Option.bind_some, show ms_ai t9 7 7 = some (t9.2 7 7) from a7 _ 7 (by decide), Option.bind_some, show ms_ai t9 7 8 = some (t9.2 7 8) from a7 _ 8 (by decide), Option.bind_some, c6, c7, c8]
      obtain ⟨w, ew, Hw⟩ := m_acts (D := D) (b := b) (o := o) (s := t9) (F := S.1) (is := S.2) (ts := S.1.ts) (a := st) (e := ev) (t := tg) (g := g) (ac := ac) (by rw [e9]; exact Hz) KF hc
      rw [ew, Option.bind_some, b195]
      exact MR.pre (mw_F.up (by simp)) (m_endS (T9.w w) hb l9 (by rw [mw_2]; exact Hw))
    · rw [if_neg (by rw [decide_eq_false cw]; decide), if_neg cw, b195, pb_ret]
      exact m_endS Tz hb l6 Hz
  rw [m_isWord T6 hb l5 (KS _ 36 (kw 16) rfl) (by decide), Option.bind_some]
  have H6' : mSP ((mw t5 w6).2 0) ((S.1.sn, S.1.en, S.1.vn, S.1.ts ++ [(st, ev, tg, none, none)], S.1.ini), S.2) := by rw [mw_2]; exact H6
  have e16 : pIf ib (kw 16) opW S.1.vn p5 = if tW ib p5 = kw 16 then pb (pThree ib opW S.1.vn (tN ib p5)) fun v p' => .inr (some v, p') else .inr (none, p5) := rfl
  rw [e16]
  by_cases cw : tW ib p5 = kw 16
  · rw [if_pos (decide_eq_true cw), if_pos cw]
    refine MR.adv T6 hb l5 fun t8 F8 T8 _ => ?_
    have l8 := (tS_le l5).2.2
    have e8 : t8.2 0 = w6 := (F8.2 0 (by simp)).trans mw_2
    have V8 : mnL (t8.2 0) 483 2 S.1.vn := ⟨by rw [e8]; exact H6.1.2.2.2.2.2.2.1, by rw [e8]; exact H6.1.2.2.1, by decide, by have := K.1.1.2.2.1; omega, by have := K.1.1.2.2.1; omega, K.1.2.1.2.2, K.2.2.2⟩
    simp only [pb_assoc, pb_ret]
    refine (m_takesThree (k := 3) KS T8 hb l8 true V8 (by decide)).bn (by simp) fun g p9 t9 em9 F9 q9 T9 => ?_
    have l9 := ((gO_three (ws := opW) l8).r em9).2
    have e9 : t9.2 0 = w6 := (F9.2 0 (by simp)).trans e8
    have c6 : t9.2 7 3 = nI g.1 := by rw [q9, pk_un (by decide), pk_un (by decide), pk_us]
    have c7 : t9.2 7 4 = nI g.2.1 := by rw [q9, pk_un (by decide), pk_us]
    have c8 : t9.2 7 5 = nI g.2.2 := by rw [q9, pk_us]
    rw [show ms_ai t9 7 3 = some (t9.2 7 3) from a7 _ 3 (by decide), Option.bind_some, show ms_ai t9 7 4 = some (t9.2 7 4) from a7 _ 4 (by decide), Option.bind_some, show ms_ai t9 7 5 = some (t9.2 7 5) from a7 _ 5 (by decide), Option.bind_some, c6, c7, c8]
    obtain ⟨w, ew, Hw⟩ := m_guards (D := D) (b := b) (o := o) (s := t9) (F := S.1) (is := S.2) (ts := S.1.ts) (a := st) (e := ev) (t := tg) (g := g) (ac := none) (by rw [e9]; exact H6) KF hc
    rw [ew, Option.bind_some]
    exact MR.pre (mw_F.up (by simp)) (act _ (some g) p9 (T9.w w) l9 (by rw [mw_2]; exact Hw))
  · rw [if_neg (by rw [decide_eq_false cw]; decide), if_neg cw, pb_ret]
    exact act _ none p5 T6 l5 H6'
end MST
