/-! runs stay good; commands on runs -/
set_option maxRecDepth 100000
set_option linter.unusedSimpArgs false
theorem trNext_1 {t : TR} {q p : CF} (h : trNext t q = some p) : p.1 = t.2.2.1 := by
  unfold trNext at h
  split at h
  · cases h; rfl
  · rename_i a e
    cases e2 : actN a (cf_val q a.1) with
    | none => rw [e2] at h; cases h
    | some x => rw [e2] at h; cases h; rfl
theorem nxN_t {F : DF} {is : List IV} {q p : CF} {e : Nat} (hF : df_ok F) (h : nxN F.ts is q e = some p) : p.1 < F.sn.length := by
  unfold nxN at h
  split at h
  · cases h
  · split at h
    · cases h
    · rename_i t ht
      split at h
      · cases h
      · rename_i p' hp'
        split at h
        · cases h
          rw [trNext_1 hp']
          exact (hF.2.2.2.2.2.2.2.1 t (List.mem_of_getElem? ht)).2.2.1
        · cases h
theorem upd_z {f : Nat → Int32} {i m : Nat} {x : Int32} (h : ∀ k, m ≤ k → f k = 0) (hi : i < m) : ∀ k, m ≤ k → upd f i x k = 0 := fun k hk => by
  rw [pk_un (by omega)]
  exact h k hk
theorem rnFire_ok {F : DF} {R : RN} {e : Nat} (hF : df_ok F) (H : rn_ok F R) : rn_ok F (rnFire F R e) := by
  obtain ⟨h1, h2, h3, h4, h5, h6, h7, h8⟩ := H
  unfold rnFire
  split
  · rename_i q k hq hk
    have q1 := nxN_t hF hq
    refine ⟨h1, h2, nxN_ok hF.trs h3 hq, q1, upd_z h5 (chN_lt hk), upd_z h6 q1, h7, ?_⟩
    show (((e, k) :: R.tr).take 20).length ≤ 20
    rw [List.length_take]
    omega
  · rename_i hn
    refine ⟨h1, h2, h3, h4, h5, h6, ?_, h8⟩
    show upd R.rj (vdN F.ts R.iv R.cf e) (R.rj (vdN F.ts R.iv R.cf e) + 1) 0 = 0
    rw [pk_un, h7]
    intro e0
    have nn := nxN_of (F := F) (R := R) (q := R.cf) (e := e)
    rw [decide_eq_true e0.symm] at nn
    cases c : nxN F.ts R.iv R.cf e with
    | none => rw [c] at nn; cases nn
    | some q =>
      obtain ⟨t1, k, t2⟩ := toN_of c
      exact hn q k c t2
theorem cf_set_1 {q : CF} {v x : Nat} : (cf_set q v x).1 = q.1 := by
  unfold cf_set
  split <;> rfl
theorem rnSet_ok {F : DF} {R : RN} {v x : Nat} (H : rn_ok F R) (hx : x < 10) : rn_ok F (rnSet R v x) := by
  obtain ⟨h1, h2, h3, h4, h5, h6, h7, h8⟩ := H
  exact ⟨h1, h2, cf_set_ok h3 hx, by show (cf_set R.cf v x).1 < _; rw [cf_set_1]; exact h4, h5, h6, h7, h8⟩
theorem rnRst_ok {F : DF} {R : RN} (hF : df_ok F) (H : rn_ok F R) : rn_ok F (rnRst F R) := by
  obtain ⟨h1, h2, h3, h4, h5, h6, h7, h8⟩ := H
  refine ⟨h1, h2, hF.2.2.2.2.2.2.2.2.1, ?_, h5, h6, h7, Nat.zero_le _⟩
  show F.ini.1 < _
  rw [hF.2.2.2.2.2.2.2.2.2]
  exact hF.1.1
theorem rnClr_ok {F : DF} {R : RN} (H : rn_ok F R) : rn_ok F (rnClr R) := by
  obtain ⟨h1, h2, h3, h4, h5, h6, h7, h8⟩ := H
  refine ⟨h1, h2, h3, h4, fun _ _ => rfl, fun k hk => ?_, rfl, Nat.zero_le _⟩
  show (if k = R.cf.1 then (1 : Int32) else 0) = 0
  rw [if_neg (by omega)]
theorem rnAdd_ok {F : DF} {R : RN} {i : IV} (H : rn_ok F R) (hl : R.iv.length < 12) (hi : iv_ok i) : rn_ok F (rnAdd R i) := by
  obtain ⟨h1, h2, h3, h4, h5, h6, h7, h8⟩ := H
  refine ⟨by show (R.iv ++ [i]).length ≤ 12; rw [List.length_append, List.length_singleton]; omega, fun j hj => ?_, h3, h4, h5, h6, h7, h8⟩
  rcases List.mem_append.1 hj with hj | hj
  · exact h2 j hj
  · rw [List.mem_singleton] at hj; rw [hj]; exact hi
theorem sp_df {S : SP} (H : sp_ok S) (h : ¬ (S.1.sn.length = 0 ∨ S.1.en.length = 0 ∨ S.1.vn.length = 0)) : df_ok S.1 := by
  obtain ⟨⟨l1, l2, l3, l4, l5⟩, ⟨n1, n2, n3⟩, ts, ⟨i1, i2, i3⟩, is⟩ := H
  simp only [not_or] at h
  exact ⟨⟨by omega, l1⟩, ⟨by omega, l2⟩, ⟨by omega, l3⟩, l4, n1, n2, n3, ts, i1, i2⟩
theorem rnNew_ok {S : SP} (H : sp_ok S) (hF : df_ok S.1) : rn_ok S.1 (rnNew S) := by
  refine ⟨H.1.2.2.2.2, H.2.2.2.2, H.2.2.2.1.1, ?_, fun _ _ => rfl, fun k hk => ?_, rfl, Nat.zero_le _⟩
  · show S.1.ini.1 < _
    rw [H.2.2.2.1.2.1]
    exact hF.1.1
  · show (if k = S.1.ini.1 then (1 : Int32) else 0) = 0
    rw [H.2.2.2.1.2.1, if_neg (by have := hF.1.1; omega)]
theorem pSetup_ok {ib : List Nat} {S : SP} (h : pSetup ib = .inr S) : ∃ p, pLoop ib 1000 S0 0 = .inr (S, p) ∧ ¬ (S.1.sn.length = 0 ∨ S.1.en.length = 0 ∨ S.1.vn.length = 0) ∧ brk S.2 S.1.ini = none := by
  unfold pSetup at h
  cases e : pLoop ib 1000 S0 0 with
  | inl x => rw [e] at h; cases h
  | inr v =>
    obtain ⟨S', p⟩ := v
    rw [e] at h
    simp only at h
    split at h
    · cases h
    · rename_i c
      split at h
      · cases h
      · rename_i c2
        cases h
        refine ⟨p, rfl, c, ?_⟩
        cases hb : brk S.2 S.1.ini with
        | none => rfl
        | some k => rw [hb] at c2; exact absurd rfl c2
theorem hsN_ok {F : DF} {hs : List RN} {R : RN} (H : ∀ R, R ∈ hs → rn_ok F R) (hR : rn_ok F R) (hl : hs.length ≤ 8) : (∀ Q, Q ∈ hsN hs R → rn_ok F Q) ∧ (hsN hs R).length ≤ 8 := by
  unfold hsN
  constructor
  · intro Q hQ
    rcases List.mem_append.1 hQ with hQ | hQ
    · split at hQ
      · exact H Q (List.mem_of_mem_tail hQ)
      · exact H Q hQ
    · rw [List.mem_singleton] at hQ
      rw [hQ]
      exact hR
  · rw [List.length_append, List.length_singleton]
    split
    · rw [List.length_tail]; omega
    · omega
/-- the state behind a change of the run -/
theorem a_ok.ch {A : AT} {R : RN} (H : a_ok A) (hR : rn_ok A.1 R) : a_ok (A.1, R, A.2.2.1, hsN A.2.2.2.1 A.2.1, A.2.2.2.2) := by
  obtain ⟨h1, h2, h3, h4, h5, h6, h7⟩ := H
  obtain ⟨k1, k2⟩ := hsN_ok h4 h2 h5
  exact ⟨h1, hR, h3, k1, k2, h6, h7⟩
/-- what a command does -/
def doC (F : DF) (R : RN) (c : CMD) : Option RN := match c.1 with
  | 1 => some (rnFire F R c.2.1)
  | 2 => if (brk R.iv (cf_set R.cf c.2.1 c.2.2)).isNone = true then some (rnSet R c.2.1 c.2.2) else none
  | 3 => some (rnRst F R)
  | _ => some (rnClr R)
def runC (F : DF) : List CMD → RN → Nat × RN
  | [], R => (0, R)
  | c :: cs, R => match doC F R c with
    | none => (0, R)
    | some R' => ((runC F cs R').1 + 1, (runC F cs R').2)
def cmd_ok (F : DF) (c : CMD) : Prop := (c.1 = 1 ∧ c.2.1 < F.en.length) ∨ (c.1 = 2 ∧ c.2.1 < F.vn.length ∧ c.2.2 < 10) ∨ c.1 = 3 ∨ c.1 = 4
theorem doC_ok {F : DF} {R R' : RN} {c : CMD} (hF : df_ok F) (H : rn_ok F R) (hc : cmd_ok F c) (h : doC F R c = some R') : rn_ok F R' := by
  obtain ⟨k, u, v⟩ := c
  rcases hc with ⟨rfl, h1⟩ | ⟨rfl, h1, h2⟩ | rfl | rfl
  · cases h; exact rnFire_ok hF H
  · unfold doC at h
    simp only at h
    split at h
    · cases h; exact rnSet_ok H h2
    · cases h
  · cases h; exact rnRst_ok hF H
  · cases h; exact rnClr_ok H
theorem runC_ok {F : DF} (hF : df_ok F) : ∀ (cs : List CMD) (R : RN), rn_ok F R → (∀ c, c ∈ cs → cmd_ok F c) → rn_ok F (runC F cs R).2
  | [], R, H, _ => H
  | c :: cs, R, H, hc => by
    unfold runC
    cases e : doC F R c with
    | none => exact H
    | some R' => exact runC_ok hF cs R' (doC_ok hF H (hc c (by simp)) e) (fun d hd => hc d (by simp [hd]))
section PC
variable {ib : List Nat} {p p' : Nat} {F : DF}
theorem pCmd_i {w : List Nat} {c : CMD} (h : pCmd ib F p w = .inr (c, p')) : cmd_ok F c := by
  unfold pCmd at h
  split at h
  · obtain ⟨e, p1, h1, h⟩ := pb_r h
    cases h
    exact Or.inl ⟨rfl, pKnown_i h1⟩
  split at h
  · obtain ⟨v, p1, h1, h⟩ := pb_r h
    obtain ⟨c, p2, h2, h⟩ := pb_r h
    cases h
    have := pNum_i h2
    exact Or.inr (Or.inl ⟨rfl, pKnown_i h1, by show c < 10; omega⟩)
  split at h
  · cases h; exact Or.inr (Or.inr (Or.inl rfl))
  · cases h; exact Or.inr (Or.inr (Or.inr rfl))
def cmds_ok (F : DF) (cs : List CMD) : Prop := cs.length ≤ 30 ∧ ∀ c, c ∈ cs → cmd_ok F c
theorem pOne_i {cs cs' : List CMD} (hc : cmds_ok F cs) (h : pOne ib F cs p = .inr (cs', p')) : cmds_ok F cs' := by
  unfold pOne at h
  split at h
  · obtain ⟨c, h⟩ := pMany_i h
    obtain ⟨d, p1, h1, h⟩ := pb_r h
    obtain ⟨u, p2, h2, h⟩ := pb_r h
    cases h
    refine ⟨by rw [List.length_append, List.length_singleton]; omega, fun x hx => ?_⟩
    rcases List.mem_append.1 hx with hx | hx
    · exact hc.2 x hx
    · rw [List.mem_singleton] at hx
      rw [hx]
      exact pCmd_i h1
  · cases h
theorem isC_l {w : List Nat} (h : isC w = true) : 3 ≤ w.length := by
  unfold isC at h
  simp only [Bool.or_eq_true, decide_eq_true_eq] at h
  rcases h with ((h | h) | h) | h <;> rw [h] <;> decide
theorem gO_one4 {cs : List CMD} (hp : p ≤ ib.length) : gO ib (p + 4) (pOne ib F cs p) := by
  by_cases k3 : tK ib p = 3
  · have t0 : tW ib p = [] := (adv_ok hp).2.2.2.2.2.2.2.1 (show tK ib p ≠ 0 by rw [k3]; decide)
    unfold pOne
    rw [t0, if_neg (by decide)]
    exact gO_e hp (by decide)
  · refine (gO_one hp k3).up1 fun v p' e => ?_
    unfold pOne at e
    split at e
    · rename_i c
      obtain ⟨_, e⟩ := pMany_i e
      obtain ⟨d, p1, h1, e⟩ := pb_r e
      obtain ⟨u, p2, h2, e⟩ := pb_r e
      cases e
      have a := tW_gt hp (isC_l c) (by decide)
      have b := (gO_cmd (tS_le hp).2.2).r h1
      have c := (gO_semi1 b.2).r h2
      omega
    · cases e
end PC
