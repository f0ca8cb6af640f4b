/-! both parsers on lists: an error (code, offset), or a value and where the next token begins -/
set_option maxRecDepth 100000
abbrev PR (α : Type) : Type := (Nat × Nat) ⊕ (α × Nat)
def pb {α β : Type} (m : PR α) (k : α → Nat → PR β) : PR β := match m with
  | .inl e => .inl e
  | .inr v => k v.1 v.2
abbrev tS (ib : List Nat) (p : Nat) : Nat := (adv ib p).1
abbrev tN (ib : List Nat) (p : Nat) : Nat := (adv ib p).2.1
abbrev tV (ib : List Nat) (p : Nat) : Nat := (adv ib p).2.2.1
abbrev tK (ib : List Nat) (p : Nat) : Nat := (adv ib p).2.2.2.1
abbrev tW (ib : List Nat) (p : Nat) : List Nat := (adv ib p).2.2.2.2
def idx (xs : List (List Nat)) (w : List Nat) : Option Nat := xs.findIdx? fun x => decide (x = w)
def pName (ib : List Nat) (p : Nat) : PR (List Nat) := if 1 ≤ (tW ib p).length ∧ (tW ib p).length ≤ 6 then .inr (tW ib p, p) else .inl (1, tS ib p)
def pKnown (ib : List Nat) (xs : List (List Nat)) (p : Nat) : PR Nat := pb (pName ib p) fun w _ => match idx xs w with
  | none => .inl (4, tS ib p)
  | some k => .inr (k, tN ib p)
def pNew (ib : List Nat) (xs : List (List Nat)) (p : Nat) : PR (List Nat) := pb (pName ib p) fun w _ => match idx xs w with
  | none => .inr (w, tN ib p)
  | some _ => .inl (3, tS ib p)
def pNum (ib : List Nat) (p : Nat) : PR Nat := if tK ib p = 1 then (if tV ib p ≤ 9 then .inr (tV ib p, tN ib p) else .inl (2, tS ib p)) else .inl (1, tS ib p)
def pWord (ib kw : List Nat) (p : Nat) : PR Unit := if tW ib p = kw then .inr ((), tN ib p) else .inl (1, tS ib p)
def pSemi (ib : List Nat) (p : Nat) : PR Unit := if tK ib p = 2 then .inr ((), tN ib p) else .inl (1, tS ib p)
def kw (i : Nat) : List Nat := kcs.getD i []
/-- below, atmost, equals, differs, atleast, above -/
def opW : List (List Nat) := [kw 28, kw 27, kw 29, kw 30, kw 26, kw 25]
def efW : List (List Nat) := [kw 18, kw 19, kw 20]
def pOf (ib : List Nat) (ws : List (List Nat)) (p : Nat) : PR Nat := match idx ws (tW ib p) with
  | none => .inl (1, tS ib p)
  | some k => .inr (k, tN ib p)
def pThree (ib : List Nat) (ws : List (List Nat)) (vn : List (List Nat)) (p : Nat) : PR (Nat × Nat × Nat) := pb (pKnown ib vn p) fun v p1 => pb (pOf ib ws p1) fun o p2 => pb (pNum ib p2) fun c p3 => .inr ((v, o, c), p3)
def pIf (ib : List Nat) (k : List Nat) (ws : List (List Nat)) (vn : List (List Nat)) (p : Nat) : PR (Option (Nat × Nat × Nat)) := if tW ib p = k then pb (pThree ib ws vn (tN ib p)) fun v p' => .inr (some v, p') else .inr (none, p)
def pTrans (ib : List Nat) (F : DF) (p : Nat) : PR TR := pb (pKnown ib F.sn p) fun s p1 => pb (pKnown ib F.en p1) fun e p2 => pb (pWord ib (kw 15) p2) fun _ p3 => pb (pKnown ib F.sn p3) fun t p4 => pb (pIf ib (kw 16) opW F.vn p4) fun g p5 => pb (pIf ib (kw 17) efW F.vn p5) fun a p6 => .inr ((s, e, t, g, a), p6)
abbrev SP : Type := DF × List IV
def pMany (ib : List Nat) {α : Type} (c : Prop) [Decidable c] (p : Nat) (k : Nat → PR α) : PR α := if c then k (tN ib p) else .inl (5, tS ib p)
/-- a statement, less its semicolon -/
def pStm (ib : List Nat) (S : SP) (p : Nat) : PR SP :=
  if tW ib p = kw 9 then pMany ib (S.1.sn.length < 10) p fun p1 => pb (pNew ib S.1.sn p1) fun w p2 => .inr (((S.1.sn ++ [w], S.1.en, S.1.vn, S.1.ts, S.1.ini), S.2), p2)
  else if tW ib p = kw 10 then pMany ib (S.1.en.length < 8) p fun p1 => pb (pNew ib S.1.en p1) fun w p2 => .inr (((S.1.sn, S.1.en ++ [w], S.1.vn, S.1.ts, S.1.ini), S.2), p2)
  else if tW ib p = kw 11 then pMany ib (S.1.vn.length < 3) p fun p1 => pb (pNew ib S.1.vn p1) fun w p2 => pb (pNum ib p2) fun v p3 => .inr (((S.1.sn, S.1.en, S.1.vn ++ [w], S.1.ts, cf_set S.1.ini S.1.vn.length v), S.2), p3)
  else if tW ib p = kw 12 then pMany ib (S.1.ts.length < 24) p fun p1 => pb (pTrans ib S.1 p1) fun t p2 => .inr (((S.1.sn, S.1.en, S.1.vn, S.1.ts ++ [t], S.1.ini), S.2), p2)
  else if tW ib p = kw 13 then pMany ib (S.2.length < 12) p fun p1 => pb (pThree ib opW S.1.vn p1) fun c p2 => .inr ((S.1, S.2 ++ [(none, c)]), p2)
  else if tW ib p = kw 14 then pMany ib (S.2.length < 12) p fun p1 => pb (pKnown ib S.1.sn p1) fun s p2 => pb (pThree ib opW S.1.vn p2) fun c p3 => .inr ((S.1, S.2 ++ [(some s, c)]), p3)
  else .inl (1, tS ib p)
def pStmt (ib : List Nat) (S : SP) (p : Nat) : PR SP := pb (pStm ib S p) fun S' p' => pb (pSemi ib p') fun _ p'' => .inr (S', p'')
def pLoop (ib : List Nat) : Nat → SP → Nat → PR SP
  | 0, _, _ => .inl (1, 0)
  | n + 1, S, p => if tK ib p = 3 then .inr (S, p) else pb (pStmt ib S p) fun S' p' => pLoop ib n S' p'
def S0 : SP := (([], [], [], [], (0, 0, 0, 0)), [])
/-- a setup: an error, or the machine -/
def pSetup (ib : List Nat) : (Nat × Nat) ⊕ SP := match pLoop ib 1000 S0 0 with
  | .inl e => .inl e
  | .inr (S, p) => if S.1.sn.length = 0 ∨ S.1.en.length = 0 ∨ S.1.vn.length = 0 then .inl (6, tS ib p) else if (brk S.2 S.1.ini).isSome = true then .inl (7, tS ib p) else .inr S
/-- commands: fire, set, reset, clear -/
abbrev CMD : Type := Nat × Nat × Nat
def pCmd (ib : List Nat) (F : DF) (p : Nat) (w : List Nat) : PR CMD :=
  if w = kw 21 then pb (pKnown ib F.en p) fun e p1 => .inr ((1, e, 0), p1)
  else if w = kw 22 then pb (pKnown ib F.vn p) fun v p1 => pb (pNum ib p1) fun c p2 => .inr ((2, v, c), p2)
  else if w = kw 23 then .inr ((3, 0, 0), p)
  else .inr ((4, 0, 0), p)
def isC (w : List Nat) : Bool := decide (w = kw 21) || decide (w = kw 22) || decide (w = kw 23) || decide (w = kw 24)
def pOne (ib : List Nat) (F : DF) (cs : List CMD) (p : Nat) : PR (List CMD) := if isC (tW ib p) = true then pMany ib (cs.length < 30) p fun p1 => pb (pCmd ib F p1 (tW ib p)) fun c p2 => pb (pSemi ib p2) fun _ p3 => .inr (cs ++ [c], p3) else .inl (1, tS ib p)
def pScr (ib : List Nat) (F : DF) : Nat → List CMD → Nat → PR (List CMD)
  | 0, _, _ => .inl (1, 0)
  | n + 1, cs, p => if tK ib p = 3 then .inr (cs, p) else pb (pOne ib F cs p) fun cs' p' => pScr ib F n cs' p'
/-- where a parse goes on, and that errors have a code -/
def gO {α : Type} (ib : List Nat) (q : Nat) (m : PR α) : Prop := match m with
  | .inl e => 1 ≤ e.1 ∧ e.1 ≤ 7 ∧ e.2 ≤ ib.length
  | .inr v => q ≤ v.2 ∧ v.2 ≤ ib.length
theorem gO.bnd {α β : Type} {ib : List Nat} {q : Nat} {m : PR α} {k : α → Nat → PR β} (H : gO ib q m) (hk : ∀ v p, q ≤ p → p ≤ ib.length → m = .inr (v, p) → gO ib p (k v p)) : gO ib q (pb m k) := by
  cases m with
  | inl e => exact H
  | inr v =>
    obtain ⟨v, p⟩ := v
    have h2 := hk v p H.1 H.2 rfl
    show gO ib q (k v p)
    cases e : k v p with
    | inl e' => rw [e] at h2; exact h2
    | inr u => rw [e] at h2; exact ⟨Nat.le_trans H.1 h2.1, h2.2⟩
theorem gO.dn {α : Type} {ib : List Nat} {q q' : Nat} {m : PR α} (H : gO ib q m) (h : q' ≤ q) : gO ib q' m := by
  cases m with
  | inl e => exact H
  | inr v => exact ⟨Nat.le_trans h H.1, H.2⟩
section GO
variable {ib : List Nat} {p : Nat}
theorem tS_le (hp : p ≤ ib.length) : p ≤ tS ib p ∧ tS ib p ≤ tN ib p ∧ tN ib p ≤ ib.length := by
  have h := adv_ok hp
  exact ⟨h.1, h.2.1, h.2.2.1⟩
theorem tN_gt (hp : p ≤ ib.length) (hk : tK ib p ≠ 3) : p < tN ib p := by
  have h := adv_ok hp
  have := h.2.2.2.2.1 hk
  have := h.1
  show p < (adv ib p).2.1
  omega
theorem tW_0 (hp : p ≤ ib.length) (hw : tW ib p ≠ []) : tK ib p = 0 := by
  have h := adv_ok hp
  by_cases c : tK ib p = 0
  · exact c
  · exact absurd (h.2.2.2.2.2.2.2.1 c) hw
theorem gO_e {α : Type} (hp : p ≤ ib.length) {q c : Nat} (hc : 1 ≤ c ∧ c ≤ 7) : gO ib q (.inl (c, tS ib p) : PR α) := ⟨hc.1, hc.2, by have := tS_le hp; show tS ib p ≤ _; omega⟩
theorem gO_n {α : Type} (hp : p ≤ ib.length) (v : α) : gO ib p (.inr (v, tN ib p) : PR α) := ⟨by have := tS_le hp; show p ≤ tN ib p; omega, (tS_le hp).2.2⟩
theorem gO_name (hp : p ≤ ib.length) : gO ib p (pName ib p) := by
  unfold pName
  split
  · exact ⟨Nat.le_refl _, hp⟩
  · exact gO_e hp (by decide)
theorem pName_q {w : List Nat} {q : Nat} (h3 : pName ib p = .inr (w, q)) : q = p ∧ w = tW ib p ∧ 1 ≤ w.length ∧ w.length ≤ 6 := by
  unfold pName at h3
  split at h3
  · rename_i c
    cases h3; exact ⟨rfl, rfl, c.1, c.2⟩
  · cases h3
theorem gO_known {xs : List (List Nat)} (hp : p ≤ ib.length) : gO ib p (pKnown ib xs p) := by
  unfold pKnown
  refine (gO_name hp).bnd fun w q _ _ h3 => ?_
  split
  · exact gO_e hp (by decide)
  · rw [(pName_q h3).1]
    exact gO_n hp _
theorem gO_new {xs : List (List Nat)} (hp : p ≤ ib.length) : gO ib p (pNew ib xs p) := by
  unfold pNew
  refine (gO_name hp).bnd fun w q _ _ h3 => ?_
  split
  · rw [(pName_q h3).1]
    exact gO_n hp _
  · exact gO_e hp (by decide)
theorem gO_num (hp : p ≤ ib.length) : gO ib p (pNum ib p) := by
  unfold pNum
  split
  · split
    · exact gO_n hp _
    · exact gO_e hp (by decide)
  · exact gO_e hp (by decide)
theorem gO_word {k : List Nat} (hp : p ≤ ib.length) : gO ib p (pWord ib k p) := by
  unfold pWord
  split
  · exact gO_n hp _
  · exact gO_e hp (by decide)
theorem gO_semi (hp : p ≤ ib.length) : gO ib p (pSemi ib p) := by
  unfold pSemi
  split
  · exact gO_n hp _
  · exact gO_e hp (by decide)
theorem gO_of {ws : List (List Nat)} (hp : p ≤ ib.length) : gO ib p (pOf ib ws p) := by
  unfold pOf
  split
  · exact gO_e hp (by decide)
  · exact gO_n hp _
theorem gO_three {ws vn : List (List Nat)} (hp : p ≤ ib.length) : gO ib p (pThree ib ws vn p) := by
  unfold pThree
  exact (gO_known hp).bnd fun v p1 _ l1 _ => (gO_of l1).bnd fun o p2 _ l2 _ => (gO_num l2).bnd fun c p3 _ l3 _ => ⟨Nat.le_refl _, l3⟩
theorem gO_if {k : List Nat} {ws vn : List (List Nat)} (hp : p ≤ ib.length) : gO ib p (pIf ib k ws vn p) := by
  have t := tS_le hp
  unfold pIf
  split
  · refine gO.dn (q := tN ib p) ?_ (Nat.le_trans t.1 t.2.1)
    exact (gO_three t.2.2).bnd fun v p3 _ l3 _ => ⟨Nat.le_refl _, l3⟩
  · exact ⟨Nat.le_refl _, hp⟩
theorem gO_trans {F : DF} (hp : p ≤ ib.length) : gO ib p (pTrans ib F p) := by
  unfold pTrans
  exact (gO_known hp).bnd fun _ p1 _ l1 _ => (gO_known l1).bnd fun _ p2 _ l2 _ => (gO_word l2).bnd fun _ p3 _ l3 _ => (gO_known l3).bnd fun _ p4 _ l4 _ => (gO_if l4).bnd fun _ p5 _ l5 _ => (gO_if l5).bnd fun _ p6 _ l6 _ => ⟨Nat.le_refl _, l6⟩
theorem gO_many {α : Type} {c : Prop} [Decidable c] {k : Nat → PR α} (hp : p ≤ ib.length) (hk : tK ib p ≠ 3) (H : ∀ q, q ≤ ib.length → gO ib q (k q)) : gO ib (p + 1) (pMany ib c p k) := by
  unfold pMany
  split
  · exact (H _ (tS_le hp).2.2).dn (tN_gt hp hk)
  · exact gO_e hp (by decide)
theorem gO_stm {S : SP} (hp : p ≤ ib.length) (hk : tK ib p ≠ 3) : gO ib (p + 1) (pStm ib S p) := by
  unfold pStm
  split
  · exact gO_many hp hk fun q l => (gO_new l).bnd fun _ _ _ l1 _ => ⟨Nat.le_refl _, l1⟩
  split
  · exact gO_many hp hk fun q l => (gO_new l).bnd fun _ _ _ l1 _ => ⟨Nat.le_refl _, l1⟩
  split
  · exact gO_many hp hk fun q l => (gO_new l).bnd fun _ _ _ l1 _ => (gO_num l1).bnd fun _ _ _ l2 _ => ⟨Nat.le_refl _, l2⟩
  split
  · exact gO_many hp hk fun q l => (gO_trans l).bnd fun _ _ _ l1 _ => ⟨Nat.le_refl _, l1⟩
  split
  · exact gO_many hp hk fun q l => (gO_three l).bnd fun _ _ _ l1 _ => ⟨Nat.le_refl _, l1⟩
  split
  · exact gO_many hp hk fun q l => (gO_known l).bnd fun _ _ _ l1 _ => (gO_three l1).bnd fun _ _ _ l2 _ => ⟨Nat.le_refl _, l2⟩
  · exact gO_e hp (by decide)
theorem gO_stmt {S : SP} (hp : p ≤ ib.length) (hk : tK ib p ≠ 3) : gO ib (p + 1) (pStmt ib S p) := by
  unfold pStmt
  exact (gO_stm hp hk).bnd fun _ _ _ l1 _ => (gO_semi l1).bnd fun _ _ _ l2 _ => ⟨Nat.le_refl _, l2⟩
theorem gO_cmd {F : DF} {w : List Nat} (hp : p ≤ ib.length) : gO ib p (pCmd ib F p w) := by
  unfold pCmd
  split
  · exact (gO_known hp).bnd fun _ _ _ l1 _ => ⟨Nat.le_refl _, l1⟩
  split
  · exact (gO_known hp).bnd fun _ _ _ l1 _ => (gO_num l1).bnd fun _ _ _ l2 _ => ⟨Nat.le_refl _, l2⟩
  split
  · exact ⟨Nat.le_refl _, hp⟩
  · exact ⟨Nat.le_refl _, hp⟩
theorem gO_one {F : DF} {cs : List CMD} (hp : p ≤ ib.length) (hk : tK ib p ≠ 3) : gO ib (p + 1) (pOne ib F cs p) := by
  unfold pOne
  split
  · exact gO_many hp hk fun q l => (gO_cmd l).bnd fun _ _ _ l1 _ => (gO_semi l1).bnd fun _ _ _ l2 _ => ⟨Nat.le_refl _, l2⟩
  · exact gO_e hp (by decide)
end GO
