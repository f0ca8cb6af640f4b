/-! rows that write the abstract heap, make cells, read statics; returns -/
set_option maxRecDepth 100000
def hx_okc (h : HX) (a : Nat) (t n : Nat) (f : Nat → Int32) : Prop := ∃ b, h.2.2 a = some (b, .inl (t, n, .inl f))
/-- System.arraycopy between two int arrays or two byte arrays -/
def hx_cpy (h : HX) (a0 : Nat) (sp : Int32) (a : Nat) (dp n : Int32) : Option HX := match h.2.2 a0, h.2.2 a with
  | some (_, .inl (t0, n0, .inl f)), some (true, .inl (t1, n1, .inl g)) => if t0 = t1 ∧ t0 ≤ 1 ∧ 0 ≤ sp ∧ 0 ≤ dp ∧ 0 ≤ n ∧ sp.toNatClampNeg + n.toNatClampNeg ≤ n0 ∧ dp.toNatClampNeg + n.toNatClampNeg ≤ n1 ∧ (t0 = 1 → ∀ i, i < n.toNatClampNeg → fits .byte (.int (f (sp.toNatClampNeg + i))) = true) then some (hx_set h a (.inl (t1, n1, .inl (va_cpy f g sp.toNatClampNeg dp.toNatClampNeg n.toNatClampNeg)))) else none
  | _, _ => none
/-- the clone of an array of references -/
def hx_clone (h : HX) (a t : Nat) : Option (Nat × HX) := match h.2.2 a with
  | some (_, .inl (t', n, .inr (.inr (.inr (.inr f))))) => if t' = t ∧ 4 ≤ t then some (h.1, hx_push h n (.inl (t, n, .inr (.inr (.inr (.inr f)))))) else none
  | _ => none
theorem gx_narrow_r {ty : FieldType} (h : ty.isReference = true) (r : Option Nat) : narrow ty (va_rf r) = va_rf r ∧ fits ty (va_rf r) = true := by
  cases ty <;> first | (exfalso; revert h; decide) | (cases r <;> exact ⟨rfl, rfl⟩)
section GXP
variable {p : Program} {l : Launch} {e : Env} {R : Room} {s : State} {m : MethodId} {args : Array Value} {below : List Frame} {meth : Method} {c : Code} {Q : State → Prop}
variable {own : String} {cc : ByteArray} {nL : Nat} {rt : Option FieldType} {fr lo : Nat} {D : gx_D} {h0 hz h h1 : HX} {pc : Nat} {L : List (Nat × Value)} {st : List Value}
theorem gx_putv (C : gx_Ctx p R s m args meth c own cc nL rt fr lo D h0 hz) {a k i : Nat} {cis : List Nat} {v : Value} {ow nm ds : String} (hg : hx_pv h a cis k v = some h1) (hf : gx_fld cis k ow nm ds false = true) {ty : FieldType} (hd : parseFieldDescriptor ds = some ty) (hn : narrow ty v = v) (hfit : fits ty v = true) (hq : Cond.fieldLink own i ow nm ds ∈ lw_all) (d : decode cc pc = .ok (.putfield i, 3))
    (k1 : gx_G p l e R s m args below meth c D h0 hz nL Q (pc + 3) L st h1) : gx_G p l e R s m args below meth c D h0 hz nL Q pc L (v :: va_rf (some a) :: st) h := by
  obtain ⟨c1, fs, hM, hci, hkl, rfl⟩ := hx_pv_of hg
  obtain ⟨q, hq1, hk, hT⟩ := gx_fld_of hf hci
  refine ⟨(gx_le.set hM (fun ci fs' e => by cases e; exact ⟨_, rfl⟩)).tr k1.1, fun H locs ls hl hc => ?_⟩
  obtain ⟨r, hr, hlen, cell, q1, q2, q3, q4⟩ := hc.1.2 a _ _ hM
  cases hq1.symm.trans hr
  have hap := gx_apart C.hts C.K hq1
  obtain ⟨hS, hfc, kC, hkC, hkind⟩ := C.K.1 c1 q hq1
  obtain ⟨cf, kf, fi, f, hi, hsl⟩ := hS k hk
  have hlay := C.hts _ (gx_cl_in c1 q hq1 _ (u_in_lay hk))
  have hst := (u_facts hfc hkC (u_lays C.hts (gx_cl_in c1 q hq1) hk) hi).1
  unfold u_lay at hlay
  rw [hT] at hi hlay
  rw [if_neg (by simp)] at hlay
  have h6 := u_store hfc hkC hkind hlay hi hd hn hfit
  refine W.putK C.exec C.bytes (f := f) ⟨C.hown, C.hts _ hq, ⟨_, _, _, hi⟩, hst⟩ (by rw [q2]; exact h6) q1 q3 (by rw [hsl]; exact k2_hasslot (q4 k hk)) rfl rfl d fun H' e1 e2 e3 => ?_
  rw [hsl] at e1 ⊢
  exact k1.2 H' _ ls hl (hc.put hM ⟨q, hq1, by simp [hlen], t_OB.to (V := updV (vp_V fs) k v) ⟨_, e1, q2, q3, t_set q4 hap hk v⟩ (fun j _ => vp_updV_set hkl v j)⟩ (fun ci fs' e => by cases e; exact ⟨_, rfl⟩) e2 e3)
theorem gx_putvF (C : gx_Ctx p R s m args meth c own cc nL rt fr lo D h0 hz) (hin2 : meth.name = "<init>") {a k i : Nat} {cis : List Nat} {v : Value} {nm ds : String} (hg : hx_pv h a cis k v = some h1) (hf : gx_fld cis k own nm ds true = true) {ty : FieldType} (hd : parseFieldDescriptor ds = some ty) (hn : narrow ty v = v) (hfit : fits ty v = true) (hq : Cond.fieldLink own i own nm ds ∈ lw_all) (d : decode cc pc = .ok (.putfield i, 3))
    (k1 : gx_G p l e R s m args below meth c D h0 hz nL Q (pc + 3) L st h1) : gx_G p l e R s m args below meth c D h0 hz nL Q pc L (v :: va_rf (some a) :: st) h := by
  obtain ⟨c1, fs, hM, hci, hkl, rfl⟩ := hx_pv_of hg
  obtain ⟨q, hq1, hk, hT⟩ := gx_fld_of hf hci
  refine ⟨(gx_le.set hM (fun ci fs' e => by cases e; exact ⟨_, rfl⟩)).tr k1.1, fun H locs ls hl hc => ?_⟩
  obtain ⟨r, hr, hlen, cell, q1, q2, q3, q4⟩ := hc.1.2 a _ _ hM
  cases hq1.symm.trans hr
  have hap := gx_apart C.hts C.K hq1
  obtain ⟨hS, hfc, kC, hkC, hkind⟩ := C.K.1 c1 q hq1
  obtain ⟨cf, kf, fi, f, hi, hsl⟩ := hS k hk
  have hlay := C.hts _ (gx_cl_in c1 q hq1 _ (u_in_lay hk))
  have hst := (u_facts hfc hkC (u_lays C.hts (gx_cl_in c1 q hq1) hk) hi).1
  unfold u_lay at hlay
  rw [hT] at hi hlay
  rw [if_pos rfl] at hlay
  have hcf : m.cls = cf := by
    obtain ⟨_, _, c', _, _, _, -, -, hf', -, -, -, hown2, -⟩ := Cond.laysFinal_spec hlay
    have e1 : c' = cf := by have := hi.symm.trans hf'; simp at this; exact this.1.symm
    rw [← e1]; exact Option.some.inj (C.hown.symm.trans hown2)
  have h6 := u_fits hfc hkC hkind (Or.inr hlay) hi hd hn hfit
  refine W.putFinK C.exec C.bytes C.hown (C.hts _ hq) hi hst hcf hin2 (by rw [q2]; exact h6) q1 q3 (by rw [hsl]; exact k2_hasslot (q4 k hk)) rfl rfl d fun H' e1 e2 e3 => ?_
  rw [hsl] at e1 ⊢
  exact k1.2 H' _ ls hl (hc.put hM ⟨q, hq1, by simp [hlen], t_OB.to (V := updV (vp_V fs) k v) ⟨_, e1, q2, q3, t_set q4 hap hk v⟩ (fun j _ => vp_updV_set hkl v j)⟩ (fun ci fs' e => by cases e; exact ⟨_, rfl⟩) e2 e3)
theorem gx_putvN (C : gx_Ctx p R s m args meth c own cc nL rt fr lo D h0 hz) {a k i : Nat} {cis : List Nat} {v : Value} {ow nm ds host : String} (hg : hx_pv h a cis k v = some h1) (hf : gx_fld cis k ow nm ds false = true) {ty : FieldType} (hd : parseFieldDescriptor ds = some ty) (hn : narrow ty v = v) (hfit : fits ty v = true) (hq : Cond.fieldLinkNest own i ow nm ds host ∈ lw_tbl) (d : decode cc pc = .ok (.putfield i, 3))
    (k1 : gx_G p l e R s m args below meth c D h0 hz nL Q (pc + 3) L st h1) : gx_G p l e R s m args below meth c D h0 hz nL Q pc L (v :: va_rf (some a) :: st) h := by
  obtain ⟨c1, fs, hM, hci, hkl, rfl⟩ := hx_pv_of hg
  obtain ⟨q, hq1, hk, hT⟩ := gx_fld_of hf hci
  refine ⟨(gx_le.set hM (fun ci fs' e => by cases e; exact ⟨_, rfl⟩)).tr k1.1, fun H locs ls hl hc => ?_⟩
  obtain ⟨r, hr, hlen, cell, q1, q2, q3, q4⟩ := hc.1.2 a _ _ hM
  cases hq1.symm.trans hr
  have hap := gx_apart C.hts C.K hq1
  obtain ⟨hS, hfc, kC, hkC, hkind⟩ := C.K.1 c1 q hq1
  obtain ⟨cf, kf, fi, f, hi, hsl⟩ := hS k hk
  have hlay := C.hts _ (gx_cl_in c1 q hq1 _ (u_in_lay hk))
  have hst := (u_facts hfc hkC (u_lays C.hts (gx_cl_in c1 q hq1) hk) hi).1
  unfold u_lay at hlay
  rw [hT] at hi hlay
  rw [if_neg (by simp)] at hlay
  have h6 := u_store hfc hkC hkind hlay hi hd hn hfit
  refine va_WputK C.exec C.bytes (f := f) (host := host) C.hown (gx_nest C hq rfl) hi hst (by rw [q2]; exact h6) q1 q3 (by rw [hsl]; exact k2_hasslot (q4 k hk)) rfl rfl d fun H' e1 e2 e3 => ?_
  rw [hsl] at e1 ⊢
  exact k1.2 H' _ ls hl (hc.put hM ⟨q, hq1, by simp [hlen], t_OB.to (V := updV (vp_V fs) k v) ⟨_, e1, q2, q3, t_set q4 hap hk v⟩ (fun j _ => vp_updV_set hkl v j)⟩ (fun ci fs' e => by cases e; exact ⟨_, rfl⟩) e2 e3)
/-! arrays -/
theorem gx_K1 (K : gx_K D s) {t : Nat} {ty : FieldType} (ht : gx_tys[t]? = some ty) : va_K D.1 gx_cl [(D.2.1 t, ty)] s := ⟨K.1, fun k q hk => by
  have hz1 : k < 1 := (List.getElem?_eq_some_iff.mp hk).1
  rw [show k = 0 by omega] at hk
  cases hk
  exact K.2.1 t ty ht⟩
theorem gx_P1 {a t n : Nat} {b : Bool} {H : Heap} {x : (Nat → Int32) ⊕ (Nat → Int64) ⊕ (Nat → UInt32) ⊕ (Nat → UInt64) ⊕ (Nat → Option Nat)} (hc : gx_H D h H) (hM : h.2.2 a = some (b, .inl (t, n, x))) : va_P D.1 gx_cl [(a, .inl (D.2.1 t, n, x))] H := fun k q hk => by
  have hz1 : k < 1 := (List.getElem?_eq_some_iff.mp hk).1
  rw [show k = 0 by omega] at hk
  cases hk
  exact (hc.2 a b _ hM).2
theorem hx_ai_of {a t : Nat} {i x : Int32} (hh : hx_ai h a t i = some x) : ∃ b n f, h.2.2 a = some (b, .inl (t, n, .inl f)) ∧ vp_in i n ∧ x = f i.toNatClampNeg := by
  unfold hx_ai at hh
  split at hh
  · rename_i b t' n f e
    by_cases hc : t' = t ∧ 0 ≤ i ∧ i.toNatClampNeg < n
    · rw [if_pos hc] at hh
      obtain ⟨rfl, h1, h2⟩ := hc
      cases hh
      exact ⟨b, n, f, e, hx_in h1 h2, rfl⟩
    · rw [if_neg hc] at hh; cases hh
  · cases hh
theorem gx_iald (C : gx_Ctx p R s m args meth c own cc nL rt fr lo D h0 hz) {a : Nat} {i x : Int32} (hg : hx_ai h a 0 i = some x) (d : decode cc pc = .ok (.iaload, 1))
    (k1 : gx_G p l e R s m args below meth c D h0 hz nL Q (pc + 1) L (.int x :: st) h) : gx_G p l e R s m args below meth c D h0 hz nL Q pc L (.int i :: va_rf (some a) :: st) h := by
  obtain ⟨b, n, f, hM, hin, rfl⟩ := hx_ai_of hg
  exact ⟨k1.1, fun H locs ls hl hc => va_iald C.exec C.bytes (gx_K1 C.K (t := 0) rfl) (gx_P1 hc.1 hM) 0 0 rfl rfl hin d (k1.2 H locs ls hl hc)⟩
theorem gx_bald (C : gx_Ctx p R s m args meth c own cc nL rt fr lo D h0 hz) {a : Nat} {i x : Int32} (hg : hx_ai h a 1 i = some x) (d : decode cc pc = .ok (.baload, 1))
    (k1 : gx_G p l e R s m args below meth c D h0 hz nL Q (pc + 1) L (.int x :: st) h) : gx_G p l e R s m args below meth c D h0 hz nL Q pc L (.int i :: va_rf (some a) :: st) h := by
  obtain ⟨b, n, f, hM, hin, rfl⟩ := hx_ai_of hg
  exact ⟨k1.1, fun H locs ls hl hc => va_bald C.exec C.bytes (gx_K1 C.K (t := 1) rfl) (gx_P1 hc.1 hM) 0 0 rfl rfl hin d (k1.2 H locs ls hl hc)⟩
theorem gx_zald (C : gx_Ctx p R s m args meth c own cc nL rt fr lo D h0 hz) {a : Nat} {i x : Int32} (hg : hx_ai h a 3 i = some x) (d : decode cc pc = .ok (.baload, 1))
    (k1 : gx_G p l e R s m args below meth c D h0 hz nL Q (pc + 1) L (.int x :: st) h) : gx_G p l e R s m args below meth c D h0 hz nL Q pc L (.int i :: va_rf (some a) :: st) h := by
  obtain ⟨b, n, f, hM, hin, rfl⟩ := hx_ai_of hg
  exact ⟨k1.1, fun H locs ls hl hc => va_zald C.exec C.bytes (gx_K1 C.K (t := 3) rfl) (gx_P1 hc.1 hM) 0 0 rfl rfl hin d (k1.2 H locs ls hl hc)⟩
theorem gx_lald (C : gx_Ctx p R s m args meth c own cc nL rt fr lo D h0 hz) {a : Nat} {i : Int32} {x : Int64} (hg : hx_al h a i = some x) (d : decode cc pc = .ok (.laload, 1))
    (k1 : gx_G p l e R s m args below meth c D h0 hz nL Q (pc + 1) L (.long x :: st) h) : gx_G p l e R s m args below meth c D h0 hz nL Q pc L (.int i :: va_rf (some a) :: st) h := by
  unfold hx_al at hg
  split at hg
  · rename_i b t' n f e1
    by_cases hc : t' = 2 ∧ 0 ≤ i ∧ i.toNatClampNeg < n
    · rw [if_pos hc] at hg
      obtain ⟨rfl, g1, g2⟩ := hc
      cases hg
      exact ⟨k1.1, fun H locs ls hl hc => va_lald C.exec C.bytes (gx_K1 C.K (t := 2) rfl) (gx_P1 hc.1 e1) 0 0 rfl rfl (hx_in g1 g2) d (k1.2 H locs ls hl hc)⟩
    · rw [if_neg hc] at hg; cases hg
  · cases hg
theorem gx_tys_r {t : Nat} (h4 : 4 ≤ t) (hl : t < gx_tys.length) : ∃ E, gx_tys[t]? = some (.object E) := by
  match t, h4, hl with
  | 4, _, _ => exact ⟨_, rfl⟩
  | 5, _, _ => exact ⟨_, rfl⟩
  | 6, _, _ => exact ⟨_, rfl⟩
  | 7, _, _ => exact ⟨_, rfl⟩
  | n + 8, _, hl => exact absurd hl (by simp [gx_tys])
theorem gx_aald (C : gx_Ctx p R s m args meth c own cc nL rt fr lo D h0 hz) {a : Nat} {i : Int32} {x : Option Nat} (hg : hx_ar h a i = some x) (d : decode cc pc = .ok (.aaload, 1))
    (k1 : gx_G p l e R s m args below meth c D h0 hz nL Q (pc + 1) L (va_rf x :: st) h) : gx_G p l e R s m args below meth c D h0 hz nL Q pc L (.int i :: va_rf (some a) :: st) h := by
  unfold hx_ar at hg
  split at hg
  · rename_i b t' n f e1
    by_cases hc : 4 ≤ t' ∧ 0 ≤ i ∧ i.toNatClampNeg < n
    · rw [if_pos hc] at hg
      obtain ⟨g0, g1, g2⟩ := hc
      cases hg
      refine ⟨k1.1, fun H locs ls hl hc => ?_⟩
      obtain ⟨E, hE⟩ := gx_tys_r g0 (hc.1.2 a b _ e1).1
      exact va_aldq C.exec C.bytes (gx_K1 C.K hE) (gx_P1 hc.1 e1) 0 0 rfl rfl (hx_in g1 g2) d (k1.2 H locs ls hl hc)
    · rw [if_neg hc] at hg; cases hg
  · cases hg
theorem gx_alen (C : gx_Ctx p R s m args meth c own cc nL rt fr lo D h0 hz) {a : Nat} {x : Int32} (hg : hx_len h a = some x) (d : decode cc pc = .ok (.arraylength, 1))
    (k1 : gx_G p l e R s m args below meth c D h0 hz nL Q (pc + 1) L (.int x :: st) h) : gx_G p l e R s m args below meth c D h0 hz nL Q pc L (va_rf (some a) :: st) h := by
  unfold hx_len at hg
  split at hg
  · rename_i b t n y e1
    cases hg
    refine ⟨k1.1, fun H locs ls hl hc => ?_⟩
    have ht := (hc.1.2 a b _ e1).1
    obtain ⟨ty, hty⟩ : ∃ ty, gx_tys[t]? = some ty := ⟨_, List.getElem?_eq_getElem ht⟩
    exact va_alen C.exec C.bytes (gx_K1 C.K hty) (gx_P1 hc.1 e1) 0 0 rfl rfl rfl d (k1.2 H locs ls hl hc)
  · cases hg
theorem gx_updV {α : Type} (mk : α → Value) (f : Nat → α) (k : Nat) (x : α) (g : Nat → α) (hg : ∀ j, g j = if j = k then x else f j) : updV (fun j => mk (f j)) k (mk x) = fun j => mk (g j) := by
  funext j
  by_cases hj : j = k
  · simp [updV, hg, hj]
  · simp [updV, hg, hj]
theorem gx_iast (C : gx_Ctx p R s m args meth c own cc nL rt fr lo D h0 hz) {a : Nat} {i x : Int32} (hg : hx_si h a i x = some h1) (d : decode cc pc = .ok (.iastore, 1))
    (k1 : gx_G p l e R s m args below meth c D h0 hz nL Q (pc + 1) L st h1) : gx_G p l e R s m args below meth c D h0 hz nL Q pc L (.int x :: .int i :: va_rf (some a) :: st) h := by
  unfold hx_si at hg
  split at hg
  · rename_i t' n f e1
    by_cases hc : t' = 0 ∧ 0 ≤ i ∧ i.toNatClampNeg < n
    · rw [if_pos hc] at hg
      obtain ⟨rfl, g1, g2⟩ := hc
      cases hg
      refine ⟨(gx_le.set e1 (fun _ _ e => by cases e)).tr k1.1, fun H locs ls hl hc => ?_⟩
      have hat := hc.1.2 a _ _ e1
      refine W.iast C.exec C.bytes hat.2 ((C.K.2.1 0 _ rfl).1 n (fun j => .int (f j))) (fun q => by cases q) (by show ¬ (i < 0 ∨ (arrV _ _ _).slots.size ≤ _); rw [arrV_size]; exact hx_in g1 g2) rfl rfl d fun H1 e z oq => ?_
      refine k1.2 H1 _ ls hl (hc.put e1 ⟨show 0 < gx_tys.length by decide, ?_⟩ (fun _ _ e => by cases e) z oq)
      dsimp only at e ⊢
      rw [e, vp_cell_i, vp_cell_i]
      rw [arrV_store, gx_updV (fun z => Value.int z) f _ x (upd f i.toNatClampNeg x) (fun j => rfl)]
    · rw [if_neg hc] at hg; cases hg
  · cases hg
theorem gx_bast (C : gx_Ctx p R s m args meth c own cc nL rt fr lo D h0 hz) {a : Nat} {i x : Int32} (hg : hx_sb h a i x = some h1) (d : decode cc pc = .ok (.bastore, 1))
    (k1 : gx_G p l e R s m args below meth c D h0 hz nL Q (pc + 1) L st h1) : gx_G p l e R s m args below meth c D h0 hz nL Q pc L (.int x :: .int i :: va_rf (some a) :: st) h := by
  unfold hx_sb at hg
  split at hg
  · rename_i t' n f e1
    by_cases hc : t' = 1 ∧ 0 ≤ i ∧ i.toNatClampNeg < n
    · rw [if_pos hc] at hg
      obtain ⟨rfl, g1, g2⟩ := hc
      cases hg
      refine ⟨(gx_le.set e1 (fun _ _ e => by cases e)).tr k1.1, fun H locs ls hl hc => ?_⟩
      have hat := hc.1.2 a _ _ e1
      refine W.bast C.exec C.bytes hat.2 ((C.K.2.1 1 _ rfl).1 n (fun j => .int (f j))) (fun q => by cases q) (by show ¬ (i < 0 ∨ (arrV _ _ _).slots.size ≤ _); rw [arrV_size]; exact hx_in g1 g2) rfl rfl d fun H1 e z oq => ?_
      refine k1.2 H1 _ ls hl (hc.put e1 ⟨show 1 < gx_tys.length by decide, ?_⟩ (fun _ _ e => by cases e) z oq)
      dsimp only at e ⊢
      rw [e, vp_cell_i, vp_cell_i]
      show some ((arrV _ _ _).setSlot _ (.int x.toInt8.toInt32)) = _
      rw [arrV_store, gx_updV (fun z => Value.int z) f _ x.toInt8.toInt32 (upd f i.toNatClampNeg x.toInt8.toInt32) (fun j => rfl)]
    · rw [if_neg hc] at hg; cases hg
  · cases hg
theorem gx_zast (C : gx_Ctx p R s m args meth c own cc nL rt fr lo D h0 hz) {a : Nat} {i x : Int32} (hg : hx_sz h a i x = some h1) (d : decode cc pc = .ok (.bastore, 1))
    (k1 : gx_G p l e R s m args below meth c D h0 hz nL Q (pc + 1) L st h1) : gx_G p l e R s m args below meth c D h0 hz nL Q pc L (.int x :: .int i :: va_rf (some a) :: st) h := by
  unfold hx_sz at hg
  split at hg
  · rename_i t' n f e1
    by_cases hc : t' = 3 ∧ 0 ≤ i ∧ i.toNatClampNeg < n
    · rw [if_pos hc] at hg
      obtain ⟨rfl, g1, g2⟩ := hc
      cases hg
      refine ⟨(gx_le.set e1 (fun _ _ e => by cases e)).tr k1.1, fun H locs ls hl hc => ?_⟩
      have hat := hc.1.2 a _ _ e1
      refine W.zast C.exec C.bytes hat.2 ((C.K.2.1 3 _ rfl).1 n (fun j => .int (f j))) (fun q => by cases q) (by show ¬ (i < 0 ∨ (arrV _ _ _).slots.size ≤ _); rw [arrV_size]; exact hx_in g1 g2) rfl rfl d fun H1 e z oq => ?_
      refine k1.2 H1 _ ls hl (hc.put e1 ⟨show 3 < gx_tys.length by decide, ?_⟩ (fun _ _ e => by cases e) z oq)
      dsimp only at e ⊢
      rw [e, vp_cell_i, vp_cell_i]
      show some ((arrV _ _ _).setSlot _ (.int (x &&& 1))) = _
      rw [arrV_store, gx_updV (fun z => Value.int z) f _ (x &&& 1) (upd f i.toNatClampNeg (x &&& 1)) (fun j => rfl)]
    · rw [if_neg hc] at hg; cases hg
  · cases hg
theorem gx_last (C : gx_Ctx p R s m args meth c own cc nL rt fr lo D h0 hz) {a : Nat} {i : Int32} {x : Int64} (hg : hx_sl h a i x = some h1) (d : decode cc pc = .ok (.lastore, 1))
    (k1 : gx_G p l e R s m args below meth c D h0 hz nL Q (pc + 1) L st h1) : gx_G p l e R s m args below meth c D h0 hz nL Q pc L (.long x :: .int i :: va_rf (some a) :: st) h := by
  unfold hx_sl at hg
  split at hg
  · rename_i t' n f e1
    by_cases hc : t' = 2 ∧ 0 ≤ i ∧ i.toNatClampNeg < n
    · rw [if_pos hc] at hg
      obtain ⟨rfl, g1, g2⟩ := hc
      cases hg
      refine ⟨(gx_le.set e1 (fun _ _ e => by cases e)).tr k1.1, fun H locs ls hl hc => ?_⟩
      have hat := hc.1.2 a _ _ e1
      refine W.last C.exec C.bytes hat.2 ((C.K.2.1 2 _ rfl).1 n (fun j => .long (f j))) (fun q => by cases q) (by show ¬ (i < 0 ∨ (arrV _ _ _).slots.size ≤ _); rw [arrV_size]; exact hx_in g1 g2) rfl rfl d fun H1 e z oq => ?_
      refine k1.2 H1 _ ls hl (hc.put e1 ⟨show 2 < gx_tys.length by decide, ?_⟩ (fun _ _ e => by cases e) z oq)
      dsimp only at e ⊢
      rw [e, vp_cell_l, vp_cell_l]
      rw [arrV_store, gx_updV (fun z => Value.long z) f _ x (vp_updL f i.toNatClampNeg x) (fun j => rfl)]
    · rw [if_neg hc] at hg; cases hg
  · cases hg
/-- the classes of the list may lie where class E is asked: they are E, or the tables say so -/
def gx_castOk (cis : List Nat) (E : String) : Prop := ∀ ci ∈ cis, ∃ q, gx_cl[ci]? = some q ∧ (q.1 = E ∨ Cond.castable q.1 E ∈ lw_tbl)
theorem gx_asg (K : gx_K D s) {ci : Nat} {cis : List Nat} {E : String} (hE : gx_castOk cis E) (hci : ci ∈ cis) {comp : ClassId} (hc : s.vm.findClass E = some comp) : s.vm.assignable (D.1.1 ci) comp = true := by
  obtain ⟨q, hq, hh⟩ := hE ci hci
  have hat := (K.1 ci q hq).2
  rcases hh with rfl | hh
  · cases hat.1.symm.trans hc
    exact va_assign hat
  · exact vb_asgC (K.2.2.1 _ hh rfl) comp (D.1.1 ci) hc hat.1
theorem gx_aast (C : gx_Ctx p R s m args meth c own cc nL rt fr lo D h0 hz) {a t : Nat} {cis : List Nat} {i : Int32} {r : Option Nat} {E : String} (hE : gx_castOk cis E) (ht : gx_tys[t]? = some (.object E)) (hg : hx_sr h a t cis i r = some h1) (d : decode cc pc = .ok (.aastore, 1))
    (k1 : gx_G p l e R s m args below meth c D h0 hz nL Q (pc + 1) L st h1) : gx_G p l e R s m args below meth c D h0 hz nL Q pc L (va_rf r :: .int i :: va_rf (some a) :: st) h := by
  unfold hx_sr at hg
  split at hg
  · rename_i t' n f e1
    by_cases hc : t' = t ∧ 0 ≤ i ∧ i.toNatClampNeg < n ∧ hx_okr h cis r = true
    · rw [if_pos hc] at hg
      obtain ⟨rfl, g1, g2, g3⟩ := hc
      cases hg
      refine ⟨(gx_le.set e1 (fun _ _ e => by cases e)).tr k1.1, fun H locs ls hl hc => ?_⟩
      have hat := hc.1.2 a _ _ e1
      have hty := C.K.2.1 t' _ ht
      cases r with
      | none =>
        refine va_WaastN (C := E) C.exec C.bytes hat.2 (hty.1 n (fun j => va_rf (f j))) (fun h => by cases h) (by show ¬ (i < 0 ∨ (arrV _ _ _).slots.size ≤ _); rw [arrV_size]; exact hx_in g1 g2) rfl rfl d fun H1 e z oq => ?_
        refine k1.2 H1 _ ls hl (hc.put e1 ⟨hat.1, ?_⟩ (fun _ _ e => by cases e) z oq)
        dsimp only at e ⊢
        rw [e, vp_cell_q, vp_cell_q]
        show some ((arrV _ _ _).setSlot _ (va_rf none)) = _
        rw [arrV_store, gx_updV va_rf f _ none (va_up f i.toNatClampNeg none) (fun j => rfl)]
      | some v =>
        unfold hx_okr at g3
        dsimp only at g3
        split at g3
        · rename_i bv ci vs hv
          obtain ⟨r', hr', hlen, cellV, f1, f2, f3, -⟩ := hc.1.2 v _ _ hv
          have hcls := (C.K.1 ci r' hr').2
          obtain ⟨kA, comp, k1', k2, k3, -⟩ := hty.2
          obtain ⟨kcomp, hkcomp, -⟩ := Vm.findClass_spec k3
          obtain ⟨kC, hkC, -⟩ := hcls.2
          refine W.aast C.exec C.bytes hat.2 (fun q h => by cases h) (fun h => by cases h) k1' k2 rfl hkcomp ⟨fun q => hx_in g1 g2 (Or.inl q), by show _ < (arrV _ _ _).slots.size; rw [arrV_size]; exact g2⟩ f1 (fun q h => by rw [f3] at h; cases h) (by rw [f2]; exact hkC) (by rw [f2]; exact gx_asg C.K hE (of_decide_eq_true g3) k3) rfl rfl d fun H1 e z oq => ?_
          refine k1.2 H1 _ ls hl (hc.put e1 ⟨hat.1, ?_⟩ (fun _ _ e => by cases e) z oq)
          dsimp only at e ⊢
          rw [e, vp_cell_q, vp_cell_q]
          show some ((arrV _ _ _).setSlot _ (va_rf (some v))) = _
          rw [arrV_store, gx_updV va_rf f _ (some v) (va_up f i.toNatClampNeg (some v)) (fun j => rfl)]
        · cases g3
    · rw [if_neg hc] at hg; cases hg
  · cases hg
end GXP
