/-! the abstract heap's operations, and their rows -/
set_option maxRecDepth 100000
def hx_set (h : HX) (a : Nat) (e : gx_E) : HX := (h.1, h.2.1, fun q => if q = a then some (true, e) else h.2.2 q)
def hx_push (h : HX) (n : Nat) (e : gx_E) : HX := (h.1 + 1, h.2.1 + n, fun q => if q = h.1 then some (true, e) else h.2.2 q)
def hx_is (h : HX) (a : Nat) (cis : List Nat) : Option Unit := match h.2.2 a with
  | some (_, .inr (c, _)) => if c ∈ cis then some () else none
  | _ => none
def hx_gv (h : HX) (a : Nat) (cis : List Nat) (k : Nat) : Option Value := match h.2.2 a with
  | some (_, .inr (c, fs)) => if c ∈ cis then fs[k]? else none
  | _ => none
def hx_gi (h : HX) (a : Nat) (cis : List Nat) (k : Nat) : Option Int32 := match hx_gv h a cis k with
  | some (.int x) => some x
  | _ => none
def hx_gr (h : HX) (a : Nat) (cis : List Nat) (k : Nat) : Option (Option Nat) := match hx_gv h a cis k with
  | some (.ref x) => some (some x)
  | some .null => some none
  | _ => none
def hx_pv (h : HX) (a : Nat) (cis : List Nat) (k : Nat) (v : Value) : Option HX := match h.2.2 a with
  | some (true, .inr (c, fs)) => if c ∈ cis ∧ k < fs.length then some (hx_set h a (.inr (c, fs.set k v))) else none
  | _ => none
def hx_pi (h : HX) (a : Nat) (cis : List Nat) (k : Nat) (x : Int32) : Option HX := hx_pv h a cis k (.int x)
def hx_pr (h : HX) (a : Nat) (cis : List Nat) (k : Nat) (r : Option Nat) : Option HX := hx_pv h a cis k (va_rf r)
def hx_len (h : HX) (a : Nat) : Option Int32 := match h.2.2 a with
  | some (_, .inl (_, n, _)) => some (nI n)
  | _ => none
def hx_ai (h : HX) (a t : Nat) (i : Int32) : Option Int32 := match h.2.2 a with
  | some (_, .inl (t', n, .inl f)) => if t' = t ∧ 0 ≤ i ∧ i.toNatClampNeg < n then some (f i.toNatClampNeg) else none
  | _ => none
def hx_al (h : HX) (a : Nat) (i : Int32) : Option Int64 := match h.2.2 a with
  | some (_, .inl (t', n, .inr (.inl f))) => if t' = 2 ∧ 0 ≤ i ∧ i.toNatClampNeg < n then some (f i.toNatClampNeg) else none
  | _ => none
def hx_ar (h : HX) (a : Nat) (i : Int32) : Option (Option Nat) := match h.2.2 a with
  | some (_, .inl (t', n, .inr (.inr (.inr (.inr f))))) => if 4 ≤ t' ∧ 0 ≤ i ∧ i.toNatClampNeg < n then some (f i.toNatClampNeg) else none
  | _ => none
def hx_si (h : HX) (a : Nat) (i x : Int32) : Option HX := match h.2.2 a with
  | some (true, .inl (t', n, .inl f)) => if t' = 0 ∧ 0 ≤ i ∧ i.toNatClampNeg < n then some (hx_set h a (.inl (0, n, .inl (upd f i.toNatClampNeg x)))) else none
  | _ => none
def hx_sb (h : HX) (a : Nat) (i x : Int32) : Option HX := match h.2.2 a with
  | some (true, .inl (t', n, .inl f)) => if t' = 1 ∧ 0 ≤ i ∧ i.toNatClampNeg < n then some (hx_set h a (.inl (1, n, .inl (upd f i.toNatClampNeg x.toInt8.toInt32)))) else none
  | _ => none
def hx_sz (h : HX) (a : Nat) (i x : Int32) : Option HX := match h.2.2 a with
  | some (true, .inl (t', n, .inl f)) => if t' = 3 ∧ 0 ≤ i ∧ i.toNatClampNeg < n then some (hx_set h a (.inl (3, n, .inl (upd f i.toNatClampNeg (x &&& 1))))) else none
  | _ => none
def hx_sl (h : HX) (a : Nat) (i : Int32) (x : Int64) : Option HX := match h.2.2 a with
  | some (true, .inl (t', n, .inr (.inl f))) => if t' = 2 ∧ 0 ≤ i ∧ i.toNatClampNeg < n then some (hx_set h a (.inl (2, n, .inr (.inl (vp_updL f i.toNatClampNeg x))))) else none
  | _ => none
def hx_okr (h : HX) (cis : List Nat) (r : Option Nat) : Bool := match r with
  | none => true
  | some v => match h.2.2 v with
    | some (_, .inr (c, _)) => decide (c ∈ cis)
    | _ => false
/-- a reference into an array of type t: null, or an object of one of the classes -/
def hx_sr (h : HX) (a t : Nat) (cis : List Nat) (i : Int32) (r : Option Nat) : Option HX := match h.2.2 a with
  | some (true, .inl (t', n, .inr (.inr (.inr (.inr f))))) => if t' = t ∧ 0 ≤ i ∧ i.toNatClampNeg < n ∧ hx_okr h cis r = true then some (hx_set h a (.inl (t, n, .inr (.inr (.inr (.inr (va_up f i.toNatClampNeg r))))))) else none
  | _ => none
def hx_newa (h : HX) (t : Nat) (x : Int32) (e : Nat → (Nat → Int32) ⊕ (Nat → Int64) ⊕ (Nat → UInt32) ⊕ (Nat → UInt64) ⊕ (Nat → Option Nat)) : Option (Nat × HX) := if 0 ≤ x ∧ x.toNatClampNeg ≤ 60000000 then some (h.1, hx_push h x.toNatClampNeg (.inl (t, x.toNatClampNeg, e x.toNatClampNeg))) else none
def hx_cast (h : HX) (r : Option Nat) (cis : List Nat) : Option Unit := match r with
  | none => some ()
  | some a => hx_is h a cis
def hx_frz (h : HX) (P : Nat → Bool) : HX := (h.1, h.2.1, fun q => match h.2.2 q with
  | some (b, e) => some (b && !P q, e)
  | none => none)
theorem hx_is_of {h : HX} {a : Nat} {cis : List Nat} {u : Unit} (hh : hx_is h a cis = some u) : gx_isC h a cis := by
  unfold hx_is at hh
  split at hh
  · rename_i b c fs e
    by_cases hc : c ∈ cis
    · exact ⟨b, c, fs, e, hc⟩
    · rw [if_neg hc] at hh; cases hh
  · cases hh
theorem hx_gv_of {h : HX} {a k : Nat} {cis : List Nat} {v : Value} (hh : hx_gv h a cis k = some v) : ∃ b c fs, h.2.2 a = some (b, .inr (c, fs)) ∧ c ∈ cis ∧ fs[k]? = some v := by
  unfold hx_gv at hh
  split at hh
  · rename_i b c fs e
    by_cases hc : c ∈ cis
    · rw [if_pos hc] at hh
      exact ⟨b, c, fs, e, hc, hh⟩
    · rw [if_neg hc] at hh; cases hh
  · cases hh
theorem hx_gi_of {h : HX} {a k : Nat} {cis : List Nat} {x : Int32} (hh : hx_gi h a cis k = some x) : hx_gv h a cis k = some (.int x) := by
  unfold hx_gi at hh
  split at hh
  · rename_i y e
    cases hh
    exact e
  · cases hh
theorem hx_gr_of {h : HX} {a k : Nat} {cis : List Nat} {r : Option Nat} (hh : hx_gr h a cis k = some r) : hx_gv h a cis k = some (va_rf r) := by
  unfold hx_gr at hh
  split at hh
  · rename_i y e
    cases hh
    exact e
  · rename_i e
    cases hh
    exact e
  · cases hh
theorem hx_pv_of {h h1 : HX} {a k : Nat} {cis : List Nat} {v : Value} (hh : hx_pv h a cis k v = some h1) : ∃ c fs, h.2.2 a = some (true, .inr (c, fs)) ∧ c ∈ cis ∧ k < fs.length ∧ h1 = hx_set h a (.inr (c, fs.set k v)) := by
  unfold hx_pv at hh
  split at hh
  · rename_i c fs e
    by_cases hc : c ∈ cis ∧ k < fs.length
    · rw [if_pos hc] at hh
      cases hh
      exact ⟨c, fs, e, hc.1, hc.2, rfl⟩
    · rw [if_neg hc] at hh; cases hh
  · cases hh
theorem hx_in {i : Int32} {n : Nat} (h1 : 0 ≤ i) (h2 : i.toNatClampNeg < n) : vp_in i n := fun q => by
  rcases q with q | q
  · exact absurd h1 (Int32.not_le.mpr q)
  · omega
/-- a field's place in the classes of a list -/
def gx_fld1 (c k : Nat) (ow nm ds : String) (fin : Bool) : Bool := match gx_cl[c]? with
  | some q => decide (k < q.2.2) && decide ((q.2.1 k) = (ow, nm, ds, fin))
  | none => false
def gx_fld (cis : List Nat) (k : Nat) (ow nm ds : String) (fin : Bool) : Bool := cis.all fun c => gx_fld1 c k ow nm ds fin
theorem gx_fld_of {cis : List Nat} {c k : Nat} {ow nm ds : String} {fin : Bool} (h : gx_fld cis k ow nm ds fin = true) (hc : c ∈ cis) : ∃ q, gx_cl[c]? = some q ∧ k < q.2.2 ∧ q.2.1 k = (ow, nm, ds, fin) := by
  have h1 := List.all_eq_true.mp h c hc
  unfold gx_fld1 at h1
  split at h1
  · rename_i q e
    simp only [Bool.and_eq_true, decide_eq_true_eq] at h1
    exact ⟨q, e, h1.1, h1.2⟩
  · cases h1
theorem gx_le.set {h : HX} {a : Nat} {e e0 : gx_E} (h0 : h.2.2 a = some (true, e0)) (he : ∀ ci fs, e0 = .inr (ci, fs) → ∃ fs', e = .inr (ci, fs')) : gx_le h (hx_set h a e) := by
  refine ⟨Nat.le_refl _, Nat.le_refl _, fun q b ci fs _ hq => ?_, fun q x _ hq => ?_, fun q _ hq => ?_⟩
  · by_cases hqa : q = a
    · subst hqa
      rw [h0] at hq
      cases hq
      obtain ⟨fs', rfl⟩ := he ci fs rfl
      exact ⟨true, fs', by simp [hx_set]⟩
    · exact ⟨b, fs, by simp only [hx_set, if_neg hqa]; exact hq⟩
  · by_cases hqa : q = a
    · subst hqa
      rw [h0] at hq
      cases hq
    · simp only [hx_set, if_neg hqa]; exact hq
  · by_cases hqa : q = a
    · subst hqa
      rw [h0] at hq
      cases hq
    · simp only [hx_set, if_neg hqa]; exact hq
theorem gx_H.lt {D : gx_D} {h : HX} {H : Heap} (hh : gx_H D h H) {a : Nat} {b : Bool} {e : gx_E} (he : h.2.2 a = some (b, e)) : a < h.1 := by
  have := (hh.2 a b e he).lt
  rw [hh.1] at this
  exact this
theorem gx_Cur.put {D : gx_D} {h0 h : HX} {s : State} {H H1 : Heap} {locs : List Loc} {a i : Nat} {e e0 : gx_E} (hc : gx_Cur D h0 h s H locs) (hM : h.2.2 a = some (true, e0)) (he : gx_at D a e H1) (hk : ∀ ci fs, e0 = .inr (ci, fs) → ∃ fs', e = .inr (ci, fs')) (z : H1.size = H.size) (oq : ∀ q, q ≠ a → H1[q]? = H[q]?) : gx_Cur D h0 (hx_set h a e) s H1 (locs ++ [⟨a, i⟩]) := by
  obtain ⟨c1, c2, c3, c4⟩ := hc
  refine ⟨⟨z.trans c1.1, fun q b x hq => ?_⟩, c2.put z oq (c3 a _ hM), fun q x hq => ?_, c4.tr (gx_le.set hM hk)⟩
  · by_cases hqa : q = a
    · subst hqa
      simp only [hx_set, if_true] at hq
      cases hq
      exact he
    · simp only [hx_set, if_neg hqa] at hq
      exact (c1.2 q b x hq).kept (oq q hqa)
  · by_cases hqa : q = a
    · subst hqa
      exact c3 q _ hM
    · simp only [hx_set, if_neg hqa] at hq
      exact c3 q x hq
theorem gx_le.push {h : HX} {n : Nat} {e : gx_E} : gx_le h (hx_push h n e) := by
  refine ⟨Nat.le_succ _, Nat.le_add_right _ _, fun q b ci fs this hq => ⟨b, fs, ?_⟩, fun q x this hq => ?_, fun q this hq => ?_⟩
  · simp only [hx_push, if_neg (Nat.ne_of_lt this)]
    exact hq
  · simp only [hx_push, if_neg (Nat.ne_of_lt this)]
    exact hq
  · simp only [hx_push, if_neg (Nat.ne_of_lt this)]
    exact hq
theorem gx_Cur.push {D : gx_D} {h0 h : HX} {s : State} {H H1 : Heap} {locs : List Loc} {n : Nat} {e : gx_E} (hs : h0.1 = s.heap.size) (hc : gx_Cur D h0 h s H locs) (he : gx_at D h.1 e H1) (z : H1.size = H.size + 1) (oq : ∀ q, q < H.size → H1[q]? = H[q]?) : gx_Cur D h0 (hx_push h n e) s H1 locs := by
  obtain ⟨c1, c2, c3, c4⟩ := hc
  refine ⟨⟨by rw [z, c1.1]; rfl, fun q b x hq => ?_⟩, ⟨by rw [z]; exact Nat.le_succ_of_le c2.1, fun q h1 h2 => (oq q (Nat.lt_of_lt_of_le h1 c2.1)).trans (c2.2.1 q h1 h2), c2.2.2⟩, fun q x hq => ?_, c4.tr gx_le.push⟩
  · by_cases hqa : q = h.1
    · subst hqa
      simp only [hx_push, if_true] at hq
      cases hq
      exact he
    · simp only [hx_push, if_neg hqa] at hq
      refine (c1.2 q b x hq).kept (oq q ?_)
      have := c1.lt hq
      rw [c1.1]
      exact this
  · by_cases hqa : q = h.1
    · subst hqa
      exact Or.inr c4.1
    · simp only [hx_push, if_neg hqa] at hq
      exact c3 q x hq
section GXH
variable {p : Program} {l : Launch} {e : Env} {R : Room} {s : State} {m : MethodId} {args : Array Value} {below : List Frame} {meth : Method} {c : Code} {Q : State → Prop}
variable {own : String} {cc : ByteArray} {nL : Nat} {rt : Option FieldType} {fr lo : Nat} {D : gx_D} {h0 hz h : HX} {pc : Nat} {L : List (Nat × Value)} {st : List Value}
theorem gx_same_of {ow ref nm ds : String} (hts : ∀ w ∈ lw_all, w.before args s = true) (h : Cond.sameField ref ow nm ds ∈ lw_all) : ∀ x, s.fieldFound? ow nm ds = some x → s.fieldFound? ref nm ds = some x := fun x hx => u_same (hts _ h) x hx
theorem gx_getv (C : gx_Ctx p R s m args meth c own cc nL rt fr lo D h0 hz) {a k i : Nat} {cis : List Nat} {v : Value} {ow ref nm ds : String} {fin : Bool} (hg : hx_gv h a cis k = some v) (hf : gx_fld cis k ow nm ds fin = true) (hsame : ∀ x, s.fieldFound? ow nm ds = some x → s.fieldFound? ref nm ds = some x) (hq : Cond.fieldLink own i ref nm ds ∈ lw_all) (d : decode cc pc = .ok (.getfield i, 3))
    (k1 : gx_G p l e R s m args below meth c D h0 hz nL Q (pc + 3) L (v :: st) h) : gx_G p l e R s m args below meth c D h0 hz nL Q pc L (va_rf (some a) :: st) h := by
  refine ⟨k1.1, fun H locs ls hl hc => ?_⟩
  obtain ⟨b, c1, fs, hM, hci, hv⟩ := hx_gv_of hg
  obtain ⟨q, hq1, hk, hT⟩ := gx_fld_of hf hci
  obtain ⟨r, hr, hlen, hob⟩ := hc.1.2 a b _ hM
  cases hq1.symm.trans hr
  have e1 : (q.2.1 k).1 = ow := by rw [hT]
  have e2 : (q.2.1 k).2.1 = nm := by rw [hT]
  have e3 : (q.2.1 k).2.2.1 = ds := by rw [hT]
  refine va_get (D := D.1) (cl := gx_cl) (tys := []) (ws := [(a, .inr (c1, fs))]) (C := q.1) (T := q.2.1) (N := q.2.2) (ref := ref) C.exec C.bytes C.hts (gx_cl_in c1 q hq1) C.hown ⟨C.K.1, fun k q hk => by simp at hk⟩ (fun j x hj => ?_) 0 rfl hq1 k hk (by rw [e2, e3]; exact C.hts _ hq) (by rw [e1, e2, e3]; exact hsame) hv d (k1.2 H locs ls hl hc)
  have hz1 : j < 1 := (List.getElem?_eq_some_iff.mp hj).1
  rw [show j = 0 by omega] at hj
  cases hj
  exact ⟨q, hq1, hob⟩
theorem gx_gi (C : gx_Ctx p R s m args meth c own cc nL rt fr lo D h0 hz) {a k i : Nat} {cis : List Nat} {x : Int32} {ow nm ds : String} {fin : Bool} (hg : hx_gi h a cis k = some x) (hf : gx_fld cis k ow nm ds fin = true) (hq : Cond.fieldLink own i ow nm ds ∈ lw_all) (d : decode cc pc = .ok (.getfield i, 3))
    (k1 : gx_G p l e R s m args below meth c D h0 hz nL Q (pc + 3) L (.int x :: st) h) : gx_G p l e R s m args below meth c D h0 hz nL Q pc L (va_rf (some a) :: st) h := gx_getv C (hx_gi_of hg) hf (fun _ h => h) hq d k1
theorem gx_gr (C : gx_Ctx p R s m args meth c own cc nL rt fr lo D h0 hz) {a k i : Nat} {cis : List Nat} {x : Option Nat} {ow nm ds : String} {fin : Bool} (hg : hx_gr h a cis k = some x) (hf : gx_fld cis k ow nm ds fin = true) (hq : Cond.fieldLink own i ow nm ds ∈ lw_all) (d : decode cc pc = .ok (.getfield i, 3))
    (k1 : gx_G p l e R s m args below meth c D h0 hz nL Q (pc + 3) L (va_rf x :: st) h) : gx_G p l e R s m args below meth c D h0 hz nL Q pc L (va_rf (some a) :: st) h := gx_getv C (hx_gr_of hg) hf (fun _ h => h) hq d k1
theorem gx_giS (C : gx_Ctx p R s m args meth c own cc nL rt fr lo D h0 hz) {a k i : Nat} {cis : List Nat} {x : Int32} {ow ref nm ds : String} {fin : Bool} (hg : hx_gi h a cis k = some x) (hf : gx_fld cis k ow nm ds fin = true) (hsm : Cond.sameField ref ow nm ds ∈ lw_all) (hq : Cond.fieldLink own i ref nm ds ∈ lw_all) (d : decode cc pc = .ok (.getfield i, 3))
    (k1 : gx_G p l e R s m args below meth c D h0 hz nL Q (pc + 3) L (.int x :: st) h) : gx_G p l e R s m args below meth c D h0 hz nL Q pc L (va_rf (some a) :: st) h := gx_getv C (hx_gi_of hg) hf (gx_same_of C.hts hsm) hq d k1
theorem gx_nest (C : gx_Ctx p R s m args meth c own cc nL rt fr lo D h0 hz) {w : Cond} (hw : w ∈ lw_tbl) (hg : gx_okN w = true) : w.before args s = true := va_Nw.use (gx_okN_tab hg) (C.K.2.2.1 w hw hg)
theorem gx_getvN (C : gx_Ctx p R s m args meth c own cc nL rt fr lo D h0 hz) {a k i : Nat} {cis : List Nat} {v : Value} {ow ref nm ds host : String} {fin : Bool} (hg : hx_gv h a cis k = some v) (hf : gx_fld cis k ow nm ds fin = true) (hsame : ∀ x, s.fieldFound? ow nm ds = some x → s.fieldFound? ref nm ds = some x) (hq : Cond.fieldLinkNest own i ref nm ds host ∈ lw_tbl) (d : decode cc pc = .ok (.getfield i, 3))
    (k1 : gx_G p l e R s m args below meth c D h0 hz nL Q (pc + 3) L (v :: st) h) : gx_G p l e R s m args below meth c D h0 hz nL Q pc L (va_rf (some a) :: st) h := by
  refine ⟨k1.1, fun H locs ls hl hc => ?_⟩
  obtain ⟨b, c1, fs, hM, hci, hv⟩ := hx_gv_of hg
  obtain ⟨q, hq1, hk, hT⟩ := gx_fld_of hf hci
  obtain ⟨r, hr, hlen, hob⟩ := hc.1.2 a b _ hM
  cases hq1.symm.trans hr
  have e1 : (q.2.1 k).1 = ow := by rw [hT]
  have e2 : (q.2.1 k).2.1 = nm := by rw [hT]
  have e3 : (q.2.1 k).2.2.1 = ds := by rw [hT]
  refine va_getN (D := D.1) (cl := gx_cl) (tys := []) (ws := [(a, .inr (c1, fs))]) (C := q.1) (T := q.2.1) (N := q.2.2) (ref := ref) (host := host) C.exec C.bytes C.hts (gx_cl_in c1 q hq1) C.hown ⟨C.K.1, fun k q hk => by simp at hk⟩ (fun j x hj => ?_) 0 rfl hq1 k hk (by rw [e2, e3]; exact gx_nest C hq rfl) (by rw [e1, e2, e3]; exact hsame) hv d (k1.2 H locs ls hl hc)
  have hz1 : j < 1 := (List.getElem?_eq_some_iff.mp hj).1
  rw [show j = 0 by omega] at hj
  cases hj
  exact ⟨q, hq1, hob⟩
theorem gx_giN (C : gx_Ctx p R s m args meth c own cc nL rt fr lo D h0 hz) {a k i : Nat} {cis : List Nat} {x : Int32} {ow nm ds host : String} {fin : Bool} (hg : hx_gi h a cis k = some x) (hf : gx_fld cis k ow nm ds fin = true) (hq : Cond.fieldLinkNest own i ow nm ds host ∈ lw_tbl) (d : decode cc pc = .ok (.getfield i, 3))
    (k1 : gx_G p l e R s m args below meth c D h0 hz nL Q (pc + 3) L (.int x :: st) h) : gx_G p l e R s m args below meth c D h0 hz nL Q pc L (va_rf (some a) :: st) h := gx_getvN C (hx_gi_of hg) hf (fun _ h => h) hq d k1
theorem gx_grN (C : gx_Ctx p R s m args meth c own cc nL rt fr lo D h0 hz) {a k i : Nat} {cis : List Nat} {x : Option Nat} {ow nm ds host : String} {fin : Bool} (hg : hx_gr h a cis k = some x) (hf : gx_fld cis k ow nm ds fin = true) (hq : Cond.fieldLinkNest own i ow nm ds host ∈ lw_tbl) (d : decode cc pc = .ok (.getfield i, 3))
    (k1 : gx_G p l e R s m args below meth c D h0 hz nL Q (pc + 3) L (va_rf x :: st) h) : gx_G p l e R s m args below meth c D h0 hz nL Q pc L (va_rf (some a) :: st) h := gx_getvN C (hx_gr_of hg) hf (fun _ h => h) hq d k1
/-- a class's slots are apart -/
theorem gx_apart (hts : ∀ w ∈ lw_all, w.before args s = true) (hK : gx_K D s) {ci : Nat} {q : vw_C} (hq : gx_cl[ci]? = some q) : ∀ x y, x < q.2.2 → y < q.2.2 → x ≠ y → (D.1.2 ci) x ≠ (D.1.2 ci) y := by
  intro x y hx hy hne
  obtain ⟨hS, -⟩ := hK.1 ci _ hq
  obtain ⟨ty, hty⟩ := gx_cl_ty ci q hq
  obtain ⟨cfa, kfa, fia, fa, hia, ea⟩ := hS x hx
  obtain ⟨cfb, kfb, fib, fb, hib, eb⟩ := hS y hy
  rw [← ea, ← eb]
  have la := u_lays (C := q.1) hts (gx_cl_in ci q hq) hx
  have lb := u_lays (C := q.1) hts (gx_cl_in ci q hq) hy
  rcases gx_cl_nm ci q hq x hx y hy hne with hn | ⟨hn, hfa, hfb⟩
  · refine u_apart la lb hia hib ?_
    rw [(State.fieldFound?_type hia (hty x hx)).1, (State.fieldFound?_type hib (hty y hy)).1]
    exact hn
  · have la := hts _ (gx_cl_in ci q hq _ (u_in_lay hx))
    have lb := hts _ (gx_cl_in ci q hq _ (u_in_lay hy))
    unfold u_lay at la lb
    rw [if_pos hfa] at la
    rw [if_pos hfb] at lb
    obtain ⟨a1, _, ca, ka, _, g1, f1, -, i1, -, -, -, o1, -, d1, s1, n1, -⟩ := Cond.laysFinal_spec la
    obtain ⟨a2, _, cb, kb, _, g2, f2, -, i2, -, -, -, o2, -, d2, s2, n2, -⟩ := Cond.laysFinal_spec lb
    cases hia.symm.trans i1
    cases hib.symm.trans i2
    cases f1.symm.trans f2
    intro hs
    rw [hs] at s1
    cases s1.symm.trans s2
    have k1 := (State.fieldFound?_spec i1).1
    have k2 := (State.fieldFound?_spec i2).1
    obtain ⟨ka', hka, na⟩ := Vm.findClass_spec o1
    obtain ⟨kb', hkb, nb⟩ := Vm.findClass_spec o2
    cases hka.symm.trans k1
    cases hkb.symm.trans k2
    exact hn (na.symm.trans ((n1.symm.trans n2).trans nb))
end GXH
