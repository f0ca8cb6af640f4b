/-! what the printed walks lean on -/
set_option maxRecDepth 100000
def gx_fuel : Nat := 200000
def gx_b2 {α β γ : Type} (x : Option (α × β)) (K : α → β → Option γ) : Option γ := x.bind fun v => K v.1 v.2
theorem gx_b2s {α β γ : Type} {x : Option (α × β)} {K : α → β → Option γ} {z : γ} (h : gx_b2 x K = some z) : ∃ a b, x = some (a, b) ∧ K a b = some z := by
  obtain ⟨⟨a, b⟩, h1, h2⟩ := Option.bind_eq_some_iff.mp h
  exact ⟨a, b, h1, h2⟩
theorem gx_b2_some {α β γ : Type} {a : α} {b : β} {K : α → β → Option γ} : gx_b2 (some (a, b)) K = K a b := rfl
def gx_bx {α γ : Type} (x : Option ((α ⊕ (String × Nat)) × HX)) (K : α → HX → Option γ) (X : String → Nat → HX → Option γ) : Option γ := x.bind fun v => match v.1 with
  | .inl a => K a v.2
  | .inr z => X z.1 z.2 v.2
theorem gx_bxs {α γ : Type} {x : Option ((α ⊕ (String × Nat)) × HX)} {K : α → HX → Option γ} {X : String → Nat → HX → Option γ} {z : γ} (h : gx_bx x K X = some z) : (∃ a h1, x = some (.inl a, h1) ∧ K a h1 = some z) ∨ (∃ E q h1, x = some (.inr (E, q), h1) ∧ X E q h1 = some z) := by
  obtain ⟨⟨a, b⟩, h1, h2⟩ := Option.bind_eq_some_iff.mp h
  cases a with
  | inl a => exact Or.inl ⟨a, b, h1, h2⟩
  | inr z => exact Or.inr ⟨z.1, z.2, b, h1, h2⟩
theorem gx_bx_l {α γ : Type} {a : α} {b : HX} {K : α → HX → Option γ} {X : String → Nat → HX → Option γ} : gx_bx (some (.inl a, b)) K X = K a b := rfl
theorem gx_bx_r {α γ : Type} {E : String} {q : Nat} {b : HX} {K : α → HX → Option γ} {X : String → Nat → HX → Option γ} : gx_bx (some (.inr (E, q), b)) K X = X E q b := rfl
def gx_xi : Int32 ⊕ (String × Nat) → gx_Rs
  | .inl x => .inl (some (.int x))
  | .inr z => .inr z
def gx_xz : Bool ⊕ (String × Nat) → gx_Rs
  | .inl x => .inl (some (.int (b2i x)))
  | .inr z => .inr z
def gx_xa : Option Nat ⊕ (String × Nat) → gx_Rs
  | .inl x => .inl (some (va_rf x))
  | .inr z => .inr z
def gx_xv : Unit ⊕ (String × Nat) → gx_Rs
  | .inl _ => .inl none
  | .inr z => .inr z
/-- a store into local i leaves these locals -/
def gx_ok (i : Nat) : List (Nat × Value) → Prop
  | [] => True
  | q :: t => (match Nat.beq q.1 i with
    | true => False
    | false => match Nat.beq (q.1 + 1) i with
      | true => q.2.category = 1
      | false => True) ∧ gx_ok i t
theorem gx_fl0 {i : Nat} {L : List (Nat × Value)} (h : gx_ok i L) : L.filter (fun q => !(q.1 == i) && !(q.1 + 1 == i && q.2.category == 2)) = L := by
  induction L with
  | nil => rfl
  | cons q t ih =>
    obtain ⟨h1, h2⟩ := h
    refine List.filter_eq_self.mpr (fun w hw => ?_)
    rcases List.mem_cons.mp hw with rfl | hw
    · cases e1 : Nat.beq w.1 i with
      | true => rw [e1] at h1; exact h1.elim
      | false =>
        rw [e1] at h1
        have e1' : (w.1 == i) = false := beq_false_of_ne (Nat.ne_of_beq_eq_false e1)
        rw [e1']
        cases e2 : Nat.beq (w.1 + 1) i with
        | true =>
          rw [e2] at h1
          have h1 : w.2.category = 1 := h1
          rw [h1]
          simp
        | false =>
          have e2' : (w.1 + 1 == i) = false := beq_false_of_ne (Nat.ne_of_beq_eq_false e2)
          rw [e2']
          rfl
    · exact List.filter_eq_self.mp (ih h2) w hw
theorem gx_fl {i : Nat} {v : Value} {L : List (Nat × Value)} (h : gx_ok i L) : (i, v) :: L.filter (fun q => !(q.1 == i) && !(q.1 + 1 == i && q.2.category == 2)) = (i, v) :: L := congrArg _ (gx_fl0 h)
theorem gx_la0 {i : Nat} : lv_args i [] = [] := rfl
theorem gx_lai {i : Nat} {x : Int32} {vs : List Value} : lv_args i (.int x :: vs) = (i, .int x) :: lv_args (i + 1) vs := rfl
theorem gx_laj {i : Nat} {x : Int64} {vs : List Value} : lv_args i (.long x :: vs) = (i, .long x) :: lv_args (i + 2) vs := rfl
theorem gx_lar {i : Nat} {r : Option Nat} {vs : List Value} : lv_args i (va_rf r :: vs) = (i, va_rf r) :: lv_args (i + 1) vs := by cases r <;> rfl
theorem gx_ls0 : (lg_sl []).length = 0 := rfl
theorem gx_lsi {x : Int32} {vs : List Value} : (lg_sl (.int x :: vs)).length = (lg_sl vs).length + 1 := by simp [lg_sl, Value.category]
theorem gx_lsj {x : Int64} {vs : List Value} : (lg_sl (.long x :: vs)).length = (lg_sl vs).length + 2 := by simp [lg_sl, Value.category]
theorem gx_lsr {r : Option Nat} {vs : List Value} : (lg_sl (va_rf r :: vs)).length = (lg_sl vs).length + 1 := by simp [lg_sl, gx_rfcat]
theorem gx_cat2 (v : Value) : v.category ≤ 2 := by cases v <;> simp [Value.category]
theorem gx_catn {st : List Value} (h : st.length ≤ 4) : (st.map fun v => v.category).sum ≤ 8 := by
  have : ∀ l : List Value, (l.map fun v => v.category).sum ≤ 2 * l.length := fun l => by
    induction l with
    | nil => exact Nat.le_refl _
    | cons v t ih => simp only [List.map_cons, List.sum_cons, List.length_cons]; have := gx_cat2 v; omega
  have := this st
  omega
section GXN
variable {p : Program} {l : Launch} {e : Env} {R : Room} {s : State} {m : MethodId} {args : Array Value} {below : List Frame} {meth : Method} {c : Code} {Q : State → Prop}
variable {own : String} {cc : ByteArray} {nL : Nat} {rt : Option FieldType} {fr lo : Nat} {D : gx_D} {h0 hz h h1 : HX} {pc : Nat} {L L1 : List (Nat × Value)} {st : List Value}
theorem gx_istn (C : gx_Ctx p R s m args meth c own cc nL rt fr lo D h0 hz) {k : Fin 4} {x : Int32} (d : decode cc pc = .ok (.istore_n k, 1)) (i : Nat) (hi : (k : Nat) = i) (hn : i < nL) (ks : List Nat) (hp : lv_pick L ks = L1) (ho : gx_ok i L1) (kk : gx_G p l e R s m args below meth c D h0 hz nL Q (pc + 1) ((i, .int x) :: L1) st h) : gx_G p l e R s m args below meth c D h0 hz nL Q pc L (.int x :: st) h := by
  subst hi
  exact gx_sub ks hp (gx_istore_n C d hn (gx_fl ho) kk)
theorem gx_ist (C : gx_Ctx p R s m args meth c own cc nL rt fr lo D h0 hz) {i : Nat} {x : Int32} (d : decode cc pc = .ok (.istore i, 2)) (hn : i < nL) (ks : List Nat) (hp : lv_pick L ks = L1) (ho : gx_ok i L1) (kk : gx_G p l e R s m args below meth c D h0 hz nL Q (pc + 2) ((i, .int x) :: L1) st h) : gx_G p l e R s m args below meth c D h0 hz nL Q pc L (.int x :: st) h := gx_sub ks hp (gx_istore C d hn (gx_fl ho) kk)
theorem gx_astn (C : gx_Ctx p R s m args meth c own cc nL rt fr lo D h0 hz) {k : Fin 4} {x : Option Nat} (d : decode cc pc = .ok (.astore_n k, 1)) (i : Nat) (hi : (k : Nat) = i) (hn : i < nL) (ks : List Nat) (hp : lv_pick L ks = L1) (ho : gx_ok i L1) (kk : gx_G p l e R s m args below meth c D h0 hz nL Q (pc + 1) ((i, va_rf x) :: L1) st h) : gx_G p l e R s m args below meth c D h0 hz nL Q pc L (va_rf x :: st) h := by
  subst hi
  exact gx_sub ks hp (gx_astore_n C d hn (gx_fl ho) kk)
theorem gx_ast (C : gx_Ctx p R s m args meth c own cc nL rt fr lo D h0 hz) {i : Nat} {x : Option Nat} (d : decode cc pc = .ok (.astore i, 2)) (hn : i < nL) (ks : List Nat) (hp : lv_pick L ks = L1) (ho : gx_ok i L1) (kk : gx_G p l e R s m args below meth c D h0 hz nL Q (pc + 2) ((i, va_rf x) :: L1) st h) : gx_G p l e R s m args below meth c D h0 hz nL Q pc L (va_rf x :: st) h := gx_sub ks hp (gx_astore C d hn (gx_fl ho) kk)
/-- iinc: the local counted is the first listed after the pick -/
theorem gx_inc (C : gx_Ctx p R s m args meth c own cc nL rt fr lo D h0 hz) {i : Nat} {n : Int} {x v : Int32} (d : decode cc pc = .ok (.iinc i n, 3)) (j : Nat) (hj : L[j]? = some (i, .int x)) (hv : Int32.ofInt n = v) (hn : i < nL) (ks : List Nat) (hp : lv_pick L ks = L1) (ho : gx_ok i L1) (kk : gx_G p l e R s m args below meth c D h0 hz nL Q (pc + 3) ((i, .int (x + v)) :: L1) st h) : gx_G p l e R s m args below meth c D h0 hz nL Q pc L st h := by
  subst hv
  have hm : (i, Value.int x) ∈ L := List.mem_of_getElem? hj
  refine ⟨kk.1, fun H locs ls hl hc => ?_⟩
  have hl2 : lv_has ls nL ((i, .int x) :: L1) := ⟨hl.1, hl.2.1, fun q hq => by
    rcases List.mem_cons.mp hq with rfl | hq
    · exact hl.2.2 _ hm
    · exact (lv_sub hl ks hp).2.2 q hq⟩
  have hf : (i, Value.int (x + Int32.ofInt n)) :: ((i, Value.int x) :: L1).filter (fun q => !(q.1 == i) && !(q.1 + 1 == i && q.2.category == 2)) = (i, .int (x + Int32.ofInt n)) :: L1 := by
    rw [List.filter_cons_of_neg (by simp), gx_fl0 ho]
  exact (gx_iinc (L := (i, .int x) :: L1) C d 0 rfl rfl hn hf kk).2 H locs ls hl2 hc
theorem gx_k2l {rv : Option Value} (k : gx_G p l e R s m args below meth c D h0 hz nL Q (pc + 3) L (rv.toList ++ st) h1) : gx_K2 p l e R s m args below meth c D h0 hz nL Q pc L st (.inl rv) h1 := k
theorem gx_k2r {E : String} {q : Nat} (k : gx_T p l e R s m args below meth c D h0 hz nL Q E q pc L h1) : gx_K2 p l e R s m args below meth c D h0 hz nL Q pc L st (.inr (E, q)) h1 := k
theorem gx_nnull {r : Option Nat} (h : ¬ r = none) : ∃ a, r = some a := by
  cases r with
  | none => exact absurd rfl h
  | some a => exact ⟨a, rfl⟩
end GXN
theorem hx_le_pv {h h1 : HX} {a k : Nat} {cis : List Nat} {v : Value} (g : hx_pv h a cis k v = some h1) : gx_le h h1 := by
  obtain ⟨c, fs, e, m, hk, rfl⟩ := hx_pv_of g
  exact gx_le.set e fun ci fs' he => by cases he; exact ⟨_, rfl⟩
theorem hx_le_newa {h h1 : HX} {t : Nat} {x : Int32} {f : Nat → (Nat → Int32) ⊕ (Nat → Int64) ⊕ (Nat → UInt32) ⊕ (Nat → UInt64) ⊕ (Nat → Option Nat)} {a : Nat} (g : hx_newa h t x f = some (a, h1)) : gx_le h h1 := by
  obtain ⟨_, _, e⟩ := gx_newaP g
  cases e
  exact gx_le.push
theorem gx_le_arr {h : HX} {a : Nat} {z : Nat × vp_A} {e : gx_E} (h0 : h.2.2 a = some (true, .inl z)) : gx_le h (hx_set h a e) := gx_le.set h0 fun ci fs he => by cases he
theorem hx_le_si {h h1 : HX} {a : Nat} {i x : Int32} (g : hx_si h a i x = some h1) : gx_le h h1 := by
  unfold hx_si at g
  split at g
  · rename_i e
    split at g
    · cases g; exact gx_le_arr e
    · cases g
  · cases g
theorem hx_le_sb {h h1 : HX} {a : Nat} {i x : Int32} (g : hx_sb h a i x = some h1) : gx_le h h1 := by
  unfold hx_sb at g
  split at g
  · rename_i e
    split at g
    · cases g; exact gx_le_arr e
    · cases g
  · cases g
theorem hx_le_sz {h h1 : HX} {a : Nat} {i x : Int32} (g : hx_sz h a i x = some h1) : gx_le h h1 := by
  unfold hx_sz at g
  split at g
  · rename_i e
    split at g
    · cases g; exact gx_le_arr e
    · cases g
  · cases g
theorem hx_le_sl {h h1 : HX} {a : Nat} {i : Int32} {x : Int64} (g : hx_sl h a i x = some h1) : gx_le h h1 := by
  unfold hx_sl at g
  split at g
  · rename_i e
    split at g
    · cases g; exact gx_le_arr e
    · cases g
  · cases g
theorem hx_le_sr {h h1 : HX} {a t : Nat} {cis : List Nat} {i : Int32} {r : Option Nat} (g : hx_sr h a t cis i r = some h1) : gx_le h h1 := by
  unfold hx_sr at g
  split at g
  · rename_i e
    split at g
    · cases g; exact gx_le_arr e
    · cases g
  · cases g
theorem hx_le_cpy {h h1 : HX} {a0 a : Nat} {sp dp n : Int32} (g : hx_cpy h a0 sp a dp n = some h1) : gx_le h h1 := by
  unfold hx_cpy at g
  split at g
  · rename_i e
    split at g
    · cases g; exact gx_le_arr e
    · cases g
  · cases g
theorem hx_le_clone {h h1 : HX} {a t b : Nat} (g : hx_clone h a t = some (b, h1)) : gx_le h h1 := by
  unfold hx_clone at g
  split at g
  · split at g
    · cases g; exact gx_le.push
    · cases g
  · cases g
