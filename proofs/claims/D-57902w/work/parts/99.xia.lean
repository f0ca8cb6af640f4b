/-! the component as its constructor makes it: the parts of the definition -/
set_option maxRecDepth 100000
set_option linter.unusedVariables false
set_option linter.unusedSimpArgs false
/-- behind the constructor's first part -/
def GP (D : gx_D) (g : HX) (a d : Nat) : Prop := (∃ fs, g.2.2 a = some (true, .inr (9, fs)) ∧ fs[5]? = some (va_rf (some d)) ∧ fs[6]? = some (va_rf (some (d + 9)))) ∧ hx_wf g ∧ (a < d ∧ d + 17 ≤ g.1) ∧ ∀ (i : Nat) (cs : List Nat), kcs[i]? = some cs → hx_str (hxW 0 (SW a d) g) (D.2.2.1 i) cs
def IX (D : gx_D) (g : HX) (bs : List Nat) (h : HX) (a d : Nat) (S : SP) (k : Nat) : Prop := GP D g a d ∧ hx_wf h ∧ SL D 0 bs h a d S ∧ (∀ b, b ∈ bs → g.1 ≤ b ∧ b < h.1) ∧ (∀ z, z < g.1 → ¬ (d ≤ z ∧ z < d + 17) → h.2.2 z = g.2.2 z) ∧ g.1 ≤ h.1 ∧ h.1 ≤ g.1 + k ∧ g.2.1 ≤ h.2.1 ∧ h.2.1 ≤ g.2.1 + 12 * k
section XI
variable {D : gx_D} {g h : HX} {a d k : Nat} {bs : List Nat} {S : SP}
theorem IX.mov {h1 : HX} {L : List Nat} {j : Nat} (H : IX D g bs h a d S k) (X : kx h h1 L j) (hL : ∀ z, z ∈ L → z ∈ bs ∨ h.1 ≤ z) : IX D g bs h1 a d S (k + j) := by
  obtain ⟨p, w, s, b, f, s1, s2, s3, s4⟩ := H
  obtain ⟨x1, x2, x3, x4, x5, x6⟩ := id X
  refine ⟨p, x2, s.mov w X (fun z hz => (hL z hz).elim (fun c => Or.inr (Or.inl c)) (fun c => Or.inr (Or.inr c))), fun z hz => ⟨(b z hz).1, Nat.lt_of_lt_of_le (b z hz).2 x1⟩, fun z hz nz => ?_, by omega, by omega, by omega, by omega⟩
  rw [x3 z (by omega) (fun m => ?_), f z hz nz]
  rcases hL z m with c | c
  · have := (b z c).1; omega
  · omega
theorem IX.new {m ci : Nat} {fs : List Value} (H : IX D g bs h a d S k) (hm : m ≤ 12) : ∃ h1, hx_new h m ci fs = some (h.1, h1) ∧ kx h h1 [] 1 ∧ h1.2.2 h.1 = some (true, .inr (ci, fs)) ∧ h1.1 = h.1 + 1 ∧ IX D g (h.1 :: bs) h1 a d S (k + 1) := by
  obtain ⟨h1, e1, e2, e3, e4⟩ := x_new (ci := ci) (fs := fs) H.2.1 hm
  refine ⟨h1, e1, e2, e3, e4, ?_⟩
  have M := H.mov e2 (by simp)
  obtain ⟨p, w, s, b, r⟩ := M
  refine ⟨p, w, (H.2.2.1.in H.2.1).mov H.2.1 e2 (by simp), fun z hz => ?_, r⟩
  rcases List.mem_cons.1 hz with hz | hz
  · exact ⟨by rw [hz]; exact H.2.2.2.2.2.1, by omega⟩
  · exact b z hz
theorem IX.fin2 {b ci : Nat} {h1 : HX} {fs fs' : List Value} (H : IX D g (b :: bs) h a d S k) (nb : b ∉ bs) (ho : h.2.2 b = some (true, .inr (ci, fs))) (K : hx_kp h h1 [b]) (ho1 : h1.2.2 b = some (true, .inr (ci, fs'))) : IX D g bs (hx_fz1 h1 b) a d S k ∧ kx h (hx_fz1 h1 b) [b] 0 ∧ hx_ob (hxW 0 (bs ++ SW a d) (hx_fz1 h1 b)) b ci fs' := by
  have lt := H.2.2.1.2.1
  have l2 := H.2.2.1.2.2.1.2 b (by simp)
  have bl := H.2.1.lt ho
  have X1 := kx.b H.2.1 bl K
  have X := X1.tr (kx.fz X1.2.1)
  have M := H.mov X (by simp)
  obtain ⟨p, w, s, bb, r⟩ := M
  refine ⟨⟨p, w, s.out, fun z hz => bb z (List.mem_cons_of_mem _ hz), r⟩, X, ⟨false, ?_⟩⟩
  rw [hxW_of (Nat.zero_le _) (fun m => ?_), fz1_o ho1]
  rcases List.mem_append.1 m with m | m
  · exact nb m
  · rw [SW_m] at m
    omega
theorem IX.rd (H : IX D g bs h a d S k) : hx_is h a [9] = some () ∧ hx_gr h a [9] 5 = some (some d) ∧ hx_gr h a [9] 6 = some (some (d + 9)) := by
  obtain ⟨⟨⟨fs, e, f5, f6⟩, _, ⟨ad, dg⟩, _⟩, w, s, b, f, _⟩ := H
  have o := hx_ob.mk ((f a (by omega) (by omega)).trans e)
  exact ⟨o.is (by decide), o.gr (by decide) f5, o.gr (by decide) f6⟩
theorem IX.lit {i : Nat} {cs : List Nat} (H : IX D g bs h a d S k) (hi : kcs[i]? = some cs) : hx_str (hxW 0 (bs ++ SW a d) h) (D.2.2.1 i) cs := (H.1.2.2.2 i cs hi).sub fun z c e => by
  obtain ⟨⟨_, wg, ⟨ad, dg⟩, _⟩, w, s, b, f, _⟩ := H
  obtain ⟨e1, e2, e3⟩ := hxW_at e
  have zl := wg.lt e3
  rw [SW_m] at e2
  rw [hxW_of e1 (fun m => ?_), f z zl (fun q => e2 (Or.inr q)), e3]
  rcases List.mem_append.1 m with m | m
  · have := (b z m).1; omega
  · exact e2 (SW_m.1 m)
theorem IX.win {h1 : HX} {L : List Nat} {S' : SP} (H : IX D g [] h a d S k) (X : kx h h1 L 0) (hL : ∀ z, z ∈ L → d ≤ z ∧ z < d + 17) (s' : SL D 0 [] h1 a d S') : IX D g [] h1 a d S' k := by
  obtain ⟨p, w, s, b, f, s1, s2, s3, s4⟩ := H
  obtain ⟨x1, x2, x3, x4, x5, x6⟩ := id X
  exact ⟨p, x2, s', by simp, fun z hz nz => (x3 z (by omega) (fun m => nz (hL z m))).trans (f z hz nz), by omega, by omega, by omega, by omega⟩
theorem IX.addS (H : IX D g [] h a d S k) {i : Nat} {cs : List Nat} (hi : kcs[i]? = some cs) (hl : S.1.sn.length < 10) : ∃ h1, f_J2_add D h (d + 1) (some (D.2.2.1 i)) = some (true, h1) ∧ IX D g [] h1 a d ((S.1.sn ++ [cs], S.1.en, S.1.vn, S.1.ts, S.1.ini), S.2) k := by
  have lt := H.2.2.1.lt
  have hs := H.lit hi
  obtain ⟨v, y, z, f, ho, _⟩ := hs.sub hxW_sub
  obtain ⟨s1, s2, s3, s4, s5, s6, s7, s8, s9, s10, s11⟩ := id H.2.2.1
  obtain ⟨h1, e1, k1, w1⟩ := s5.add (D := D) hl (by decide) ho (by decide)
  have X := kx.kp H.2.1 (by simp; omega) k1
  have v1 := X.W (n := 0) (W := [] ++ SW a d) H.2.1 (fun z hz => Or.inl (by
    simp only [List.nil_append, List.mem_cons, List.not_mem_nil, or_false] at hz ⊢
    rw [SW_m]
    omega))
  have at' : ∀ z, z ≠ d + 1 → z ≠ d + 1 + 1 → h1.2.2 z = h.2.2 z := fun z z1 z2 => k1.2.2 z (by simp [z1, z2])
  exact ⟨h1, e1, H.win X (by simp; omega) (H.2.2.1.chg H.2.1 X (by simp; try omega) ((at' _ (by omega) (by omega)).trans s4) (w1 _ (fun _ _ => hx_str.sub v1) (hs.sub v1)) (s6.mov (fun _ _ => hx_str.sub v1) (at' _ (by omega) (by omega)) (at' _ (by omega) (by omega))) (s7.mov (fun _ _ => hx_str.sub v1) (at' _ (by omega) (by omega)) (at' _ (by omega) (by omega))) (s8.mov (fun _ _ => hx_tr.sub v1) (at' _ (by omega) (by omega)) (at' _ (by omega) (by omega))) (s10.mov (fun _ _ => hx_iv.sub v1) (at' _ (by omega) (by omega)) (at' _ (by omega) (by omega))))⟩
theorem IX.addE (H : IX D g [] h a d S k) {i : Nat} {cs : List Nat} (hi : kcs[i]? = some cs) (hl : S.1.en.length < 8) : ∃ h1, f_J2_add D h (d + 3) (some (D.2.2.1 i)) = some (true, h1) ∧ IX D g [] h1 a d ((S.1.sn, S.1.en ++ [cs], S.1.vn, S.1.ts, S.1.ini), S.2) k := by
  have lt := H.2.2.1.lt
  have hs := H.lit hi
  obtain ⟨v, y, z, f, ho, _⟩ := hs.sub hxW_sub
  obtain ⟨s1, s2, s3, s4, s5, s6, s7, s8, s9, s10, s11⟩ := id H.2.2.1
  obtain ⟨h1, e1, k1, w1⟩ := s6.add (D := D) hl (by decide) ho (by decide)
  have X := kx.kp H.2.1 (by simp; omega) k1
  have v1 := X.W (n := 0) (W := [] ++ SW a d) H.2.1 (fun z hz => Or.inl (by
    simp only [List.nil_append, List.mem_cons, List.not_mem_nil, or_false] at hz ⊢
    rw [SW_m]
    omega))
  have at' : ∀ z, z ≠ d + 3 → z ≠ d + 3 + 1 → h1.2.2 z = h.2.2 z := fun z z1 z2 => k1.2.2 z (by simp [z1, z2])
  exact ⟨h1, e1, H.win X (by simp; omega) (H.2.2.1.chg H.2.1 X (by simp; try omega) ((at' _ (by omega) (by omega)).trans s4) (s5.mov (fun _ _ => hx_str.sub v1) (at' _ (by omega) (by omega)) (at' _ (by omega) (by omega))) (w1 _ (fun _ _ => hx_str.sub v1) (hs.sub v1)) (s7.mov (fun _ _ => hx_str.sub v1) (at' _ (by omega) (by omega)) (at' _ (by omega) (by omega))) (s8.mov (fun _ _ => hx_tr.sub v1) (at' _ (by omega) (by omega)) (at' _ (by omega) (by omega))) (s10.mov (fun _ _ => hx_iv.sub v1) (at' _ (by omega) (by omega)) (at' _ (by omega) (by omega))))⟩
theorem IX.addV (H : IX D g [] h a d S k) {i : Nat} {cs : List Nat} (hi : kcs[i]? = some cs) (hl : S.1.vn.length < 3) : ∃ h1, f_J2_add D h (d + 5) (some (D.2.2.1 i)) = some (true, h1) ∧ IX D g [] h1 a d ((S.1.sn, S.1.en, S.1.vn ++ [cs], S.1.ts, S.1.ini), S.2) k := by
  have lt := H.2.2.1.lt
  have hs := H.lit hi
  obtain ⟨v, y, z, f, ho, _⟩ := hs.sub hxW_sub
  obtain ⟨s1, s2, s3, s4, s5, s6, s7, s8, s9, s10, s11⟩ := id H.2.2.1
  obtain ⟨h1, e1, k1, w1⟩ := s7.add (D := D) hl (by decide) ho (by decide)
  have X := kx.kp H.2.1 (by simp; omega) k1
  have v1 := X.W (n := 0) (W := [] ++ SW a d) H.2.1 (fun z hz => Or.inl (by
    simp only [List.nil_append, List.mem_cons, List.not_mem_nil, or_false] at hz ⊢
    rw [SW_m]
    omega))
  have at' : ∀ z, z ≠ d + 5 → z ≠ d + 5 + 1 → h1.2.2 z = h.2.2 z := fun z z1 z2 => k1.2.2 z (by simp [z1, z2])
  exact ⟨h1, e1, H.win X (by simp; omega) (H.2.2.1.chg H.2.1 X (by simp; try omega) ((at' _ (by omega) (by omega)).trans s4) (s5.mov (fun _ _ => hx_str.sub v1) (at' _ (by omega) (by omega)) (at' _ (by omega) (by omega))) (s6.mov (fun _ _ => hx_str.sub v1) (at' _ (by omega) (by omega)) (at' _ (by omega) (by omega))) (w1 _ (fun _ _ => hx_str.sub v1) (hs.sub v1)) (s8.mov (fun _ _ => hx_tr.sub v1) (at' _ (by omega) (by omega)) (at' _ (by omega) (by omega))) (s10.mov (fun _ _ => hx_iv.sub v1) (at' _ (by omega) (by omega)) (at' _ (by omega) (by omega))))⟩
theorem IX.addT (H : IX D g [] h a d S k) {b ci : Nat} {fs : List Value} {cs : TR} (ho : hx_ob h b ci fs) (hci : ci ∈ [11, 13, 15, 2]) (hs : hx_tr D (hxW 0 ([] ++ SW a d) h) b cs) (hl : S.1.ts.length < 24) : ∃ h1, f_J2_add D h (d + 7) (some b) = some (true, h1) ∧ IX D g [] h1 a d ((S.1.sn, S.1.en, S.1.vn, S.1.ts ++ [cs], S.1.ini), S.2) k := by
  have lt := H.2.2.1.lt
  obtain ⟨s1, s2, s3, s4, s5, s6, s7, s8, s9, s10, s11⟩ := id H.2.2.1
  obtain ⟨h1, e1, k1, w1⟩ := s8.add (D := D) hl (by decide) ho hci
  have X := kx.kp H.2.1 (by simp; omega) k1
  have v1 := X.W (n := 0) (W := [] ++ SW a d) H.2.1 (fun z hz => Or.inl (by
    simp only [List.nil_append, List.mem_cons, List.not_mem_nil, or_false] at hz ⊢
    rw [SW_m]
    omega))
  have at' : ∀ z, z ≠ d + 7 → z ≠ d + 7 + 1 → h1.2.2 z = h.2.2 z := fun z z1 z2 => k1.2.2 z (by simp [z1, z2])
  exact ⟨h1, e1, H.win X (by simp; omega) (H.2.2.1.chg H.2.1 X (by simp; try omega) ((at' _ (by omega) (by omega)).trans s4) (s5.mov (fun _ _ => hx_str.sub v1) (at' _ (by omega) (by omega)) (at' _ (by omega) (by omega))) (s6.mov (fun _ _ => hx_str.sub v1) (at' _ (by omega) (by omega)) (at' _ (by omega) (by omega))) (s7.mov (fun _ _ => hx_str.sub v1) (at' _ (by omega) (by omega)) (at' _ (by omega) (by omega))) (w1 _ (fun _ _ => hx_tr.sub v1) (hs.sub v1)) (s10.mov (fun _ _ => hx_iv.sub v1) (at' _ (by omega) (by omega)) (at' _ (by omega) (by omega))))⟩
theorem IX.addI (H : IX D g [] h a d S k) {b ci : Nat} {fs : List Value} {cs : IV} (ho : hx_ob h b ci fs) (hci : ci ∈ [11, 13, 15, 2]) (hs : hx_iv D (hxW 0 ([] ++ SW a d) h) b cs) (hl : S.2.length < 12) : ∃ h1, f_J2_add D h (d + 10) (some b) = some (true, h1) ∧ IX D g [] h1 a d ((S.1.sn, S.1.en, S.1.vn, S.1.ts, S.1.ini), S.2 ++ [cs]) k := by
  have lt := H.2.2.1.lt
  obtain ⟨s1, s2, s3, s4, s5, s6, s7, s8, s9, s10, s11⟩ := id H.2.2.1
  obtain ⟨h1, e1, k1, w1⟩ := s10.add (D := D) hl (by decide) ho hci
  have X := kx.kp H.2.1 (by simp; omega) k1
  have v1 := X.W (n := 0) (W := [] ++ SW a d) H.2.1 (fun z hz => Or.inl (by
    simp only [List.nil_append, List.mem_cons, List.not_mem_nil, or_false] at hz ⊢
    rw [SW_m]
    omega))
  have at' : ∀ z, z ≠ d + 10 → z ≠ d + 10 + 1 → h1.2.2 z = h.2.2 z := fun z z1 z2 => k1.2.2 z (by simp [z1, z2])
  exact ⟨h1, e1, H.win X (by simp; omega) (H.2.2.1.chg H.2.1 X (by simp; try omega) ((at' _ (by omega) (by omega)).trans s4) (s5.mov (fun _ _ => hx_str.sub v1) (at' _ (by omega) (by omega)) (at' _ (by omega) (by omega))) (s6.mov (fun _ _ => hx_str.sub v1) (at' _ (by omega) (by omega)) (at' _ (by omega) (by omega))) (s7.mov (fun _ _ => hx_str.sub v1) (at' _ (by omega) (by omega)) (at' _ (by omega) (by omega))) (s8.mov (fun _ _ => hx_tr.sub v1) (at' _ (by omega) (by omega)) (at' _ (by omega) (by omega))) (w1 _ (fun _ _ => hx_iv.sub v1) (hs.sub v1)))⟩
end XI
