section
section
variable {t w b : Int32} {a1 a2 a3 a4 a5 a6 a7 a8 : Nat → Int32}
/-- no register -/
def bh_bad (p : Int32) : Prop := p < 0 ∨ 5 < p
/-- no number of fields -/
def bh_fb (f : Int32) : Prop := f < 1 ∨ 6 < f
theorem bh_56 {p : Int32} (h : nI 6 ≤ p) : 5 < p := by
  have h1 := Int32.le_iff_toInt_le.mp h
  rw [nI_toInt (by decide)] at h1
  have e : (5 : Int32).toInt = 5 := by decide
  exact Int32.lt_iff_toInt_lt.mpr (by omega)
theorem bh_67 {p : Int32} (h : nI 7 ≤ p) : 6 < p := by
  have h1 := Int32.le_iff_toInt_le.mp h
  rw [nI_toInt (by decide)] at h1
  have e : (6 : Int32).toInt = 6 := by decide
  exact Int32.lt_iff_toInt_lt.mpr (by omega)
theorem bh_01 {p : Int32} (h : p < 0) : p < 1 := by
  have h1 := Int32.lt_iff_toInt_lt.mp h
  have e : (0 : Int32).toInt = 0 := by decide
  have e1 : (1 : Int32).toInt = 1 := by decide
  exact Int32.lt_iff_toInt_lt.mpr (by omega)
theorem bh_reg (p : Int32) : bh_bad p ∨ ∃ k : Nat, k < 6 ∧ p = nI k := by
  rcases pk_ix p (n := 6) (by decide) with h | h | h
  · exact Or.inl (Or.inl h)
  · exact Or.inl (Or.inr (bh_56 h))
  · exact Or.inr h
theorem bh_flds (f : Int32) : bh_fb f ∨ ∃ m : Nat, 1 ≤ m ∧ m ≤ 6 ∧ f = nI m := by
  rcases pk_ix f (n := 7) (by decide) with h | h | ⟨j, hj, h⟩
  · exact Or.inl (Or.inl (bh_01 h))
  · exact Or.inl (Or.inr (bh_67 h))
  · by_cases e : j = 0
    · refine Or.inl (Or.inl ?_)
      rw [h, e]
      decide
    · exact Or.inr ⟨j, by omega, by omega, h⟩
theorem bh_brF {p : Int32} {A B : Prop} (h : bh_bad p) (a : A) : (p < 0 → A) ∧ (¬ p < 0 → ((5 < p → A) ∧ (¬ 5 < p → B))) :=
  ⟨fun _ => a, fun n => ⟨fun _ => a, fun n2 => h.elim (fun z => absurd z n) (fun z => absurd z n2)⟩⟩
theorem bh_brT {k : Nat} {A B : Prop} (hk : k < 6) (c : B) : (nI k < 0 → A) ∧ (¬ nI k < 0 → ((5 < nI k → A) ∧ (¬ 5 < nI k → B))) :=
  br_f (nI_pos (by omega)) (br_f (show ¬ nI 5 < nI k from nI_nlt (by omega) (by decide)) c)
theorem bh_nbad {k : Nat} (hk : k < 6) : ¬ bh_bad (nI k) := by
  intro h
  rcases h with h | h
  · exact nI_pos (by omega) h
  · exact (show ¬ nI 5 < nI k from nI_nlt (by omega) (by decide)) h
theorem bh_isF {post : Int32 → Prop} {p : Int32} (h : bh_bad p) (hp : post 0) : wpX_isRegister post () p := by
  unfold wpX_isRegister
  exact bh_brF h hp
theorem bh_isT {post : Int32 → Prop} {k : Nat} (hk : k < 6) (hp : post 1) : wpX_isRegister post () (nI k) := by
  unfold wpX_isRegister
  exact bh_brT hk hp
theorem bh_numF {post : Int32 → St2 → Prop} {p v : Int32} (h : bh_bad p) (hp : post (-1) (t, w, b, a1, a2, a3, a4, a5, a6, a7, a8)) : wpX_number post (t, w, b, a1, a2, a3, a4, a5, a6, a7, a8) p v := by
  unfold wpX_number
  exact bh_isF h (br_t rfl hp)
theorem bh_numT {post : Int32 → St2 → Prop} {k : Nat} {v : Int32} (hk : k < 6) (hp : post 0 (t, w, b, a1, a2, upd a3 k v, upd a4 k 0, a5, a6, a7, a8)) : wpX_number post (t, w, b, a1, a2, a3, a4, a5, a6, a7, a8) (nI k) v := by
  unfold wpX_number
  rw [nI_clamp (show k < 2 ^ 31 by omega)]
  exact bh_isT hk (br_f (by decide) ⟨pk_in k 6 hk, nm_e ⟨pk_in k 6 hk, nm_e hp⟩⟩)
theorem bh_valF {post : Int32 → Prop} {p : Int32} (h : bh_bad p) (hp : post 0) : wpX_value post (t, w, b, a1, a2, a3, a4, a5, a6, a7, a8) p := by
  unfold wpX_value
  exact bh_isF h (br_t rfl hp)
theorem bh_valT {post : Int32 → Prop} {k : Nat} (hk : k < 6) (h4 : a4 k = 0) (hp : post (a3 k)) : wpX_value post (t, w, b, a1, a2, a3, a4, a5, a6, a7, a8) (nI k) := by
  unfold wpX_value
  rw [nI_clamp (show k < 2 ^ 31 by omega)]
  exact bh_isT hk (br_f (by decide) ⟨pk_in k 6 hk, br_t h4 ⟨pk_in k 6 hk, hp⟩⟩)
theorem bh_fldF {post : Int32 → Prop} {p : Int32} (h : bh_bad p) (hp : post (-1)) : wpX_fields post (t, w, b, a1, a2, a3, a4, a5, a6, a7, a8) p := by
  unfold wpX_fields
  exact bh_isF h (br_t rfl hp)
theorem bh_fldT0 {post : Int32 → Prop} {k : Nat} (hk : k < 6) (h4 : a4 k = 0) (hp : post 0) : wpX_fields post (t, w, b, a1, a2, a3, a4, a5, a6, a7, a8) (nI k) := by
  unfold wpX_fields
  rw [nI_clamp (show k < 2 ^ 31 by omega)]
  exact bh_isT hk (br_f (by decide) ⟨pk_in k 6 hk, br_t h4 hp⟩)
theorem bh_fldT1 {post : Int32 → Prop} {k : Nat} (hk : k < 6) (h4 : ¬ a4 k = 0) (h3 : a3 k = 0) (hp : post (a1 0)) : wpX_fields post (t, w, b, a1, a2, a3, a4, a5, a6, a7, a8) (nI k) := by
  unfold wpX_fields
  dsimp only
  rw [nI_clamp (show k < 2 ^ 31 by omega), h3, show (0 : Int32).toNatClampNeg = 0 from pk_cl 0]
  exact bh_isT hk (br_f (by decide) ⟨pk_in k 6 hk, br_f h4 ⟨pk_in k 6 hk, pk_in 0 72 (by decide), hp⟩⟩)
theorem bh_sameF0 {post : Int32 → Prop} {p q : Int32} (h : bh_bad p) (hp : post (-1)) : wpX_same post (t, w, b, a1, a2, a3, a4, a5, a6, a7, a8) p q := by
  unfold wpX_same
  exact bh_isF h (br_t rfl hp)
theorem bh_sameF1 {post : Int32 → Prop} {k : Nat} {q : Int32} (hk : k < 6) (h : bh_bad q) (hp : post (-1)) : wpX_same post (t, w, b, a1, a2, a3, a4, a5, a6, a7, a8) (nI k) q := by
  unfold wpX_same
  exact bh_isT hk (br_f (by decide) (bh_isF h (br_t rfl hp)))
theorem bh_sameT {post : Int32 → Prop} {k j : Nat} (hk : k < 6) (hj : j < 6) (h1 : a4 k = a4 j → a3 k = a3 j → post 1) (h0 : ¬ (a4 k = a4 j ∧ a3 k = a3 j) → post 0) : wpX_same post (t, w, b, a1, a2, a3, a4, a5, a6, a7, a8) (nI k) (nI j) := by
  have ck : (nI k).toNatClampNeg = k := nI_clamp (by omega)
  have cj : (nI j).toNatClampNeg = j := nI_clamp (by omega)
  unfold wpX_same
  rw [ck, cj]
  exact bh_isT hk (br_f (by decide) (bh_isT hj (br_f (by decide) ⟨pk_in k 6 hk, pk_in j 6 hj, br_c (fun e => ⟨pk_in k 6 hk, pk_in j 6 hj, br_c (fun e3 => h1 e e3) (fun e3 => h0 (fun z => e3 z.2))⟩) (fun e => h0 (fun z => e z.1))⟩)))
theorem bh_77 {post : Int32 → St2 → Prop} {k m : Nat} (hk : k < 6) (hm : m ≤ 6) (h0 : a1 0 = nI m)
    (H : ∀ c1 c2 : Nat → Int32, c1 0 = nI m → post 0 (nI (m + 1), w, b, c1, c2, upd a3 k 0, upd a4 k 1, a5, a6, a7, a8)) :
    ∃ n, wX_make_77 post (nI k) (nI m) 0 0 w b n (nI 1) a1 a2 a3 a4 a5 a6 a7 a8 := by
  have z : (0 : Int32) + nI m = nI m := (nI_add 0 m).trans (by rw [Nat.zero_add])
  exact pk_loop (σ := (Nat → Int32) × (Nat → Int32)) (fun n i s => wX_make_77 post (nI k) (nI m) 0 0 w b n (nI i) s.1 s.2 a3 a4 a5 a6 a7 a8) (fun i s => 1 ≤ i ∧ s.1 0 = nI m) (m + 1) 1 (a1, a2) (by omega) ⟨Nat.le_refl 1, h0⟩
    (fun n s h => pk_lt m (m + 1) (fun _ => nm_r (e' := nI (m + 1)) (by rw [z, nI_1]) ⟨pk_in k 6 hk, nm_r (e' := upd a3 k 0) (by rw [nI_clamp (by omega)]) ⟨pk_in k 6 hk, nm_r (e' := upd a4 k 1) (by rw [nI_clamp (by omega)]) (H s.1 s.2 h.2)⟩⟩) (fun y => absurd y (by omega)) (hx := z))
    (fun n i s hi h hw => pk_lt m i (fun y => absurd y (by omega)) (fun _ => ⟨pk_in i 72 (by omega), nm_e ⟨pk_in i 72 (by omega), nm_e (nm_r (nI_1 i) (hw (upd s.1 (nI i).toNatClampNeg 0, upd s.2 (nI i).toNatClampNeg 0) ⟨by omega, by
      have h1 := h.1
      show upd s.1 (nI i).toNatClampNeg 0 0 = nI m
      rw [nI_clamp (by omega), pk_un (by omega)]
      exact h.2⟩))⟩⟩) (hx := z))
theorem bh_makeF1 {post : Int32 → St2 → Prop} {p f : Int32} (h : bh_bad p) (hp : post (-1) (t, w, b, a1, a2, a3, a4, a5, a6, a7, a8)) : wpX_make post (t, w, b, a1, a2, a3, a4, a5, a6, a7, a8) p f := by
  unfold wpX_make
  exact bh_isF h (br_t rfl hp)
theorem bh_makeF2 {post : Int32 → St2 → Prop} {k : Nat} {f : Int32} (hk : k < 6) (h : bh_fb f) (hp : post (-1) (t, w, b, a1, a2, a3, a4, a5, a6, a7, a8)) : wpX_make post (t, w, b, a1, a2, a3, a4, a5, a6, a7, a8) (nI k) f := by
  unfold wpX_make
  exact bh_isT hk (br_f (by decide) ⟨fun _ => hp, fun n => ⟨fun y => h.elim (fun x => absurd x n) (fun x => absurd y (Int32.not_le.mpr x)), fun _ => hp⟩⟩)
theorem bh_makeT {post : Int32 → St2 → Prop} {k m : Nat} (hk : k < 6) (h1 : 1 ≤ m) (hm : m ≤ 6)
    (H : ∀ c1 c2 : Nat → Int32, c1 0 = nI m → post 0 (nI (m + 1), w, b, c1, c2, upd a3 k 0, upd a4 k 1, a5, a6, a7, a8)) :
    wpX_make post (0, w, b, a1, a2, a3, a4, a5, a6, a7, a8) (nI k) (nI m) := by
  have le : nI m + 1 ≤ (72 : Int32) - 0 := by
    rw [nI_1, show (72 : Int32) - 0 = nI 72 by decide]
    exact nI_le (by omega) (by decide)
  have c0 : (0 : Int32).toNatClampNeg = 0 := pk_cl 0
  have G : wX_make_37 post (nI k) (nI m) 0 w b a1 a2 a3 a4 a5 a6 a7 a8 := by
    unfold wX_make_37
    rw [c0]
    exact br_t le ⟨pk_in 0 72 (by decide), nm_e ⟨pk_in 0 72 (by decide), nm_e (nm_r (e' := nI 1) (by decide) (bh_77 hk hm pk_us H))⟩⟩
  unfold wpX_make
  exact bh_isT hk (br_f (by decide) (br_f (show ¬ nI m < nI 1 from nI_nlt h1 (by omega)) (br_t (show nI m ≤ nI 6 from nI_le hm (by decide)) (br_t le G))))
end
end
section
section
variable {post : Int32 → St0 → Prop} {mc ms kc ks : Nat} {t w b : Int32} {a1 a2 a3 a4 a5 a6 a7 a8 : Nat → Int32}
/-- the law's flag for the other register -/
def bh_o (f x : Int32) : Prop := (f = 0 ∧ bh_bad x) ∨ (f = 1 ∧ ∃ j : Nat, j < 6 ∧ x = nI j)
/-- what the law expects of same, both registers being registers -/
def bh_sm (x0 x2 x3 x7 z : Int32) : Prop := (z = 1 ∧ (x3 = x0 ∨ (x7 = 0 ∧ x2 = 0))) ∨ (z = 0 ∧ ¬ x3 = x0 ∧ ¬ (x7 = 0 ∧ x2 = 0))
theorem bh_237 {z : Int32} (H : post 1 ()) : wL_lawOf_237 post mc ms z z kc ks := by
  unfold wL_lawOf_237
  exact br_t rfl H
theorem bh_236 (H : post 1 ()) : wL_lawOf_236 post mc ms (-1) kc ks := by
  unfold wL_lawOf_236
  exact bh_237 H
theorem bh_212_0 {x0 x3 x6 z : Int32} (H : post 1 ()) (hb : bh_bad x0) : wL_lawOf_212 post mc ms x0 x3 0 x6 z kc ks t w b a1 a2 a3 a4 a5 a6 a7 a8 := by
  unfold wL_lawOf_212
  exact bh_sameF0 hb (br_t rfl (bh_236 H))
theorem bh_212_1 {k : Nat} {x3 z : Int32} (H : post 1 ()) (hk : k < 6) (hb : bh_bad x3) : wL_lawOf_212 post mc ms (nI k) x3 1 0 z kc ks t w b a1 a2 a3 a4 a5 a6 a7 a8 := by
  unfold wL_lawOf_212
  exact bh_sameF1 hk hb (br_f (by decide) (br_t rfl (bh_236 H)))
theorem bh_212_T {k j : Nat} {z : Int32} (H : post 1 ()) (hk : k < 6) (hj : j < 6) (h1 : a4 k = a4 j → a3 k = a3 j → z = 1) (h0 : ¬ (a4 k = a4 j ∧ a3 k = a3 j) → z = 0) :
    wL_lawOf_212 post mc ms (nI k) (nI j) 1 1 z kc ks t w b a1 a2 a3 a4 a5 a6 a7 a8 := by
  unfold wL_lawOf_212
  refine bh_sameT hk hj (fun e4 e3 => br_f (by decide) (br_f (by decide) ?_)) (fun n => br_f (by decide) (br_f (by decide) ?_))
  · rw [h1 e4 e3]
    exact bh_237 H
  · rw [h0 n]
    exact bh_237 H
theorem bh_184 {x0 x2 x3 x5 x6 x7 z : Int32} (G : ∀ r, bh_sm x0 x2 x3 x7 r → wL_lawOf_212 post mc ms x0 x3 x5 x6 r kc ks t w b a1 a2 a3 a4 a5 a6 a7 a8) :
    wL_lawOf_184 post mc ms x0 x2 x3 x5 x6 x7 z z kc ks t w b a1 a2 a3 a4 a5 a6 a7 a8 := by
  unfold wL_lawOf_184 wL_lawOf_211
  exact br_t rfl (br_c (fun e => G 1 (Or.inl ⟨rfl, Or.inl e⟩)) (fun n => br_c (fun e7 => br_c (fun e2 => G 1 (Or.inl ⟨rfl, Or.inr ⟨e7, e2⟩⟩)) (fun n2 => G 0 (Or.inr ⟨rfl, n, fun y => n2 y.2⟩))) (fun n7 => G 0 (Or.inr ⟨rfl, n, fun y => n7 y.1⟩))))
/-- the destination is no register -/
theorem bh_A {x0 x1 x2 x3 x6 : Int32} (H : post 1 ()) (hb : bh_bad x0) (ho : bh_o x6 x3) (h3 : ∀ j, a3 j = 0) (h4 : ∀ j, a4 j = 0) :
    wL_lawOf_62 post mc ms x0 x1 x2 x3 0 x6 0 kc ks 0 w b a1 a2 a3 a4 a5 a6 a7 a8 := by
  have T : ∀ z, wL_lawOf_184 post mc ms x0 x2 x3 0 x6 0 z z kc ks 0 w b a1 a2 a3 a4 a5 a6 a7 a8 := fun z => bh_184 (fun r _ => bh_212_0 H hb)
  have G : wL_lawOf_106 post mc ms x0 x1 x2 x3 0 x6 0 0 kc ks 0 w b a1 a2 a3 a4 a5 a6 a7 a8 := by
    unfold wL_lawOf_106 wL_lawOf_107
    refine br_t rfl (bh_makeF1 hb (br_t rfl ?_))
    unfold wL_lawOf_129
    refine br_t rfl ?_
    unfold wpX_used
    refine br_t rfl ?_
    unfold wL_lawOf_149 wL_lawOf_183
    refine br_t rfl ?_
    rcases ho with ⟨e, h⟩ | ⟨e, j, hj, hx⟩
    · exact bh_fldF h (br_t e (T _))
    · subst hx
      subst e
      exact bh_fldT0 hj (h4 j) (br_f (by decide) (br_t rfl (T _)))
  unfold wL_lawOf_62
  refine bh_numF hb (br_t rfl ?_)
  unfold wL_lawOf_81
  refine br_t rfl ?_
  rcases ho with ⟨e, h⟩ | ⟨e, j, hj, hx⟩
  · exact bh_valF h (br_t rfl G)
  · subst hx
    refine bh_valT hj (h4 j) (br_t rfl ?_)
    rw [h3 j]
    exact G
/-- behind number: what stands ahead of make -/
theorem bh_81 {k : Nat} {x1 x2 x3 x6 x7 : Int32} (hk : k < 6) (ho : bh_o x6 x3) (h3k : a3 k = x2) (h3n : ∀ j, j ≠ k → a3 j = 0) (h4 : ∀ j, a4 j = 0)
    (G : ∀ z, wL_lawOf_107 post mc ms (nI k) x1 x2 x3 1 x6 x7 z z kc ks t w b a1 a2 a3 a4 a5 a6 a7 a8) :
    wL_lawOf_81 post mc ms (nI k) x1 x2 x3 1 x6 x7 0 0 kc ks t w b a1 a2 a3 a4 a5 a6 a7 a8 := by
  unfold wL_lawOf_81 wL_lawOf_106
  refine br_t rfl ?_
  rcases ho with ⟨e, h⟩ | ⟨e, j, hj, hx⟩
  · have ne : ¬ x3 = nI k := fun q => bh_nbad hk (by rw [← q]; exact h)
    exact bh_valF h (br_f (by decide) (br_f ne (G 0)))
  · subst hx
    refine bh_valT hj (h4 j) (br_f (by decide) (br_c (fun q => ?_) (fun q => ?_)))
    · have ejk : j = k := (nI_eq (by omega) (by omega)).mp q
      have a3j : a3 j = x2 := by rw [ejk]; exact h3k
      rw [a3j]
      exact G x2
    · have njk : j ≠ k := fun y => q (by rw [y])
      rw [h3n j njk]
      exact G 0
/-- the destination is a register, the number of fields none -/
theorem bh_B {k : Nat} {x1 x2 x3 x6 : Int32} (H : post 1 ()) (hk : k < 6) (hf : bh_fb x1) (ho : bh_o x6 x3) (h3k : a3 k = x2) (h3n : ∀ j, j ≠ k → a3 j = 0) (h4 : ∀ j, a4 j = 0) (z : Int32) :
    wL_lawOf_107 post mc ms (nI k) x1 x2 x3 1 x6 0 z z kc ks 0 w b a1 a2 a3 a4 a5 a6 a7 a8 := by
  unfold wL_lawOf_107
  refine br_t rfl (bh_makeF2 hk hf (br_t rfl ?_))
  unfold wL_lawOf_129
  refine br_t rfl ?_
  unfold wpX_used
  refine br_t rfl ?_
  unfold wL_lawOf_149 wL_lawOf_183
  refine br_t rfl ?_
  rcases ho with ⟨e, h⟩ | ⟨e, j, hj, hx⟩
  · subst e
    exact bh_fldF h (br_t rfl (bh_184 (fun r _ => bh_212_1 H hk h)))
  · subst hx
    subst e
    refine bh_fldT0 hj (h4 j) (br_f (by decide) (br_t rfl (bh_184 (fun r hr => bh_212_T H hk hj (fun _ e3 => ?_) (fun n => ?_)))))
    · rcases hr with ⟨y, _⟩ | ⟨_, q, n2⟩
      · exact y
      · have njk : j ≠ k := fun y => q (by rw [y])
        rw [h3k, h3n j njk] at e3
        exact absurd ⟨rfl, e3⟩ n2
    · rcases hr with ⟨_, q⟩ | ⟨y, _⟩
      · refine absurd ⟨by rw [h4 k, h4 j], ?_⟩ n
        by_cases ejk : j = k
        · rw [ejk]
        · rcases q with q | q
          · exact absurd ((nI_eq (by omega) (by omega)).mp q) ejk
          · rw [h3k, h3n j ejk]
            exact q.2
      · exact y
/-- a register and a number of fields -/
theorem bh_C {k m : Nat} {x2 x3 x6 : Int32} (H : post 1 ()) (hk : k < 6) (h1 : 1 ≤ m) (hm : m ≤ 6) (ho : bh_o x6 x3) (h4 : ∀ j, a4 j = 0) (z : Int32) :
    wL_lawOf_107 post mc ms (nI k) (nI m) x2 x3 1 x6 1 z z kc ks 0 w b a1 a2 a3 a4 a5 a6 a7 a8 := by
  have n1 : ¬ (1 : Int32) = 0 := by decide
  unfold wL_lawOf_107
  refine br_t rfl (bh_makeT hk h1 hm (fun c1 c2 hc => br_f n1 ?_))
  unfold wL_lawOf_129
  refine br_t rfl ?_
  unfold wpX_used
  refine br_f n1 ?_
  unfold wL_lawOf_149 wL_lawOf_183
  refine br_t (nI_1 m).symm ?_
  have k4 : upd a4 k 1 k = 1 := pk_us
  rcases ho with ⟨e, h⟩ | ⟨e, j, hj, hx⟩
  · subst e
    exact bh_fldF h (br_t rfl (bh_184 (fun r _ => bh_212_1 H hk h)))
  · subst hx
    subst e
    by_cases ejk : j = k
    · subst ejk
      refine bh_fldT1 hk (by rw [k4]; exact n1) pk_us (br_f n1 (br_f n1 (br_t rfl ?_)))
      rw [hc]
      refine bh_184 (fun r hr => bh_212_T H hk hk (fun _ _ => ?_) (fun n => absurd ⟨rfl, rfl⟩ n))
      rcases hr with ⟨y, _⟩ | ⟨_, q, _⟩
      · exact y
      · exact absurd rfl q
    · have j4 : upd a4 k 1 j = 0 := by rw [pk_un ejk]; exact h4 j
      have ne : ¬ nI j = nI k := fun q => ejk ((nI_eq (by omega) (by omega)).mp q)
      refine bh_fldT0 hj j4 (br_f n1 (br_f n1 (br_f ne (bh_184 (fun r hr => bh_212_T H hk hj (fun e4 _ => ?_) (fun _ => ?_))))))
      · rw [k4, j4] at e4
        exact absurd e4 n1
      · rcases hr with ⟨_, q | q⟩ | ⟨y, _⟩
        · exact absurd q ne
        · exact absurd q.1 n1
        · exact y
/-- the destination is a register -/
theorem bh_39 {k : Nat} {x1 x2 x3 x6 : Int32} (H : post 1 ()) (hk : k < 6) (ho : bh_o x6 x3) (h3 : ∀ j, a3 j = 0) (h4 : ∀ j, a4 j = 0) :
    wL_lawOf_39 post mc ms (nI k) x1 x2 x3 1 x6 kc ks 0 w b a1 a2 a3 a4 a5 a6 a7 a8 := by
  have n1 : ¬ (1 : Int32) = 0 := by decide
  have k3 : upd a3 k x2 k = x2 := pk_us
  have j3 : ∀ j, j ≠ k → upd a3 k x2 j = 0 := fun j hj => by rw [pk_un hj]; exact h3 j
  have j4 : ∀ j, upd a4 k 0 j = 0 := fun j => by
    by_cases e : j = k
    · rw [e, pk_us]
    · rw [pk_un e]
      exact h4 j
  have N : ∀ x7, (∀ z, wL_lawOf_107 post mc ms (nI k) x1 x2 x3 1 x6 x7 z z kc ks 0 w b a1 a2 (upd a3 k x2) (upd a4 k 0) a5 a6 a7 a8) → wL_lawOf_62 post mc ms (nI k) x1 x2 x3 1 x6 x7 kc ks 0 w b a1 a2 a3 a4 a5 a6 a7 a8 := by
    intro x7 G
    unfold wL_lawOf_62
    exact bh_numT hk (br_f n1 (bh_81 hk ho k3 j3 j4 G))
  unfold wL_lawOf_39 wL_lawOf_61
  refine br_f n1 ?_
  rcases bh_flds x1 with hf | ⟨m, h1, hm, e⟩
  · have F := N 0 (bh_B H hk hf ho k3 j3 j4)
    exact ⟨fun _ => F, fun n => ⟨fun _ => F, fun n2 => hf.elim (fun y => absurd y n) (fun y => absurd y n2)⟩⟩
  · subst e
    exact br_f (show ¬ nI m < nI 1 from nI_nlt h1 (by omega)) (br_f (show ¬ nI 6 < nI m from nI_nlt hm (by decide)) (N 1 (bh_C H hk h1 hm ho j4)))
theorem bh_23 {x0 x1 x2 x3 x5 : Int32} (G : ∀ x6, bh_o x6 x3 → wL_lawOf_39 post mc ms x0 x1 x2 x3 x5 x6 kc ks t w b a1 a2 a3 a4 a5 a6 a7 a8) :
    wL_lawOf_23 post mc ms x0 x1 x2 x3 x5 kc ks t w b a1 a2 a3 a4 a5 a6 a7 a8 := by
  unfold wL_lawOf_23 wL_lawOf_38
  rcases bh_reg x3 with hb | ⟨j, hj, e⟩
  · exact bh_brF hb (G 0 (Or.inl ⟨rfl, hb⟩))
  · subst e
    exact bh_brT hj (G 1 (Or.inr ⟨rfl, j, hj, rfl⟩))
theorem bh_lawOf {p0 p1 p2 p3 : Int32} (H : post 1 ()) : wpL_lawOf post 142 2256 () p0 p1 p2 p3 := by
  unfold wpL_lawOf
  refine ⟨by decide, by decide, 8, 348, by decide, by decide, ?_⟩
  unfold wpX_init
  refine ⟨by decide, by decide, by decide, by decide, by decide, by decide, by decide, by decide, by decide, by decide, by decide, by decide, by decide, by decide, by decide, by decide, ?_⟩
  rcases bh_reg p0 with hb | ⟨k, hk, e⟩
  · refine bh_brF hb ?_
    unfold wL_lawOf_22
    refine bh_23 (fun x6 ho => ?_)
    unfold wL_lawOf_39 wL_lawOf_61
    exact br_t rfl (bh_A H hb ho (fun _ => rfl) (fun _ => rfl))
  · subst e
    exact bh_brT hk (bh_23 (fun x6 ho => bh_39 H hk ho (fun _ => rfl) (fun _ => rfl)))
theorem bh_cell {P : Int32 → Prop} {L : Nat} {xs : Nat → Int32} {k : Nat} (hL : L ≤ 4) (hk : k < 4) (G : ∀ r, P r) : wpL_cellAt P L xs () (nI k) := by
  unfold wpL_cellAt
  exact pk_le L k (fun _ => G _) (fun h => ⟨pk_in k L h, G _⟩)
end
theorem i_vc (xs : Nat → Int32) (L : Nat) (hL : L ≤ 4) : wpL_law (fun r => r = 1) L xs := by
  unfold wpL_law
  exact bh_cell (k := 0) hL (by decide) (fun r1 => bh_cell (k := 1) hL (by decide) (fun r2 => bh_cell (k := 2) hL (by decide) (fun r3 => bh_cell (k := 3) hL (by decide) (fun r4 => ⟨142, 2256, by decide, by decide, bh_lawOf rfl⟩))))
end
