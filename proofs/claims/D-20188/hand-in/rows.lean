section
/-! ===== the two ages, by the order of the two versions (0, 1, 2: what each answers) ===== -/
/-- a literal equals itself: String.equals answers 1 by the address alone -/
theorem yg_same {post : Int32 → Prop} {u : StJ02238} {k : Nat} (hk : k < nJS) (h : post 1) : wpJ0_equals_9ea2d_59cfb post u k k :=
  ⟨hk, hk, br_t rfl h⟩
/-- Long.compare: less, equal, more -/
theorem yg_cmpL {post : Int32 → Prop} {u : StJ02238} {a b : Int64} (hab : a < b) (h : post (-1)) : wpJ13_compare_74951_48e5c post u a b :=
  br_f (Int64.not_le.mpr hab) h
theorem yg_cmpE {post : Int32 → Prop} {u : StJ02238} {a : Int64} (h : post 0) : wpJ13_compare_74951_48e5c post u a a :=
  br_t (Int64.le_refl a) (br_t rfl h)
theorem yg_cmpG {post : Int32 → Prop} {u : StJ02238} {a b : Int64} (hab : b < a) (h : post 1) : wpJ13_compare_74951_48e5c post u a b :=
  br_t (Int64.le_of_lt hab) (br_f (fun z => Int64.ne_of_lt hab z.symm) h)
/-- Version.compareTo, by the same three cases -/
theorem yg_toL {post : Int32 → Prop} {a b c d : Int64} (hl : a < c ∨ (a = c ∧ b < d)) (h : post (-1)) : wpX0_compareTo post (a, b, c, d) := by
  unfold wpX0_compareTo
  rcases hl with q | ⟨rfl, q⟩
  · refine yg_cmpL q ?_
    exact br_f (by decide) h
  · refine yg_cmpE ?_
    refine br_t rfl ?_
    exact yg_cmpL q h
theorem yg_toE {post : Int32 → Prop} {a b : Int64} (h : post 0) : wpX0_compareTo post (a, b, a, b) := by
  unfold wpX0_compareTo
  refine yg_cmpE ?_
  refine br_t rfl ?_
  exact yg_cmpE h
theorem yg_toG {post : Int32 → Prop} {a b c d : Int64} (hg : c < a ∨ (a = c ∧ d < b)) (h : post 1) : wpX0_compareTo post (a, b, c, d) := by
  unfold wpX0_compareTo
  rcases hg with q | ⟨rfl, q⟩
  · refine yg_cmpG q ?_
    exact br_f (by decide) h
  · refine yg_cmpE ?_
    refine br_t rfl ?_
    exact yg_cmpG q h
/-- LongTexts.age: 2 is "older", 0 is "same", 1 is "newer" -/
theorem yg_ageL {post : Nat → Prop} {a b c d : Int64} (hl : a < c ∨ (a = c ∧ b < d)) (h : post 2) : wpX1_age post (a, b, c, d) := by
  unfold wpX1_age
  refine yg_toL hl ?_
  exact br_f (by decide) h
theorem yg_ageE {post : Nat → Prop} {a b : Int64} (h : post 0) : wpX1_age post (a, b, a, b) := by
  unfold wpX1_age
  refine yg_toE ?_
  exact br_t (by decide) (br_t (by decide) h)
theorem yg_ageG {post : Nat → Prop} {a b c d : Int64} (hg : c < a ∨ (a = c ∧ d < b)) (h : post 1) : wpX1_age post (a, b, c, d) := by
  unfold wpX1_age
  refine yg_toG hg ?_
  exact br_t (by decide) (br_f (by decide) h)
/-- LongTextsPlain.age: 1 is "older", 2 is "same", 0 is "newer" -/
theorem yg_plainL {post : Nat → Prop} {a b c d : Int64} (hl : a < c ∨ (a = c ∧ b < d)) (h : post 1) : wpX2_age post (a, b, c, d) := by
  have e : wX2_age_95 post 1 a b c d := br_f (by decide) h
  rcases hl with q | ⟨rfl, q⟩
  · refine br_t q ?_
    refine br_f (Int64.lt_asymm q) (br_f (Int64.ne_of_lt q) ?_)
    exact br_f (by decide) e
  · refine br_f Int64.lt_irrefl (br_t rfl (br_f (Int64.not_le.mpr q) ?_))
    refine br_f Int64.lt_irrefl (br_t rfl (br_t (Int64.le_of_lt q) ?_))
    exact br_f (by decide) e
theorem yg_plainE {post : Nat → Prop} {a b : Int64} (h : post 2) : wpX2_age post (a, b, a, b) := by
  refine br_f Int64.lt_irrefl (br_t rfl (br_t (Int64.le_refl b) ?_))
  refine br_f Int64.lt_irrefl (br_t rfl (br_t (Int64.le_refl b) ?_))
  exact br_t rfl (br_t rfl h)
theorem yg_plainG {post : Nat → Prop} {a b c d : Int64} (hg : c < a ∨ (a = c ∧ d < b)) (h : post 0) : wpX2_age post (a, b, c, d) := by
  have e : wX2_age_95 post 0 a b c d := br_t rfl h
  rcases hg with q | ⟨rfl, q⟩
  · refine br_f (Int64.lt_asymm q) (br_f (fun z => Int64.ne_of_lt q z.symm) ?_)
    refine br_t q ?_
    exact br_t rfl (br_f (by decide) e)
  · refine br_f Int64.lt_irrefl (br_t rfl (br_t (Int64.le_of_lt q) ?_))
    refine br_f Int64.lt_irrefl (br_t rfl (br_f (Int64.not_le.mpr q) ?_))
    exact br_t rfl (br_f (by decide) e)
/-- any two pairs of longs stand in one of the three cases -/
theorem yg_tri (a b c d : Int64) : (a < c ∨ (a = c ∧ b < d)) ∨ (a = c ∧ b = d) ∨ (c < a ∨ (a = c ∧ d < b)) := by
  by_cases h : a = c
  · by_cases g : b = d
    · exact Or.inr (Or.inl ⟨h, g⟩)
    · rcases Int64.lt_or_lt_of_ne g with q | q
      · exact Or.inl (Or.inr ⟨h, q⟩)
      · exact Or.inr (Or.inr (Or.inr ⟨h, q⟩))
  · rcases Int64.lt_or_lt_of_ne h with q | q
    · exact Or.inl (Or.inl q)
    · exact Or.inr (Or.inr (Or.inl q))
end
section
/-! ===== the law ===== -/
/-- cellAt at a place that a script may have: whatever cell it reads -/
theorem yg_cell {post : Int32 → Prop} {L : Nat} {xs : Nat → Int32} {u : St0} {p : Int32} (k : Nat) (hL : L ≤ 7) (hk : k < 7) (hp : p = nI k) (h : ∀ r, post r) : wpL_cellAt post L xs u p := by
  subst hp
  exact pk_le L k (fun _ => h 0) (fun q => ⟨vp_in_nI q (by omega), h _⟩) rfl rfl (by omega) (by omega)
/-- the second version made, the two ages, equals -/
theorem yg_law52 {post : Int32 → St0 → Prop} {mc ms : Nat} {z0 z1 : Int64} {kc ks : Nat} {a b c d : Int64} (h : post 1 ()) : wL_lawOf_52 post mc ms z0 z1 kc ks a b c d := by
  have n1 : narrow .boolean (.int 1) = .int 1 := rfl
  unfold wL_lawOf_52 wpX0_init
  dsimp only
  rcases yg_tri a b z1 z0 with q | ⟨rfl, rfl⟩ | q
  · refine yg_ageL q ?_
    refine yg_plainL q ?_
    exact yg_same (by decide) ⟨n1, h⟩
  · refine yg_ageE ?_
    refine yg_plainE ?_
    exact yg_same (by decide) ⟨n1, h⟩
  · refine yg_ageG q ?_
    refine yg_plainG q ?_
    exact yg_same (by decide) ⟨n1, h⟩
theorem yg_law28 {post : Int32 → St0 → Prop} {mc ms : Nat} {x0 x2 x4 : Int64} {x6 : Int32} {z0 : Int64} {kc ks : Nat} {a b c d : Int64} (h : post 1 ()) : wL_lawOf_28 post mc ms x0 x2 x4 x6 z0 kc ks a b c d :=
  br_c (fun _ => yg_law52 h) (fun _ => br_c (fun _ => yg_law52 h) (fun _ => yg_law52 h))
theorem yg_lawOf {post : Int32 → St0 → Prop} {u : St0} {p0 p1 p2 : Int64} {p3 : Int32} (h : post 1 ()) : wpL_lawOf post 2 4 u p0 p1 p2 p3 :=
  ⟨by decide, by decide, by decide, by decide, br_c (fun _ => yg_law28 h) (fun _ => yg_law28 h)⟩
theorem i_vc (xs : Nat → Int32) (L : Nat) (hL : L ≤ 7) : wpL_law (fun r => r = 1) L xs := by
  unfold wpL_law
  refine yg_cell 0 hL (by decide) rfl (fun r1 => ?_)
  refine yg_cell 1 hL (by decide) rfl (fun r2 => ?_)
  refine yg_cell 2 hL (by decide) rfl (fun r3 => ?_)
  refine yg_cell 3 hL (by decide) rfl (fun r4 => ?_)
  refine yg_cell 4 hL (by decide) rfl (fun r5 => ?_)
  refine yg_cell 5 hL (by decide) rfl (fun r6 => ?_)
  refine yg_cell 6 hL (by decide) rfl (fun r7 => ?_)
  exact ⟨2, 4, by decide, by decide, yg_lawOf rfl⟩
end
