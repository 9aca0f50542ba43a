set_option maxRecDepth 100000
/-! ===== THE TWIN PRINTS ===== -/
theorem lvC_z {c : Int32} : lvC c = 0 ↔ c = 60 ∨ c = 61 := by
  constructor
  · intro h
    unfold lvC at h
    repeat' split at h
    all_goals first | (exact absurd h (by decide)) | simp_all
  · rintro (h | h) <;> subst h <;> decide
theorem nd39 {a b y : Int32} {σ : cS} : fX11_needed_39 a b y σ = some (if lvC a = 2 ∨ a = 33 then 3 else if lvC a = 1 then 2 else if lvC a = 0 then (if y ≤ 1 then 1 else y) else y, σ) := by
  have h79 : ∀ z, fX11_needed_79 a b z σ = some (if lvC a = 2 ∨ a = 33 then 3 else z, σ) := by
    intro z
    unfold fX11_needed_79
    rw [tTim, bd_s, i10]
    by_cases h : lvC a = 2
    · rw [if_pos h, if_pos (Or.inl h)]
    · rw [if_neg h]
      by_cases h3 : a = 33
      · rw [if_pos h3, if_pos (Or.inr h3)]
      · rw [if_neg h3, if_neg (by rintro (q | q); exact h q; exact h3 q)]
  have h52 : fX11_needed_52 a b y σ = some (if lvC a = 2 ∨ a = 33 then 3 else if lvC a = 1 then 2 else if y ≤ 1 then 1 else y, σ) := by
    unfold fX11_needed_52
    by_cases hy : y ≤ 1
    · rw [if_pos hy, tPlu, bd_s, i10, h79, h79, if_pos hy]
      split
      · rfl
      · rfl
    · rw [if_neg hy, tPlu, bd_s, i10, h79, h79, if_neg hy]
      split
      · rfl
      · rfl
  unfold fX11_needed_39
  rw [h52]
  by_cases h0 : lvC a = 0
  · have hx : (if a = 60 then some (if lvC a = 2 ∨ a = 33 then 3 else if lvC a = 1 then 2 else if y ≤ 1 then 1 else y, σ) else if a = 61 then some (if lvC a = 2 ∨ a = 33 then 3 else if lvC a = 1 then 2 else if y ≤ 1 then 1 else y, σ) else bd (fX11_isPlus a σ) fun r2 σ1 => if r2 = 0 then fX11_needed_79 a b y σ1 else fX11_needed_79 a b 2 σ1) = some (if lvC a = 2 ∨ a = 33 then 3 else if lvC a = 1 then 2 else if y ≤ 1 then 1 else y, σ) := by
      rcases lvC_z.mp h0 with h | h
      · rw [if_pos h]
      · rw [if_neg (by rw [h]; decide), if_pos h]
    rw [hx, if_pos h0]
  · have n1 : a ≠ 60 := fun q => h0 (lvC_z.mpr (Or.inl q))
    have n2 : a ≠ 61 := fun q => h0 (lvC_z.mpr (Or.inr q))
    rw [if_neg n1, if_neg n2, tPlu, bd_s, i10, h79, h79, if_neg h0]
    split <;> rfl
theorem tNeed {a b : Int32} {σ : cS} : fX11_needed a b σ = some (nd a b, σ) := by
  have e21 : fX11_needed_21 a b σ = fX11_needed_39 a b (if lvC b = 2 then 2 else 1) σ := by
    unfold fX11_needed_21
    rw [tTim, bd_s, i10]
    split <;> rfl
  have e : fX11_needed a b σ = fX11_needed_39 a b (if lvC b = 2 then 2 else if lvC b = 0 ∨ lvC b = 1 then 1 else 0) σ := by
    unfold fX11_needed
    rw [e21]
    by_cases h0 : lvC b = 0
    · have h2 : ¬ lvC b = 2 := by rw [h0]; decide
      rw [if_neg h2, if_neg h2, if_pos (Or.inl h0)]
      rcases lvC_z.mp h0 with h | h
      · rw [if_pos h]
      · rw [if_neg (by rw [h]; decide), if_pos h]
    · have n1 : b ≠ 60 := fun q => h0 (lvC_z.mpr (Or.inl q))
      have n2 : b ≠ 61 := fun q => h0 (lvC_z.mpr (Or.inr q))
      rw [if_neg n1, if_neg n2, tPlu, bd_s, i10]
      by_cases h1 : lvC b = 1
      · have h2 : ¬ lvC b = 2 := by rw [h1]; decide
        rw [if_pos h1, if_neg h2, if_pos (Or.inr h1)]
        rw [e21, if_neg h2]
      · rw [if_neg h1, tTim, bd_s, i10]
        by_cases h2 : lvC b = 2
        · rw [if_pos h2, if_pos h2]
        · rw [if_neg h2, if_neg h2, if_neg (by rintro (q | q); exact h0 q; exact h1 q)]
  rw [e, nd39]
  unfold nd
  congr 2
  split
  · rfl
  · split
    · rfl
    · split
      · by_cases h2 : lvC b = 2
        · rw [if_pos h2, if_pos h2]; decide
        · rw [if_neg h2, if_neg h2]; split <;> decide
      · rfl
