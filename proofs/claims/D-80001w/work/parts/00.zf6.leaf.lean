set_option maxRecDepth 100000
/-! ===== facts of leaves ===== -/
section
variable {C : List Cd} {ch : List Int32} {cl : Int32 → Int32 → Int32} {nu : Int32 → Int32} {cs cs' : Nat → Int32} {Y : List Sy}
theorem act_cs (hC : cOk C ch) (h : ∀ k, k < ch.length → cs k = cs' k) {p : Nat} (hp : p < C.length) (v : List Int32) (d : Nat) (ok : Bool) : act C cl nu cs p v d ok = act C cl nu cs' p v d ok := by
  unfold act
  by_cases h2 : (cdA C p).1 = 2
  · obtain ⟨x, x1, x2, x3⟩ := (hC.2.2.2.2.2.1 _ (cdA_mem hp)).2 h2
    rw [x3, nz_tn (by omega), h x x1]
  · rw [if_neg h2, if_neg h2]
/-- only the model's own settings matter -/
theorem lvs_cs (hC : cOk C ch) (h : ∀ k, k < ch.length → cs k = cs' k) : ∀ (k : Nat) (c : Cfg) (n : Nat), lvs C cl nu cs Y k c n = lvs C cl nu cs' Y k c n := by
  intro k
  induction k with
  | zero => intro c n; rfl
  | succ k ih =>
    intro c n
    show (if _ then _ else _) = (if _ then _ else _)
    by_cases h1 : C.length ≤ jp C c.1
    · rw [if_pos h1, if_pos h1]
    rw [if_neg h1, if_neg h1]
    by_cases h2 : n = 60
    · rw [if_pos h2, if_pos h2]
    rw [if_neg h2, if_neg h2]
    by_cases h3 : (cdA C (jp C c.1)).1 = 1
    · rw [if_pos h3, if_pos h3]
      by_cases h4 : c.2.2.1 = 7
      · rw [if_pos h4, if_pos h4]
      rw [if_neg h4, if_neg h4]
      congr 1
      funext j
      rw [ih]
    · rw [if_neg h3, if_neg h3, act_cs hC h (by omega), ih]
theorem act_v (hC : cOk C ch) (hJ : ∀ p, p ≤ C.length → jp C p ≤ C.length) (hcs : ∀ k, k < 3 → nV (cs k)) (hcl : ∀ c a, nV a → nV (cl c a)) (hnu : ∀ a, nV a → nV (nu a)) {p : Nat} (hp : p < C.length) {v : List Int32} (hv : vOk v) (d : Nat) (ok : Bool) (h1 : (cdA C p).1 ≠ 1) (h5 : (cdA C p).1 ≠ 5) : vOk (act C cl nu cs p v d ok).2.1 ∧ (act C cl nu cs p v d ok).1 ≤ C.length := by
  have hval : sV (cdA C p).2.2.1 → nV (val (vof v) cl nu (cdA C p).2.2.1) := fun hs => val_n ⟨fun a _ => vof_n hv a, hcl, hnu⟩ (sV_wf hs).1
  have hg := hC.2.2.2.1
  unfold act
  rcases hC.2.2.1 _ (cdA_mem hp) with ⟨kk, -, hs⟩ | ⟨kk, -⟩ | ⟨kk, -⟩ | ⟨kk, -, hs⟩ | ⟨kk, -, hs⟩ | ⟨kk, -⟩
  · rw [if_pos kk]; exact ⟨vOk_set hv (hval hs), by simp only; omega⟩
  · exact absurd kk h1
  · obtain ⟨x, x1, x2, x3⟩ := (hC.2.2.2.2.2.1 _ (cdA_mem hp)).2 kk
    rw [if_neg (by rw [kk]; decide), if_pos kk, x3, nz_tn (by omega)]; exact ⟨vOk_set hv (hcs x x2), by simp only; omega⟩
  · rw [if_neg (by rw [kk]; decide), if_neg (by rw [kk]; decide), if_pos kk]; exact ⟨hv, by simp only; omega⟩
  · obtain ⟨g, gg1, gg2, gg3⟩ := (hg p _ (cdA_get hp)).1 kk
    have hC1 := hC.1
    rw [if_neg (by rw [kk]; decide), if_neg (by rw [kk]; decide), if_neg (by rw [kk]; decide), gg1, nz_tn (by omega)]
    refine ⟨hv, ?_⟩
    simp only
    split <;> omega
  · exact absurd kk h5
/-- values of leaves are fit -/
theorem lvs_n (hC : cOk C ch) (hY : sV Y) (hcs : ∀ k, k < 3 → nV (cs k)) (hcl : ∀ c a, nV a → nV (cl c a)) (hnu : ∀ a, nV a → nV (nu a)) : ∀ (k : Nat) (c : Cfg) (n : Nat), c.1 ≤ C.length → vOk c.2.1 → ∀ l ∈ lvs C cl nu cs Y k c n, l.1 = 0 → nV l.2.2.2.1 := by
  intro k
  induction k with
  | zero => intro c n _ _ l hl; cases hl
  | succ k ih =>
    intro c n hpc hv l hl h0
    obtain ⟨j1, j2⟩ := jp_le hC.2.2.2.1 hC.1 hpc
    have hl : l ∈ (if _ then _ else _ : List Lf) := hl
    by_cases h1 : C.length ≤ jp C c.1
    · rw [if_pos h1, List.mem_singleton] at hl
      rw [hl] at h0 ⊢
      simp only at h0 ⊢
      by_cases hok : c.2.2.2 = true
      · rw [if_pos hok]; exact val_n ⟨fun a _ => vof_n hv a, hcl, hnu⟩ (sV_wf hY).1
      · rw [if_neg hok] at h0; exact absurd h0 (by decide)
    rw [if_neg h1] at hl
    by_cases h2 : n = 60
    · rw [if_pos h2, List.mem_singleton] at hl
      rw [hl] at h0; exact absurd h0 (by simp only; omega)
    rw [if_neg h2] at hl
    by_cases h3 : (cdA C (jp C c.1)).1 = 1
    · rw [if_pos h3] at hl
      by_cases h4 : c.2.2.1 = 7
      · rw [if_pos h4, List.mem_singleton] at hl
        rw [hl] at h0; exact absurd h0 (by simp only; omega)
      rw [if_neg h4] at hl
      obtain ⟨j, hj, hl⟩ := List.mem_flatMap.mp hl
      split at hl
      · cases hl
      · obtain ⟨x, hx, rfl⟩ := List.mem_map.mp hl
        exact ih _ _ (by simp only; omega) (vOk_set hv ⟨j, by have := List.mem_range.mp hj; omega, rfl⟩) x hx h0
    · rw [if_neg h3] at hl
      obtain ⟨a1, a2⟩ := act_v (cl := cl) (nu := nu) hC (fun p hp => (jp_le hC.2.2.2.1 hC.1 hp).1) hcs hcl hnu (show jp C c.1 < C.length by omega) hv c.2.2.1 c.2.2.2 h3 (j2 (by omega))
      exact ih _ _ a2 a1 l hl h0
theorem lT_sc (w : Nat) (L : List Lf) : lT (sc w L) = w * lT L := by
  induction L with
  | nil => rfl
  | cons l L ih =>
    show (if l.1 = 0 then w * l.2.2.2.2 else 0) + lT (sc w L) = w * ((if l.1 = 0 then l.2.2.2.2 else 0) + lT L)
    rw [ih, Nat.mul_add]
    split <;> simp
/-- all weights together -/
theorem lvs_t (hC : cOk C ch) : ∀ (k : Nat) (c : Cfg) (n : Nat), c.2.2.1 ≤ 7 → lT (lvs C cl nu cs Y k c n) ≤ 16 ^ (7 - c.2.2.1) := by
  intro k
  induction k with
  | zero => intro c n _; exact Nat.zero_le _
  | succ k ih =>
    intro c n hd
    show lT (if _ then _ else _) ≤ _
    by_cases h1 : C.length ≤ jp C c.1
    · rw [if_pos h1]
      cases c.2.2.2 <;> simp [lT]
    rw [if_neg h1]
    by_cases h2 : n = 60
    · rw [if_pos h2]; exact Nat.zero_le _
    rw [if_neg h2]
    by_cases h3 : (cdA C (jp C c.1)).1 = 1
    · rw [if_pos h3]
      by_cases h4 : c.2.2.1 = 7
      · rw [if_pos h4]; exact Nat.zero_le _
      rw [if_neg h4]
      have hs := (dw_16 (hC.2.2.1 _ (cdA_mem (show jp C c.1 < C.length by omega))) (hC.2.2.2.2.2.1 _ (cdA_mem (by omega))) h3).1
      have one : ∀ j, lT (if dw (cdA C (jp C c.1)) j = 0 then [] else sc (dw (cdA C (jp C c.1)) j) (lvs C cl nu cs Y k (jp C c.1 + 1, c.2.1.set (cdA C (jp C c.1)).2.1.toNatClampNeg (nz j), c.2.2.1 + 1, c.2.2.2) (n + 1))) ≤ dw (cdA C (jp C c.1)) j * 16 ^ (7 - (c.2.2.1 + 1)) := by
        intro j
        split
        · exact Nat.zero_le _
        · rw [lT_sc]
          exact Nat.mul_le_mul_left _ (ih _ _ (by simp only; omega))
      rw [show List.range 3 = [0, 1, 2] from rfl]
      simp only [List.flatMap_cons, List.flatMap_nil, List.append_nil]
      rw [lT_app, lT_app]
      have e : 16 ^ (7 - c.2.2.1) = (dw (cdA C (jp C c.1)) 0 + dw (cdA C (jp C c.1)) 1 + dw (cdA C (jp C c.1)) 2) * 16 ^ (7 - (c.2.2.1 + 1)) := by
        rw [hs, show 7 - c.2.2.1 = 7 - (c.2.2.1 + 1) + 1 by omega, Nat.pow_succ, Nat.mul_comm]
      rw [e, Nat.add_mul, Nat.add_mul]
      have := one 0
      have := one 1
      have := one 2
      omega
    · rw [if_neg h3]
      have hd2 : (act C cl nu cs (jp C c.1) c.2.1 c.2.2.1 c.2.2.2).2.2.1 = c.2.2.1 := by rw [act_d]
      have := ih (act C cl nu cs (jp C c.1) c.2.1 c.2.2.1 c.2.2.2) (n + 1) (by rw [hd2]; exact hd)
      rw [hd2] at this
      exact this
/-- seen leaves have a weight -/
theorem lvs_w : ∀ (k : Nat) (c : Cfg) (n : Nat), ∀ l ∈ lvs C cl nu cs Y k c n, l.1 = 0 → 1 ≤ l.2.2.2.2 := by
  intro k
  induction k with
  | zero => intro c n l hl; cases hl
  | succ k ih =>
    intro c n l hl h0
    have hl : l ∈ (if _ then _ else _ : List Lf) := hl
    by_cases h1 : C.length ≤ jp C c.1
    · rw [if_pos h1, List.mem_singleton] at hl
      rw [hl]; exact Nat.pow_pos (by omega)
    rw [if_neg h1] at hl
    by_cases h2 : n = 60
    · rw [if_pos h2, List.mem_singleton] at hl
      rw [hl] at h0; exact absurd h0 (by simp only; omega)
    rw [if_neg h2] at hl
    by_cases h3 : (cdA C (jp C c.1)).1 = 1
    · rw [if_pos h3] at hl
      by_cases h4 : c.2.2.1 = 7
      · rw [if_pos h4, List.mem_singleton] at hl
        rw [hl] at h0; exact absurd h0 (by simp only; omega)
      rw [if_neg h4] at hl
      obtain ⟨j, hj, hl⟩ := List.mem_flatMap.mp hl
      split at hl
      · cases hl
      · next hw =>
        obtain ⟨x, hx, rfl⟩ := List.mem_map.mp hl
        have := ih _ _ x hx h0
        exact Nat.mul_pos (by omega) this
    · rw [if_neg h3] at hl
      exact ih _ _ l hl h0
theorem lS_T (L : List Lf) : (∀ l ∈ L, l.1 = 0 → 1 ≤ l.2.2.2.2) → lS L ≤ lT L ∧ (lS L = 0 → lT L = 0) := by
  induction L with
  | nil => intro _; exact ⟨Nat.le_refl _, fun _ => rfl⟩
  | cons l L ih =>
    intro h
    obtain ⟨i1, i2⟩ := ih (fun x hx => h x (List.mem_cons_of_mem _ hx))
    have h0 := h l List.mem_cons_self
    simp only [lS, lT]
    by_cases hl : l.1 = 0
    · have := h0 hl
      rw [if_pos hl, if_pos hl]; exact ⟨by omega, fun z => by omega⟩
    · rw [if_neg hl, if_neg hl]; exact ⟨by omega, fun z => by have := i2 (by omega); omega⟩
end
