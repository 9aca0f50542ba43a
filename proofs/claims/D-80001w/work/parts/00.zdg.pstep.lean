set_option maxRecDepth 100000
/-! ===== ONE STEP: leaves at once, and runs that go on ===== -/
section
variable (C : List Cd) (cl : Int32 → Int32 → Int32) (nu : Int32 → Int32) (cs : Nat → Int32) (Y : List Sy)
def stH (c : Cfg) (n : Nat) : List Lf :=
  if C.length ≤ jp C c.1 then [(if c.2.2.2 = true then 0 else 1, n, c.2.2.1, if c.2.2.2 = true then val (vof c.2.1) cl nu Y else 0, 16 ^ (7 - c.2.2.1))]
  else if n = 60 then [(2, n, c.2.2.1, 0, 0)]
  else if (cdA C (jp C c.1)).1 = 1 then (if c.2.2.1 = 7 then [(3, n, c.2.2.1, 0, 0)] else [])
  else []
def stS (c : Cfg) (n w m : Nat) : List (Cfg × Nat × Nat) :=
  if C.length ≤ jp C c.1 then []
  else if n = 60 then []
  else if (cdA C (jp C c.1)).1 = 1 then (if c.2.2.1 = 7 then [] else dsu C (jp C c.1) c.2.1 c.2.2.1 c.2.2.2 w m)
  else [(act C cl nu cs (jp C c.1) c.2.1 c.2.2.1 c.2.2.2, w, m)]
/-- weights one: the runs themselves -/
def stG (k : Nat) (n : Nat) : List (Cfg × Nat × Nat) → List Lf
  | [] => []
  | e :: r => sc e.2.1 (lvs C cl nu cs Y k e.1 (n + 1)) ++ stG k n r
theorem stG_app (k n : Nat) (A : List (Cfg × Nat × Nat)) : ∀ B, stG C cl nu cs Y k n (A ++ B) = stG C cl nu cs Y k n A ++ stG C cl nu cs Y k n B := by
  induction A with
  | nil => intro B; rfl
  | cons e A ih => intro B; simp only [List.cons_append, stG, ih, List.append_assoc]
theorem sc_one (L : List Lf) : sc 1 L = L := by
  unfold sc
  conv => rhs; rw [← List.map_id L]
  apply List.map_congr_left
  intro a _
  simp
theorem lvs_st (k : Nat) (c : Cfg) (n : Nat) : lvs C cl nu cs Y (k + 1) c n = stH C cl nu Y c n ++ stG C cl nu cs Y k n (stS C cl nu cs c n 1 1) := by
  show (if C.length ≤ jp C c.1 then _ else _) = _
  unfold stH stS
  by_cases h1 : C.length ≤ jp C c.1
  · rw [if_pos h1, if_pos h1, if_pos h1]; rfl
  rw [if_neg h1, if_neg h1, if_neg h1]
  by_cases h2 : n = 60
  · rw [if_pos h2, if_pos h2, if_pos h2]; rfl
  rw [if_neg h2, if_neg h2, if_neg h2]
  by_cases h3 : (cdA C (jp C c.1)).1 = 1
  · rw [if_pos h3, if_pos h3, if_pos h3]
    by_cases h4 : c.2.2.1 = 7
    · rw [if_pos h4, if_pos h4, if_pos h4]; rfl
    · rw [if_neg h4, if_neg h4, if_neg h4, List.nil_append]
      unfold dsu
      rw [show List.range 3 = [0, 1, 2] from rfl]
      simp only [List.flatMap_cons, List.flatMap_nil, List.append_nil, stG_app]
      congr 1
      · split
        · rfl
        · simp only [stG, Nat.one_mul, List.append_nil]
      · congr 1
        · split
          · rfl
          · simp only [stG, Nat.one_mul, List.append_nil]
        · split
          · rfl
          · simp only [stG, Nat.one_mul, List.append_nil]
  · rw [if_neg h3, if_neg h3, if_neg h3, List.nil_append]
    simp only [stG, sc_one, List.append_nil]
/-- weights of a step's runs -/
def swm (w m : Nat) (A : List (Cfg × Nat × Nat)) : List (Cfg × Nat × Nat) := A.map (fun e => (e.1, w * e.2.1, m * e.2.2))
theorem stS_wm (c : Cfg) (n w m : Nat) : stS C cl nu cs c n w m = swm w m (stS C cl nu cs c n 1 1) := by
  unfold stS
  by_cases h1 : C.length ≤ jp C c.1
  · rw [if_pos h1, if_pos h1]; rfl
  rw [if_neg h1, if_neg h1]
  by_cases h2 : n = 60
  · rw [if_pos h2, if_pos h2]; rfl
  rw [if_neg h2, if_neg h2]
  by_cases h3 : (cdA C (jp C c.1)).1 = 1
  · rw [if_pos h3, if_pos h3]
    by_cases h4 : c.2.2.1 = 7
    · rw [if_pos h4, if_pos h4]; rfl
    · rw [if_neg h4, if_neg h4]
      unfold dsu swm
      rw [List.map_flatMap]
      congr 1
      funext j
      split
      · rfl
      · simp
  · rw [if_neg h3, if_neg h3]
    simp [swm]
theorem swm_1 {w m : Nat} (g : Cfg → Nat) (A : List (Cfg × Nat × Nat)) : sE g (swm w m A) = w * sE g A ∧ sF g (swm w m A) = m * sF g A ∧ sX g (swm w m A) = sX g A := by
  induction A with
  | nil => exact ⟨rfl, rfl, rfl⟩
  | cons e A ih =>
    obtain ⟨i1, i2, i3⟩ := ih
    have h : swm w m (e :: A) = (e.1, w * e.2.1, m * e.2.2) :: swm w m A := rfl
    rw [h]
    refine ⟨?_, ?_, ?_⟩
    · simp only [sE, i1]; rw [Nat.mul_add, Nat.mul_assoc]
    · simp only [sF, i2]; rw [Nat.mul_add, Nat.mul_assoc]
    · simp only [sX, i3]
/-- what goes on adds up -/
theorem stG_s (k n : Nat) (A : List (Cfg × Nat × Nat)) : (∀ e ∈ A, e.2.2 = 1) → 
    lA (stG C cl nu cs Y k n A) = sF (fun c => lA (lvs C cl nu cs Y k c (n + 1))) A ∧ lS (stG C cl nu cs Y k n A) = sF (fun c => lS (lvs C cl nu cs Y k c (n + 1))) A ∧ lX (stG C cl nu cs Y k n A) = sX (fun c => lX (lvs C cl nu cs Y k c (n + 1))) A ∧ lD (stG C cl nu cs Y k n A) = sX (fun c => lD (lvs C cl nu cs Y k c (n + 1))) A ∧ (∀ a, lG a (stG C cl nu cs Y k n A) = sE (fun c => lG a (lvs C cl nu cs Y k c (n + 1))) A) ∧ (∀ z, lK z (stG C cl nu cs Y k n A) ↔ ∃ e ∈ A, lK z (lvs C cl nu cs Y k e.1 (n + 1))) := by
  induction A with
  | nil => intro _; exact ⟨rfl, rfl, rfl, rfl, fun _ => rfl, fun z => by simp [stG, lK]⟩
  | cons e A ih =>
    intro h
    obtain ⟨i1, i2, i3, i4, i5, i6⟩ := ih (fun x hx => h x (List.mem_cons_of_mem _ hx))
    have he := h e List.mem_cons_self
    refine ⟨?_, ?_, ?_, ?_, fun a => ?_, fun z => ?_⟩
    · simp only [stG, sF, lA_app, lA_sc, i1, he, Nat.one_mul]
    · simp only [stG, sF, lS_app, lS_sc, i2, he, Nat.one_mul]
    · simp only [stG, sX, lX_app, lX_sc, i3]
    · simp only [stG, sX, lD_app, lD_sc, i4]
    · simp only [stG, sE, lG_app, lG_sc, i5 a]
    · simp only [stG]
      rw [lK_app, lK_sc, i6 z]
      constructor
      · rintro (q | ⟨x, x1, x2⟩)
        · exact ⟨e, List.mem_cons_self, q⟩
        · exact ⟨x, List.mem_cons_of_mem _ x1, x2⟩
      · rintro ⟨x, x1, x2⟩
        rcases List.mem_cons.mp x1 with q | q
        · rw [q] at x2; exact Or.inl x2
        · exact Or.inr ⟨x, q, x2⟩
theorem stS_1 (c : Cfg) (n w m : Nat) : ∀ e ∈ stS C cl nu cs c n w m, e.2.2 = m := by
  intro e he
  unfold stS at he
  split at he
  · cases he
  split at he
  · cases he
  split at he
  · split at he
    · cases he
    · unfold dsu at he
      obtain ⟨j, -, hj⟩ := List.mem_flatMap.mp he
      split at hj
      · cases hj
      · rw [List.mem_singleton] at hj; rw [hj]
  · rw [List.mem_singleton] at he; rw [he]
/-- a step leaves the bound -/
theorem stS_3 (c : Cfg) (n m w : Nat) (hd : c.2.2.1 ≤ 7) : sF g3 (stS C cl nu cs c n w m) ≤ m * g3 c := by
  unfold stS
  split
  · exact Nat.zero_le _
  split
  · exact Nat.zero_le _
  split
  · split
    · exact Nat.zero_le _
    · have e : g3 c = 3 * 3 ^ (7 - (c.2.2.1 + 1)) := by
        unfold g3
        rw [show 7 - c.2.2.1 = 7 - (c.2.2.1 + 1) + 1 by omega, Nat.pow_succ, Nat.mul_comm]
      have one : ∀ j, sF g3 (if dw (cdA C (jp C c.1)) j = 0 then [] else [((jp C c.1 + 1, c.2.1.set (cdA C (jp C c.1)).2.1.toNatClampNeg (nz j), c.2.2.1 + 1, c.2.2.2), w * dw (cdA C (jp C c.1)) j, m)]) ≤ m * 3 ^ (7 - (c.2.2.1 + 1)) := by
        intro j
        split
        · exact Nat.zero_le _
        · simp only [sF, g3]; omega
      have app : ∀ A B, sF g3 (A ++ B) = sF g3 A + sF g3 B := by
        intro A
        induction A with
        | nil => intro B; simp [sF]
        | cons x A ih => intro B; simp only [List.cons_append, sF, ih]; omega
      unfold dsu
      rw [show List.range 3 = [0, 1, 2] from rfl]
      simp only [List.flatMap_cons, List.flatMap_nil, List.append_nil]
      rw [app, app, e, Nat.mul_left_comm]
      have := one 0
      have := one 1
      have := one 2
      omega
  · rename_i h1 h2 h3
    have : (act C cl nu cs (jp C c.1) c.2.1 c.2.2.1 c.2.2.2).2.2.1 = c.2.2.1 := by
      unfold act
      split
      · rfl
      split
      · rfl
      split
      · rfl
      · rfl
    simp only [sF, g3, this]; omega
end
