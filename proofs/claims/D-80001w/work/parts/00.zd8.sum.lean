set_option maxRecDepth 100000
/-! ===== sums over layers ===== -/
def sW (g : Cfg → Nat) : List En → Nat
  | [] => 0
  | e :: L => e.2.2.1 * g e.2.1 + sW g L
def sM (g : Cfg → Nat) : List En → Nat
  | [] => 0
  | e :: L => e.2.2.2 * g e.2.1 + sM g L
def mX (g : Cfg → Nat) : List En → Nat
  | [] => 0
  | e :: L => max (g e.2.1) (mX g L)
def aP (P : Cfg → Prop) (L : List En) : Prop := ∃ e ∈ L, P e.2.1
theorem sW_app (g : Cfg → Nat) (A : List En) : ∀ B, sW g (A ++ B) = sW g A + sW g B := by
  induction A with
  | nil => intro B; simp [sW]
  | cons e A ih => intro B; simp only [List.cons_append, sW, ih]; omega
theorem sM_app (g : Cfg → Nat) (A : List En) : ∀ B, sM g (A ++ B) = sM g A + sM g B := by
  induction A with
  | nil => intro B; simp [sM]
  | cons e A ih => intro B; simp only [List.cons_append, sM, ih]; omega
theorem mX_app (g : Cfg → Nat) (A : List En) : ∀ B, mX g (A ++ B) = max (mX g A) (mX g B) := by
  induction A with
  | nil => intro B; simp [mX]
  | cons e A ih => intro B; simp only [List.cons_append, mX, ih]; omega
section
variable {L L' : List En} {c : Cfg} {w m : Nat}
theorem adL_W (h : adL L c w m L') (g : Cfg → Nat) : sW g L' = sW g L + w * g c := by
  rcases h with ⟨A, B, s, w0, m0, rfl, rfl⟩ | ⟨s, rfl⟩
  · rw [sW_app, sW_app]
    simp only [sW]
    rw [Nat.add_mul]; omega
  · rw [sW_app]; simp only [sW]; omega
theorem adL_M (h : adL L c w m L') (g : Cfg → Nat) : sM g L' = sM g L + m * g c := by
  rcases h with ⟨A, B, s, w0, m0, rfl, rfl⟩ | ⟨s, rfl⟩
  · rw [sM_app, sM_app]
    simp only [sM]
    rw [Nat.add_mul]; omega
  · rw [sM_app]; simp only [sM]; omega
theorem adL_X (h : adL L c w m L') (g : Cfg → Nat) : mX g L' = max (mX g L) (g c) := by
  rcases h with ⟨A, B, s, w0, m0, rfl, rfl⟩ | ⟨s, rfl⟩
  · rw [mX_app, mX_app]
    simp only [mX]; omega
  · rw [mX_app]; simp only [mX]; omega
theorem adL_P (h : adL L c w m L') (P : Cfg → Prop) : aP P L' ↔ aP P L ∨ P c := by
  rcases h with ⟨A, B, s, w0, m0, rfl, rfl⟩ | ⟨s, rfl⟩
  · unfold aP
    constructor
    · rintro ⟨e, he, hp⟩
      rcases List.mem_append.mp he with q | q
      · exact Or.inl ⟨e, List.mem_append_left _ q, hp⟩
      · rcases List.mem_cons.mp q with q | q
        · rw [q] at hp; exact Or.inr hp
        · exact Or.inl ⟨e, List.mem_append_right _ (List.mem_cons_of_mem _ q), hp⟩
    · rintro (⟨e, he, hp⟩ | hp)
      · rcases List.mem_append.mp he with q | q
        · exact ⟨e, List.mem_append_left _ q, hp⟩
        · rcases List.mem_cons.mp q with q | q
          · rw [q] at hp; exact ⟨(s, c, w0 + w, m0 + m), by simp, hp⟩
          · exact ⟨e, List.mem_append_right _ (List.mem_cons_of_mem _ q), hp⟩
      · exact ⟨(s, c, w0 + w, m0 + m), by simp, hp⟩
  · unfold aP
    constructor
    · rintro ⟨e, he, hp⟩
      rcases List.mem_append.mp he with q | q
      · exact Or.inl ⟨e, q, hp⟩
      · simp at q; rw [q] at hp; exact Or.inr hp
    · rintro (⟨e, he, hp⟩ | hp)
      · exact ⟨e, List.mem_append_left _ he, hp⟩
      · exact ⟨(s, c, w, m), by simp, hp⟩
/-- every entry stands for a run -/
def mP (L : List En) : Prop := ∀ e ∈ L, 1 ≤ e.2.2.2
theorem adL_mP (h : adL L c w m L') (hm : 1 ≤ m) (hL : mP L) : mP L' := by
  rcases h with ⟨A, B, s, w0, m0, rfl, rfl⟩ | ⟨s, rfl⟩
  · intro e he
    rcases List.mem_append.mp he with q | q
    · exact hL e (List.mem_append_left _ q)
    · rcases List.mem_cons.mp q with q | q
      · rw [q]; simp only; omega
      · exact hL e (List.mem_append_right _ (List.mem_cons_of_mem _ q))
  · intro e he
    rcases List.mem_append.mp he with q | q
    · exact hL e q
    · simp at q; rw [q]; exact hm
/-- runs of at most 7 draws: no more than 3^7 in a layer -/
def g3 (c : Cfg) : Nat := 3 ^ (7 - c.2.2.1)
theorem g3_len (L : List En) : mP L → L.length ≤ sM g3 L := by
  induction L with
  | nil => intro _; exact Nat.zero_le _
  | cons e L ih =>
    intro h
    have h1 := h e List.mem_cons_self
    have h2 := ih (fun x hx => h x (List.mem_cons_of_mem _ hx))
    have h3 : 1 ≤ g3 e.2.1 := Nat.pow_pos (by omega)
    have h4 : 1 ≤ e.2.2.2 * g3 e.2.1 := Nat.mul_pos h1 h3
    simp only [sM, List.length_cons]
    omega
end
