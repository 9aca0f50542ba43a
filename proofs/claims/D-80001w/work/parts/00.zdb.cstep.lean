set_option maxRecDepth 100000
/-! ===== THE COMPONENT: one step of a run ===== -/
def adLs : List (Cfg × Nat × Nat) → List En → List En → Prop
  | [], L, L' => L' = L
  | e :: r, L, L' => ∃ L1, adL L e.1 e.2.1 e.2.2 L1 ∧ adLs r L1 L'
theorem adLs_app (A : List (Cfg × Nat × Nat)) : ∀ {B : List (Cfg × Nat × Nat)} {L L1 L' : List En}, adLs A L L1 → adLs B L1 L' → adLs (A ++ B) L L' := by
  induction A with
  | nil => intro B L L1 L' h h'; cases h; exact h'
  | cons e A ih =>
    intro B L L1 L' h h'
    obtain ⟨X, x1, x2⟩ := h
    exact ⟨X, x1, ih x2 h'⟩
def sE (g : Cfg → Nat) : List (Cfg × Nat × Nat) → Nat
  | [] => 0
  | e :: r => e.2.1 * g e.1 + sE g r
def sF (g : Cfg → Nat) : List (Cfg × Nat × Nat) → Nat
  | [] => 0
  | e :: r => e.2.2 * g e.1 + sF g r
def sX (g : Cfg → Nat) : List (Cfg × Nat × Nat) → Nat
  | [] => 0
  | e :: r => max (g e.1) (sX g r)
theorem adLs_W {g : Cfg → Nat} (A : List (Cfg × Nat × Nat)) : ∀ {L L' : List En}, adLs A L L' → sW g L' = sW g L + sE g A := by
  induction A with
  | nil => intro L L' h; cases h; rfl
  | cons e A ih =>
    intro L L' h
    obtain ⟨X, x1, x2⟩ := h
    rw [ih x2, adL_W x1]; simp only [sE]; omega
theorem adLs_M {g : Cfg → Nat} (A : List (Cfg × Nat × Nat)) : ∀ {L L' : List En}, adLs A L L' → sM g L' = sM g L + sF g A := by
  induction A with
  | nil => intro L L' h; cases h; rfl
  | cons e A ih =>
    intro L L' h
    obtain ⟨X, x1, x2⟩ := h
    rw [ih x2, adL_M x1]; simp only [sF]; omega
theorem adLs_X {g : Cfg → Nat} (A : List (Cfg × Nat × Nat)) : ∀ {L L' : List En}, adLs A L L' → mX g L' = max (mX g L) (sX g A) := by
  induction A with
  | nil => intro L L' h; cases h; simp [sX]
  | cons e A ih =>
    intro L L' h
    obtain ⟨X, x1, x2⟩ := h
    rw [ih x2, adL_X x1]; simp only [sX]; omega
theorem adLs_P {P : Cfg → Prop} (A : List (Cfg × Nat × Nat)) : ∀ {L L' : List En}, adLs A L L' → (aP P L' ↔ aP P L ∨ ∃ e ∈ A, P e.1) := by
  induction A with
  | nil => intro L L' h; cases h; simp
  | cons e A ih =>
    intro L L' h
    obtain ⟨X, x1, x2⟩ := h
    rw [ih x2, adL_P x1]
    constructor
    · rintro ((h | h) | ⟨x, h1, h2⟩)
      · exact Or.inl h
      · exact Or.inr ⟨e, List.mem_cons_self, h⟩
      · exact Or.inr ⟨x, List.mem_cons_of_mem _ h1, h2⟩
    · rintro (h | ⟨x, h1, h2⟩)
      · exact Or.inl (Or.inl h)
      · rcases List.mem_cons.mp h1 with q | q
        · rw [q] at h2; exact Or.inl (Or.inr h2)
        · exact Or.inr ⟨x, q, h2⟩
theorem adLs_mP (A : List (Cfg × Nat × Nat)) : ∀ {L L' : List En}, adLs A L L' → (∀ e ∈ A, 1 ≤ e.2.2) → mP L → mP L' := by
  induction A with
  | nil => intro L L' h _ hL; cases h; exact hL
  | cons e A ih =>
    intro L L' h hA hL
    obtain ⟨X, x1, x2⟩ := h
    exact ih x2 (fun x hx => hA x (List.mem_cons_of_mem _ hx)) (adL_mP x1 (hA e List.mem_cons_self) hL)
/-! over a keep -/
section
variable {ka wa ma pa kb wb mb pb : Nat} {σ σ' : cS}
theorem fKp.q (h : fKp kb wb mb pb σ σ') (hB : arr kb wb mb pb) : fQ σ σ' := by
  intro o j ho
  rcases hB with ⟨rfl, rfl, rfl, rfl⟩ | ⟨rfl, rfl, rfl, rfl⟩
  · exact h.2.2 o j (by omega) (by omega) (by omega)
  · exact h.2.2 o j (by omega) (by omega) (by omega)
theorem fKp.ru {c : Cfg} (h : fKp kb wb mb pb σ σ') (hB : arr kb wb mb pb) (hr : cRu σ c) : cRu σ' c := by
  obtain ⟨r1, r2, r3, r4, r5⟩ := hr
  have e : ∀ x j, x = 83 ∨ (x = 74 ∧ j ≠ 9) → σ'.1 x j = σ.1 x j := by
    intro x j hx
    rcases hB with ⟨rfl, rfl, rfl, rfl⟩ | ⟨rfl, rfl, rfl, rfl⟩
    · exact h.2.2 x j (by omega) (by omega) (by omega)
    · exact h.2.2 x j (by omega) (by omega) (by omega)
  exact ⟨(e _ _ (by omega)).trans r1, (e _ _ (by omega)).trans r2, (e _ _ (by omega)).trans r3, r4, fun a ha => (e _ _ (by omega)).trans (r5 a ha)⟩
theorem fKp.rs {A S X D : Nat} {lg wd : Bool} {G : Nat → Nat} (h : fKp kb wb mb pb σ σ') (hB : arr kb wb mb pb) (hs : cRs σ A S X D lg wd G) : cRs σ' A S X D lg wd G := by
  obtain ⟨s1, s2, s3, s4, s5, s6, s7, s8, s9⟩ := hs
  have e : ∀ j, j ≠ 9 → σ'.1 74 j = σ.1 74 j := by
    intro j hx
    rcases hB with ⟨rfl, rfl, rfl, rfl⟩ | ⟨rfl, rfl, rfl, rfl⟩
    · exact h.2.2 74 j (by omega) (by omega) (by omega)
    · exact h.2.2 74 j (by omega) (by omega) (by omega)
  have e2 : ∀ a, σ'.2.1 86 a = σ.2.1 86 a := by
    intro a
    rcases hB with ⟨rfl, rfl, rfl, rfl⟩ | ⟨rfl, rfl, rfl, rfl⟩
    · exact h.2.1 86 a (by omega) (by omega)
    · exact h.2.1 86 a (by omega) (by omega)
  exact ⟨(e _ (by omega)).trans s1, (e _ (by omega)).trans s2, (e _ (by omega)).trans s3, (e _ (by omega)).trans s4, (e _ (by omega)).trans s5, (e _ (by omega)).trans s6, s7, s8, fun a ha => (e2 a).trans (s9 a ha)⟩
end
