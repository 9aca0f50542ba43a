set_option maxRecDepth 100000
/-! ===== what leaves add up to ===== -/
def lA : List Lf → Nat
  | [] => 0
  | l :: L => (if l.1 ≤ 1 then 1 else 0) + lA L
def lS : List Lf → Nat
  | [] => 0
  | l :: L => (if l.1 = 0 then 1 else 0) + lS L
def lG (a : Int32) : List Lf → Nat
  | [] => 0
  | l :: L => (if l.1 = 0 ∧ l.2.2.2.1 = a then l.2.2.2.2 else 0) + lG a L
def lX : List Lf → Nat
  | [] => 0
  | l :: L => max (if l.1 ≤ 1 then l.2.1 else 0) (lX L)
def lD : List Lf → Nat
  | [] => 0
  | l :: L => max (if l.1 ≤ 1 then l.2.2.1 else 0) (lD L)
def lK (k : Nat) (L : List Lf) : Prop := ∃ l ∈ L, l.1 = k
theorem lA_app (A : List Lf) : ∀ B, lA (A ++ B) = lA A + lA B := by
  induction A with
  | nil => intro B; simp [lA]
  | cons e A ih => intro B; simp only [List.cons_append, lA, ih]; omega
theorem lS_app (A : List Lf) : ∀ B, lS (A ++ B) = lS A + lS B := by
  induction A with
  | nil => intro B; simp [lS]
  | cons e A ih => intro B; simp only [List.cons_append, lS, ih]; omega
theorem lG_app (a : Int32) (A : List Lf) : ∀ B, lG a (A ++ B) = lG a A + lG a B := by
  induction A with
  | nil => intro B; simp [lG]
  | cons e A ih => intro B; simp only [List.cons_append, lG, ih]; omega
theorem lX_app (A : List Lf) : ∀ B, lX (A ++ B) = max (lX A) (lX B) := by
  induction A with
  | nil => intro B; simp [lX]
  | cons e A ih => intro B; simp only [List.cons_append, lX, ih]; omega
theorem lD_app (A : List Lf) : ∀ B, lD (A ++ B) = max (lD A) (lD B) := by
  induction A with
  | nil => intro B; simp [lD]
  | cons e A ih => intro B; simp only [List.cons_append, lD, ih]; omega
theorem lK_app {k : Nat} {A B : List Lf} : lK k (A ++ B) ↔ lK k A ∨ lK k B := by
  unfold lK
  constructor
  · rintro ⟨l, h, e⟩
    rcases List.mem_append.mp h with q | q
    · exact Or.inl ⟨l, q, e⟩
    · exact Or.inr ⟨l, q, e⟩
  · rintro (⟨l, h, e⟩ | ⟨l, h, e⟩)
    · exact ⟨l, List.mem_append_left _ h, e⟩
    · exact ⟨l, List.mem_append_right _ h, e⟩
theorem sc_nil (w : Nat) : sc w [] = [] := rfl
theorem lA_sc (w : Nat) (L : List Lf) : lA (sc w L) = lA L := by
  induction L with
  | nil => rfl
  | cons l L ih => show (if l.1 ≤ 1 then 1 else 0) + lA (sc w L) = _; rw [ih]; rfl
theorem lS_sc (w : Nat) (L : List Lf) : lS (sc w L) = lS L := by
  induction L with
  | nil => rfl
  | cons l L ih => show (if l.1 = 0 then 1 else 0) + lS (sc w L) = _; rw [ih]; rfl
theorem lX_sc (w : Nat) (L : List Lf) : lX (sc w L) = lX L := by
  induction L with
  | nil => rfl
  | cons l L ih => show max (if l.1 ≤ 1 then l.2.1 else 0) (lX (sc w L)) = _; rw [ih]; rfl
theorem lD_sc (w : Nat) (L : List Lf) : lD (sc w L) = lD L := by
  induction L with
  | nil => rfl
  | cons l L ih => show max (if l.1 ≤ 1 then l.2.2.1 else 0) (lD (sc w L)) = _; rw [ih]; rfl
theorem lG_sc (a : Int32) (w : Nat) (L : List Lf) : lG a (sc w L) = w * lG a L := by
  induction L with
  | nil => rfl
  | cons l L ih =>
    show (if l.1 = 0 ∧ l.2.2.2.1 = a then w * l.2.2.2.2 else 0) + lG a (sc w L) = w * ((if l.1 = 0 ∧ l.2.2.2.1 = a then l.2.2.2.2 else 0) + lG a L)
    rw [ih, Nat.mul_add]
    split <;> simp
theorem lK_sc {k w : Nat} {L : List Lf} : lK k (sc w L) ↔ lK k L := by
  unfold lK sc
  constructor
  · rintro ⟨l, h, e⟩
    obtain ⟨x, hx, rfl⟩ := List.mem_map.mp h
    exact ⟨x, hx, e⟩
  · rintro ⟨l, h, e⟩
    exact ⟨_, List.mem_map.mpr ⟨l, h, rfl⟩, e⟩
