set_option maxRecDepth 100000
/-! ===== THE VALUE OF A SUM ===== -/
def opv (c a b : Int32) : Int32 := if c = 42 then (a * b) - (a * b) / 100 * 100 else if c = 43 then (a + b) - (a + b) / 100 * 100 else if c = 45 then ((a - b) + 100) - ((a - b) + 100) / 100 * 100 else if c = 47 then (if b = 0 then 0 else a / b) else if c = 60 then (if b ≤ a then 0 else 1) else if c = 61 then (if a = b then 1 else 0) else (if b = 0 then a else a - a / b * b)
theorem cOp (c a b : Int32) (σ : cS) : fX5_operated c a b σ = some (opv c a b, σ) := by
  unfold fX5_operated opv
  by_cases h0 : b = 0
  · simp only [h0, if_true]
    repeat' split
    all_goals rfl
  · have hk : ∀ {β : Type} (K : Option β), ck (!decide (b = 0)) K = K := fun K => by rw [decide_eq_false h0]; rfl
    simp only [h0, if_false, hk]
    repeat' split
    all_goals rfl
theorem tOp (c a b : Int32) (σ : cS) (hc : 0 ≤ lvC c) : fX11_result c a b σ = some (opv c a b, σ) := by
  unfold fX11_result opv
  have hk : ∀ {β : Type} (K : Option β), b ≠ 0 → ck (!decide (b = 0)) K = K := fun K h => by rw [decide_eq_false h]; rfl
  rcases lvC_cases c with ⟨h, -⟩ | ⟨-, h | h⟩ | ⟨-, h | h⟩ | ⟨-, h | h | h⟩
  · rw [h] at hc; exact absurd hc (by decide)
  all_goals
    subst h
    simp (decide := true) only [if_true, if_false]
  · split <;> rfl
  · split <;> rfl
  · by_cases h0 : b = 0
    · rw [if_pos h0, if_pos h0]
    · rw [if_neg h0, if_neg h0, hk _ h0]
  · by_cases h0 : b = 0
    · rw [if_pos h0, if_pos h0]
    · rw [if_neg h0, if_neg h0, hk _ h0]
theorem nz_mod {x m : Nat} (hx : x < 2147483648) (hm : m < 2147483648) : nz x - nz x / nz m * nz m = nz (x % m) := by
  rw [nz_div hx hm, nz_mul, nz_sub (by exact Nat.div_mul_le_self x m)]
  congr 1
  have := Nat.div_add_mod x m
  rw [Nat.mul_comm] at this
  omega
theorem opv_n {c a b : Int32} (ha : nV a) (hb : nV b) : nV (opv c a b) := by
  obtain ⟨x, hx, rfl⟩ := ha
  obtain ⟨y, hy, rfl⟩ := hb
  unfold opv
  rw [show (100 : Int32) = nz 100 from rfl]
  have hxy : x * y < 2147483648 := by
    have : x * y ≤ 99 * 99 := Nat.mul_le_mul (by omega) (by omega)
    omega
  split
  · rw [nz_mul, nz_mod hxy (by omega)]
    exact ⟨_, Nat.mod_lt _ (by omega), rfl⟩
  · split
    · rw [nz_add, nz_mod (by omega) (by omega)]
      exact ⟨_, Nat.mod_lt _ (by omega), rfl⟩
    · split
      · have e : nz x - nz y + nz 100 = nz (x + 100 - y) := by
          rw [← nz_sub (by omega), ← nz_add]
          rw [Int32.sub_eq_add_neg, Int32.sub_eq_add_neg, Int32.add_assoc, Int32.add_assoc, Int32.add_comm (-nz y)]
        rw [e, nz_mod (by omega) (by omega)]
        exact ⟨_, Nat.mod_lt _ (by omega), rfl⟩
      · split
        · split
          · exact ⟨0, by omega, rfl⟩
          · rw [nz_div (by omega) (by omega)]
            exact ⟨x / y, by have := Nat.div_le_self x y; omega, rfl⟩
        · split
          · split
            · exact ⟨0, by omega, rfl⟩
            · exact ⟨1, by omega, rfl⟩
          · split
            · split
              · exact ⟨1, by omega, rfl⟩
              · exact ⟨0, by omega, rfl⟩
            · split
              · exact ⟨x, hx, rfl⟩
              · rw [nz_mod (by omega) (by omega)]
                exact ⟨x % y, by have := Nat.mod_le x y; omega, rfl⟩
/-- a stack's step -/
def ev1 (v : Nat → Int32) (cl : Int32 → Int32 → Int32) (nu : Int32 → Int32) (y : Sy) (S : List Int32) : List Int32 :=
  if y.1 = 0 then y.2 :: S
  else if y.1 = 1 then v y.2.toNatClampNeg :: S
  else if y.1 = 2 then cl y.2 (S.headD 0) :: S.tail
  else if y.1 = 33 then (if S.headD 0 = 0 then 1 else 0) :: S.tail
  else if y.1 = 91 then nu (S.headD 0) :: S.tail
  else opv y.1 (S.tail.headD 0) (S.headD 0) :: S.tail.tail
def evl (v : Nat → Int32) (cl : Int32 → Int32 → Int32) (nu : Int32 → Int32) : List Sy → List Int32 → List Int32
  | [], S => S
  | y :: r, S => evl v cl nu r (ev1 v cl nu y S)
def val (v : Nat → Int32) (cl : Int32 → Int32 → Int32) (nu : Int32 → Int32) (y : List Sy) : Int32 := (evl v cl nu y []).headD 0
/-- signs that may be done: from so many values to so many -/
def wfy : Nat → List Sy → Nat → Prop
  | d, [], e => d = e
  | d, y :: r, e => (((y.1 = 0 ∧ nV y.2) ∨ (y.1 = 1 ∧ ∃ a, a < 6 ∧ y.2 = nz a)) ∧ wfy (d + 1) r e) ∨ (((y.1 = 2 ∧ ∃ a, 65 ≤ a ∧ a ≤ 90 ∧ y.2 = nz a) ∨ y.1 = 33 ∨ y.1 = 91) ∧ 1 ≤ d ∧ wfy d r e) ∨ (0 ≤ lvC y.1 ∧ 2 ≤ d ∧ wfy (d - 1) r e)
theorem wfy_app (x : List Sy) : ∀ {d e f : Nat} {y : List Sy}, wfy d x e → wfy e y f → wfy d (x ++ y) f := by
  induction x with
  | nil => intro d e f y h h'; cases h; exact h'
  | cons a x ih =>
    intro d e f y h h'
    rcases h with ⟨h1, h2⟩ | ⟨h1, h2, h3⟩ | ⟨h1, h2, h3⟩
    · exact Or.inl ⟨h1, ih h2 h'⟩
    · exact Or.inr (Or.inl ⟨h1, h2, ih h3 h'⟩)
    · exact Or.inr (Or.inr ⟨h1, h2, ih h3 h'⟩)
theorem TR.wf {y : List Sy} {l : Int32} {r : List Int32} (h : TR y l r) : ∀ d, wfy d y (d + 1) := by
  refine h (fun y _ _ => ∀ d, wfy d y (d + 1)) ?_ ?_ ?_ ?_ ?_ ?_
  · intro a ha d; exact Or.inl ⟨Or.inl ⟨rfl, a, ha, rfl⟩, rfl⟩
  · intro a ha d; exact Or.inl ⟨Or.inr ⟨rfl, a, ha, rfl⟩, rfl⟩
  · intro y l r a h1 h2 ih d; exact wfy_app y (ih d) (Or.inr (Or.inl ⟨Or.inl ⟨rfl, a, h1, h2, rfl⟩, by omega, rfl⟩))
  · intro y l r ih d; exact wfy_app y (ih d) (Or.inr (Or.inl ⟨Or.inr (Or.inr rfl), by omega, rfl⟩))
  · intro y l r ih d; exact wfy_app y (ih d) (Or.inr (Or.inl ⟨Or.inr (Or.inl rfl), by omega, rfl⟩))
  · intro y1 l1 r1 y2 l2 r2 c hc ih1 ih2 d
    exact wfy_app y1 (ih1 d) (wfy_app y2 (ih2 (d + 1)) (Or.inr (Or.inr ⟨hc, by omega, rfl⟩)))
def gEn (v : Nat → Int32) (cl : Int32 → Int32 → Int32) (nu : Int32 → Int32) : Prop := (∀ a, a < 6 → nV (v a)) ∧ (∀ c a, nV a → nV (cl c a)) ∧ (∀ a, nV a → nV (nu a))
theorem evl_app {v : Nat → Int32} {cl : Int32 → Int32 → Int32} {nu : Int32 → Int32} (x : List Sy) : ∀ (y : List Sy) (S : List Int32), evl v cl nu (x ++ y) S = evl v cl nu y (evl v cl nu x S) := by
  induction x with
  | nil => intro y S; rfl
  | cons a x ih => intro y S; exact ih y _
theorem lv_ne {c : Int32} (h : 0 ≤ lvC c) : c ≠ 0 ∧ c ≠ 1 ∧ c ≠ 2 ∧ c ≠ 33 ∧ c ≠ 91 ∧ c ≠ 3 ∧ c ≠ 4 ∧ c ≠ 5 ∧ c ≠ 6 ∧ c ≠ 15 ∧ ¬ c ≤ 15 := by
  rcases lvC_cases c with ⟨q, -⟩ | ⟨-, q | q⟩ | ⟨-, q | q⟩ | ⟨-, q | q | q⟩
  · rw [q] at h; exact absurd h (by decide)
  all_goals subst q; decide
theorem ev1_n {v : Nat → Int32} {cl : Int32 → Int32 → Int32} {nu : Int32 → Int32} (hE : gEn v cl nu) {y : Sy} {S : List Int32} (hS : ∀ s ∈ S, nV s) :
    (((y.1 = 0 ∧ nV y.2) ∨ (y.1 = 1 ∧ ∃ a, a < 6 ∧ y.2 = nz a)) → (ev1 v cl nu y S).length = S.length + 1 ∧ ∀ s ∈ ev1 v cl nu y S, nV s) ∧
    (((y.1 = 2 ∧ ∃ a, 65 ≤ a ∧ a ≤ 90 ∧ y.2 = nz a) ∨ y.1 = 33 ∨ y.1 = 91) → 1 ≤ S.length → (ev1 v cl nu y S).length = S.length ∧ ∀ s ∈ ev1 v cl nu y S, nV s) ∧
    (0 ≤ lvC y.1 → 2 ≤ S.length → (ev1 v cl nu y S).length = S.length - 1 ∧ ∀ s ∈ ev1 v cl nu y S, nV s) := by
  have hd : ∀ (L : List Int32), (∀ s ∈ L, nV s) → nV (L.headD 0) := by
    intro L hL
    cases L with
    | nil => exact ⟨0, by omega, rfl⟩
    | cons a L => exact hL a List.mem_cons_self
  have ht : ∀ (L : List Int32), (∀ s ∈ L, nV s) → ∀ s ∈ L.tail, nV s := fun L hL s hs => hL s (List.mem_of_mem_tail hs)
  have cn : ∀ (a : Int32) (L : List Int32), nV a → (∀ s ∈ L, nV s) → ∀ s ∈ a :: L, nV s := by
    intro a L h1 h2 s hs
    rcases List.mem_cons.mp hs with h | h
    · rw [h]; exact h1
    · exact h2 s h
  refine ⟨?_, ?_, ?_⟩
  · rintro (⟨h1, h2⟩ | ⟨h1, a, h2, h3⟩)
    · unfold ev1
      rw [if_pos h1]
      exact ⟨rfl, cn _ _ h2 hS⟩
    · unfold ev1
      rw [if_neg (by rw [h1]; decide), if_pos h1, h3, nz_tn (by omega)]
      exact ⟨rfl, cn _ _ (hE.1 a h2) hS⟩
  · intro hy hl
    have hl2 : S.tail.length + 1 = S.length := by rw [List.length_tail]; omega
    rcases hy with ⟨h1, a, h2, h3, h4⟩ | h1 | h1
    · unfold ev1
      rw [if_neg (by rw [h1]; decide), if_neg (by rw [h1]; decide), if_pos h1]
      exact ⟨hl2, cn _ _ (hE.2.1 _ _ (hd S hS)) (ht S hS)⟩
    · unfold ev1
      rw [if_neg (by rw [h1]; decide), if_neg (by rw [h1]; decide), if_neg (by rw [h1]; decide), if_pos h1]
      refine ⟨hl2, cn _ _ ?_ (ht S hS)⟩
      split
      · exact ⟨1, by omega, rfl⟩
      · exact ⟨0, by omega, rfl⟩
    · unfold ev1
      rw [if_neg (by rw [h1]; decide), if_neg (by rw [h1]; decide), if_neg (by rw [h1]; decide), if_neg (by rw [h1]; decide), if_pos h1]
      exact ⟨hl2, cn _ _ (hE.2.2 _ (hd S hS)) (ht S hS)⟩
  · intro hc hl
    obtain ⟨n1, n2, n3, n4, n5, -⟩ := lv_ne hc
    unfold ev1
    rw [if_neg n1, if_neg n2, if_neg n3, if_neg n4, if_neg n5]
    refine ⟨?_, cn _ _ (opv_n (hd _ (ht S hS)) (hd S hS)) (ht _ (ht S hS))⟩
    rw [List.length_cons, List.length_tail, List.length_tail]; omega
theorem evl_n {v : Nat → Int32} {cl : Int32 → Int32 → Int32} {nu : Int32 → Int32} (hE : gEn v cl nu) (y : List Sy) : ∀ {d e : Nat} {S : List Int32}, wfy d y e → S.length = d → (∀ s ∈ S, nV s) → (evl v cl nu y S).length = e ∧ ∀ s ∈ evl v cl nu y S, nV s := by
  induction y with
  | nil => intro d e S h hl hS; cases h; exact ⟨hl, hS⟩
  | cons a y ih =>
    intro d e S h hl hS
    obtain ⟨k1, k2, k3⟩ := ev1_n hE (y := a) hS
    rcases h with ⟨h1, h2⟩ | ⟨h1, h2, h3⟩ | ⟨h1, h2, h3⟩
    · obtain ⟨l1, l2⟩ := k1 h1
      exact ih h2 (by omega) l2
    · obtain ⟨l1, l2⟩ := k2 h1 (by omega)
      exact ih h3 (by omega) l2
    · obtain ⟨l1, l2⟩ := k3 h1 (by omega)
      exact ih h3 (by omega) l2
theorem val_n {v : Nat → Int32} {cl : Int32 → Int32 → Int32} {nu : Int32 → Int32} (hE : gEn v cl nu) {y : List Sy} (h : wfy 0 y 1) : nV (val v cl nu y) := by
  obtain ⟨h1, h2⟩ := evl_n hE y h (S := []) rfl (fun s hs => by cases hs)
  unfold val
  generalize evl v cl nu y [] = Z at h1 h2
  cases Z with
  | nil => simp at h1
  | cons a Z => exact h2 a List.mem_cons_self
