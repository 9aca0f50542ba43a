set_option maxRecDepth 100000
/-! ===== THE COMPONENT READS LIBRARIES ===== -/
/-- the first of m places from j on at which f is c -/
def fr1 (f : Nat → Int32) (c : Int32) : Nat → Nat → Option Nat
  | 0, _ => none
  | m + 1, j => if f j = c then some j else fr1 f c m (j + 1)
theorem fr1_lt {f : Nat → Int32} {c : Int32} : ∀ (m j : Nat) {k : Nat}, fr1 f c m j = some k → j ≤ k ∧ k < j + m ∧ f k = c := by
  intro m
  induction m with
  | zero => intro j k h; cases h
  | succ m ih =>
    intro j k h
    unfold fr1 at h
    split at h
    · cases h; exact ⟨Nat.le_refl _, by omega, by assumption⟩
    · obtain ⟨a, b, c⟩ := ih (j + 1) h; exact ⟨by omega, by omega, c⟩
theorem fr1_none {f : Nat → Int32} {c : Int32} : ∀ (m j : Nat), fr1 f c m j = none ↔ ∀ k, j ≤ k → k < j + m → f k ≠ c := by
  intro m
  induction m with
  | zero => intro j; simp [fr1]; intro k h1 h2; omega
  | succ m ih =>
    intro j
    unfold fr1
    split
    · next h => simp only [reduceCtorEq, false_iff]; intro q; exact q j (Nat.le_refl _) (by omega) h
    · next h =>
      rw [ih (j + 1)]
      constructor
      · intro q k h1 h2
        by_cases hk : k = j
        · rw [hk]; exact h
        · exact q k (by omega) (by omega)
      · intro q k h1 h2
        exact q k (by omega) (by omega)
theorem cFo2 {σ : cS} {o m : Nat} {c : Int32} (hm : m ≤ 12) : ∀ (k j : Nat), j ≤ m → m - j < k → fX3_functionOf_2 o c (nz m) k (nz j) σ = some (ow (fr1 (σ.1 (o + 10)) c (m - j) j), σ) := by
  intro k
  induction k with
  | zero => intro j _ h; omega
  | succ k ih =>
    intro j hj hk
    unfold fX3_functionOf_2
    by_cases hlt : j < m
    · obtain ⟨x, hx⟩ : ∃ x, m - j = x + 1 := ⟨m - j - 1, by omega⟩
      rw [if_neg (by rw [nz_le (by omega) (by omega)]; omega), ck_n (by omega) (by omega), nz_tn (by omega), hx]
      unfold fr1
      split
      · rfl
      · rw [nz_s, ih (j + 1) (by omega) (by omega), show m - (j + 1) = x by omega]
    · rw [if_pos (by rw [nz_le (by omega) (by omega)]; omega), show m - j = 0 by omega]
      rfl
theorem cFo {σ : cS} {o m : Nat} {c : Int32} (hm : m ≤ 12) : fX3_functionOf o c (nz m) σ = some (ow (fr1 (σ.1 (o + 10)) c m 0), σ) := cFo2 hm FU 0 (by omega) (by unfold FU; omega)
/-- what reading a function leaves as it was -/
def cLF (p f s : Nat) (σ σ' : cS) : Prop := σ'.2 = σ.2 ∧ (∀ o j, o < 3 ∨ 20 < o → σ'.1 o j = σ.1 o j) ∧ (∀ o j, o = 7 ∨ o = 8 ∨ o = 9 → j < p → σ'.1 o j = σ.1 o j) ∧ (∀ j, j < s → σ'.1 20 j = σ.1 20 j) ∧ (∀ o j, o = 16 ∨ o = 17 ∨ o = 18 ∨ o = 19 → j < f → σ'.1 o j = σ.1 o j)
theorem cLF.tr {p f s p' f' s' : Nat} {σ σ1 σ2 : cS} (h : cLF p f s σ σ1) (h' : cLF p' f' s' σ1 σ2) (hp : p ≤ p') (hf : f ≤ f') (hs : s ≤ s') : cLF p f s σ σ2 := by
  obtain ⟨a1, a2, a3, a4, a5⟩ := h
  obtain ⟨b1, b2, b3, b4, b5⟩ := h'
  exact ⟨b1.trans a1, fun o j c => (b2 o j c).trans (a2 o j c), fun o j c1 c2 => (b3 o j c1 (by omega)).trans (a3 o j c1 c2), fun j c => (b4 j (by omega)).trans (a4 j c), fun o j c1 c2 => (b5 o j c1 (by omega)).trans (a5 o j c1 c2)⟩
theorem cLF_S {g : Prop} {p cb f s : Nat} {σ σ' : cS} (h : cSF g p cb s σ σ') : cLF p f s σ σ' := by
  obtain ⟨a1, a2, a3, a4, a5, a6, a7, a8⟩ := h
  refine ⟨a1, fun o j q => a2 o j (by omega) (by omega) (by omega) (by omega) (by omega) (by omega) (by omega) (by omega) (by omega) (by omega) (by omega) (by omega) (by omega) (by omega), a6, a7, ?_⟩
  rintro o j (rfl | rfl | rfl | rfl) _ <;> exact a2 _ j (by decide) (by decide) (by decide) (by decide) (by decide) (by decide) (by decide) (by decide) (by decide) (by decide) (by decide) (by decide) (by decide) (by decide)
theorem cLF_I {p f s : Nat} {σ : cS} {o j : Nat} {v : Int32} (h : o = 3 ∨ o = 6 ∨ ((o = 16 ∨ o = 17 ∨ o = 18 ∨ o = 19) ∧ f ≤ j)) : cLF p f s σ (stI σ o j v) := by
  refine ⟨rfl, ?_, ?_, ?_, ?_⟩
  · intro a b c; rw [gI, if_neg (by omega)]
  · intro a b c1 c2; rw [gI, if_neg (by omega)]
  · intro b c1; rw [gI, if_neg (by omega)]
  · intro a b c1 c2
    rw [gI]
    by_cases ho : a = o
    · rw [if_pos ho, if_neg (by omega)]
    · rw [if_neg ho]
theorem cRF_L {p f s : Nat} {σ σ' : cS} (h : cLF p f s σ σ') : cRF σ σ' := ⟨by rw [h.1], fun o j _ => by rw [h.1], h.2.1⟩
theorem fsz_app (F : List Fn) : ∀ G, fsz (F ++ G) = fsz F + fsz G := by
  induction F with
  | nil => intro G; simp [fsz]
  | cons f F ih => intro G; simp only [List.cons_append, fsz, ih]; omega
theorem cFn_app {σ : cS} {o : Nat} (F : List Fn) : ∀ {k p : Nat} {G : List Fn}, cFn σ o k p F → cFn σ o (k + F.length) (p + fsz F) G → cFn σ o k p (F ++ G) := by
  induction F with
  | nil => intro k p G _ h; simpa [fsz] using h
  | cons f F ih =>
    intro k p G h h'
    obtain ⟨h1, h2, h3, h4, h5, h6⟩ := h
    refine ⟨h1, h2, h3, h4, h5, ih h6 ?_⟩
    simp only [List.length_cons, fsz] at h'
    rwa [show k + 1 + F.length = k + (F.length + 1) by omega, show p + f.2.2.length + fsz F = p + (f.2.2.length + fsz F) by omega]
theorem cFn_L {p' f' s : Nat} {σ σ' : cS} (hf : cLF p' f' s σ σ') (F : List Fn) : ∀ {k p : Nat}, cFn σ 6 k p F → k + F.length ≤ f' → p + fsz F ≤ p' → cFn σ' 6 k p F := by
  induction F with
  | nil => intro k p _ _ _; trivial
  | cons f F ih =>
    intro k p h hk hp
    simp only [List.length_cons, fsz] at hk hp
    obtain ⟨h1, h2, h3, h4, h5, h6⟩ := h
    have hc : ∀ o, o = 16 ∨ o = 17 ∨ o = 18 ∨ o = 19 → σ'.1 o k = σ.1 o k := fun o ho => hf.2.2.2.2 o k ho (by omega)
    refine ⟨(hc _ (by omega)).trans h1, (hc _ (by omega)).trans h2, (hc _ (by omega)).trans h3, (hc _ (by omega)).trans h4, ?_, ih h6 (by omega) (by omega)⟩
    intro x e hx
    have hl := (List.getElem?_eq_some_iff.mp hx).1
    rw [bld_len] at hl
    have := h5 x e hx
    rw [hf.2.2.1 _ _ (Or.inl rfl) (by omega), hf.2.2.1 _ _ (Or.inr (Or.inl rfl)) (by omega), hf.2.2.1 _ _ (Or.inr (Or.inr rfl)) (by omega)]
    exact this
theorem cFn_at {σ : cS} {o : Nat} (F : List Fn) : ∀ {k p : Nat}, cFn σ o k p F → ∀ x f, F[x]? = some f → σ.1 (o + 10) (k + x) = f.1 := by
  induction F with
  | nil => intro k p _ x f h; simp at h
  | cons g F ih =>
    intro k p h x f hx
    cases x with
    | zero => simp at hx; subst hx; exact h.1
    | succ x =>
      simp at hx
      have := ih h.2.2.2.2.2 x f hx
      rwa [show k + 1 + x = k + (x + 1) by omega] at this
section
variable {n : Nat} {tx : Nat → Int32}
/-- a function is read -/
theorem pFn_facts {i : Nat} {w : Option Nat} {F : List Fn} {q : Nat × Option Nat × Fn × List Int32} (hi : i ≤ n) (h : pFn n tx i w F = .ok q) :
    i < q.1 ∧ q.1 ≤ n ∧ q.2.2.1.2.2.length + nbr n tx q.1 + 1 ≤ nbr n tx i ∧ q.2.2.2.length + nbr n tx q.1 ≤ nbr n tx i ∧ wTo n w q.2.1 ∧ (∃ a, 65 ≤ a ∧ a ≤ 90 ∧ q.2.2.1.1 = nz a) ∧ vV q.2.2.1.2.1 ∧ sV q.2.2.1.2.2 ∧ (q.2.1 = none → F.length < 12 ∧ ∀ f ∈ F, f.1 ≠ q.2.2.1.1) := by
  obtain ⟨a, e1, h⟩ := eb_ok h
  obtain ⟨b, e2, h⟩ := eb_ok h
  obtain ⟨v, e3, h⟩ := eb_ok h
  obtain ⟨e, e4, h⟩ := eb_ok h
  obtain ⟨g, e5, h⟩ := eb_ok h
  obtain ⟨y, e6, h⟩ := eb_ok h
  obtain ⟨z, e7, h⟩ := eb_ok h
  have le : ∀ {lo hi : Nat} {i : Nat} {a : Nat × Int32}, 0 < lo → lo ≤ hi → hi < 128 → pLe n tx (nz lo) (nz hi) i = .ok a → i < a.1 ∧ a.1 ≤ n ∧ nbr n tx i = nbr n tx a.1 + 1 ∧ sk n tx i < n ∧ ∃ c, lo ≤ c ∧ c ≤ hi ∧ a.2 = nz c := by
    intro lo hi i a h0 h1 h2 h
    unfold pLe at h
    split at h
    · next hc =>
      obtain ⟨c, c1, c2, c3⟩ := isI_lo7 hc h2 h1
      obtain ⟨hlt, etx⟩ := pkc_ne (n := n) (tx := tx) (i := i) (by rw [c3]; exact nz_m1 (by omega))
      have := sk_ge (n := n) (tx := tx) i
      cases h
      exact ⟨by simp only; omega, by simp only; omega, nbr_tk hlt, hlt, c, c1, c2, c3⟩
    · cases h
  obtain ⟨a1, a2, a3, a4, a5, a6, a7, a8⟩ := le (lo := 65) (hi := 90) (by omega) (by omega) (by omega) e1
  obtain ⟨b1, b2, b3, b4, b5, b6⟩ := pTk_ok (by decide) e2
  obtain ⟨v1, v2, v3, v4, v5, v6, v7, v8⟩ := le (lo := 97) (hi := 102) (by omega) (by omega) (by omega) e3
  obtain ⟨c1, c2, c3, c4, c5, c6⟩ := pTk_ok (by decide) e4
  obtain ⟨d1, d2, d3, d4, d5, d6⟩ := pTk_ok (by decide) e5
  obtain ⟨f1, f2, f3, f4, f5, f6⟩ := pSum_facts d5 e6
  obtain ⟨g1, g2, g3, g4, g5, g6⟩ := pTk_ok (by decide) e7
  cases h
  refine ⟨by simp only; omega, g5, by simp only; omega, by simp only [List.length_append, List.length_cons, List.length_nil]; omega, (wTo_ntb a4).tr f5, ⟨a5, a6, a7, a8⟩, ⟨v5 - 97, by omega, by simp only; rw [v8]; exact nz_sub (b := 97) v6⟩, ⟨_, _, f4⟩, fun hn => ?_⟩
  have := (ntb_none (f5.2 hn)).2
  simp only [Bool.or_eq_false_iff, decide_eq_false_iff_not, List.any_eq_false, decide_eq_true_eq] at this
  exact ⟨by omega, this.2⟩
end
