set_option maxRecDepth 100000
section
variable {n : Nat} {tx : Nat → Int32}
theorem pLi_w : ∀ (k i : Nat) (w : Option Nat) (F : List Fn) (r : List Int32) (q : Nat × Option Nat × List Fn × List Int32), i ≤ n → pLi n tx k i w F r = .ok q → (w = none → F.length ≤ 12) → fo F + nbr n tx i ≤ nbr n tx 0 → r.length + nbr n tx i ≤ nbr n tx 0 → (∀ x ∈ r, pr1 x) →
    (q.2.1 = none → q.2.2.1.length ≤ 12) ∧ 1 ≤ fo q.2.2.1 ∧ fo q.2.2.1 ≤ nbr n tx 0 ∧ q.2.2.2.length ≤ nbr n tx 0 ∧ (∀ x ∈ q.2.2.2, pr1 x) := by
  intro k
  induction k with
  | zero => intro i w F r q _ h; cases h
  | succ k ih =>
    intro i w F r q hi h h1 h2 h3 h4
    unfold pLi at h
    obtain ⟨q1, e1, e2⟩ := eb_ok h
    obtain ⟨c1, c2, c3, c4, c5, c6, c7, c8, c9⟩ := pFn_facts hi e1
    have k1 : q1.2.1 = none → (F ++ [q1.2.2.1]).length ≤ 12 := fun hn => by
      have := (c9 hn).1
      rw [List.length_append, List.length_singleton]; omega
    have k2 : fo (F ++ [q1.2.2.1]) + nbr n tx q1.1 ≤ nbr n tx 0 := by
      rw [fo_app]; simp only [fo]; omega
    have k3 : (r ++ q1.2.2.2).length + nbr n tx q1.1 ≤ nbr n tx 0 := by rw [List.length_append]; omega
    have k5 : 1 ≤ fo (F ++ [q1.2.2.1]) := by rw [fo_app]; simp only [fo]; omega
    have k4 : ∀ x ∈ r ++ q1.2.2.2, pr1 x := by
      intro x hx
      rcases List.mem_append.mp hx with z | z
      · exact h4 x z
      · unfold pFn at e1
        obtain ⟨a, a1, e1⟩ := eb_ok e1
        obtain ⟨b, b1, e1⟩ := eb_ok e1
        obtain ⟨v, v1, e1⟩ := eb_ok e1
        obtain ⟨e, e4, e1⟩ := eb_ok e1
        obtain ⟨g, g1, e1⟩ := eb_ok e1
        obtain ⟨y, y1, e1⟩ := eb_ok e1
        obtain ⟨u, u1, e1⟩ := eb_ok e1
        cases e1
        have hpr : ∀ {lo hi : Nat} {j : Nat} {m : Nat × Int32}, 32 ≤ lo → hi ≤ 126 → lo ≤ hi → pLe n tx (nz lo) (nz hi) j = .ok m → pr1 m.2 := by
          intro lo hi j m q1 q2 q3 hm
          unfold pLe at hm
          split at hm
          · next hc =>
            cases hm
            obtain ⟨k, k1, k2, k3⟩ := isI_lo7 hc (by omega) q3
            simp only
            rw [k3]; exact pr1_nz (by omega) (by omega)
          · cases hm
        have gj : g ≤ n := (pTk_ok (by decide) g1).2.2.2.2.1
        simp only [List.mem_cons, List.mem_append, List.not_mem_nil, or_false] at z
        rcases z with rfl | rfl | rfl | rfl | rfl | z | rfl
        · exact hpr (lo := 65) (hi := 90) (by omega) (by omega) (by omega) a1
        · rfl
        · exact hpr (lo := 97) (hi := 102) (by omega) (by omega) (by omega) v1
        · rfl
        · rfl
        · exact (pSum_facts gj y1).2.2.2.1.pr x z
        · rfl
    split at e2
    · cases e2
      exact ⟨k1, k5, by simp only; omega, by simp only; omega, k4⟩
    · exact ih _ _ _ _ _ c2 e2 k1 k2 k3 k4
theorem rdL_w {q : List Fn × List Int32} (hn : nbr n tx 0 ≤ 400) (h : rdL n tx = .ok q) : q.1.length ≤ 12 ∧ fo q.1 ≤ 400 ∧ 0 < n ∧ nbl q.2 ≤ 400 ∧ (∀ x ∈ q.2, pr1 x) ∧ q.2.length ≤ 600 := by
  unfold rdL at h
  obtain ⟨z, e1, e2⟩ := eb_ok h
  cases hw : z.2.1 with
  | none =>
    rw [hw] at e2
    cases e2
    obtain ⟨c1, c2, c3, c4, c5⟩ := pLi_w FU 0 none [] [] z (Nat.zero_le _) e1 (fun _ => by simp) (by simp [fo]) (by simp) (fun x hx => by cases hx)
    have := nbl_le z.2.2.2
    have := nbr_le (n := n) (tx := tx) (i := 0)
    exact ⟨c1 hw, by simp only; omega, by omega, by simp only; omega, c5, by simp only; omega⟩
  | some p => rw [hw] at e2; cases e2
end
/-! ===== THE TWIN PREPARES ===== -/
/-- a text within a row of texts -/
def tTe (t : cS) (A S f n : Nat) (tx : Nat → Int32) : Prop := t.1 S f = nz n ∧ n ≤ 600 ∧ nbr n tx 0 ≤ 400 ∧ ∀ k, k < n → t.1 A (1000 * f + k) = tx k ∧ sgn (tx k)
theorem tWork3 {A f n : Nat} {tx : Nat → Int32} (hA : (twLa A).1 = 2 ∧ 1000 * f + 1000 ≤ (twLa A).2) (hA2 : (twLa A).2 < 2147483648) (hA3 : A ≠ 32) (hn : n ≤ 600) : ∀ (m k g : Nat) (t : cS), n - k = m → m < g → k ≤ n → (∀ j, j < n → t.1 A (1000 * f + j) = tx j) → (∀ j, j < k → t.1 32 j = tx j) →
    ∃ t', fX11_toWork_3 A (nz f) (nz n) g (nz k) t = some (nz n, t') ∧ t'.2 = t.2 ∧ (∀ o j, o ≠ 32 → t'.1 o j = t.1 o j) ∧ ∀ j, j < n → t'.1 32 j = tx j := by
  intro m
  induction m with
  | zero =>
    intro k g t hm hg hk hT hw
    obtain ⟨g, rfl⟩ : ∃ e, g = e + 1 := ⟨g - 1, by omega⟩
    refine ⟨t, ?_, rfl, fun _ _ _ => rfl, fun j hj => hw j (by omega)⟩
    unfold fX11_toWork_3
    rw [if_pos (by rw [nz_le (by omega) (by omega)]; omega)]
  | succ m ih =>
    intro k g t hm hg hk hT hw
    obtain ⟨g, rfl⟩ : ∃ e, g = e + 1 := ⟨g - 1, by omega⟩
    obtain ⟨t', i1, i2, i3, i4⟩ := ih (k + 1) g (stI t 32 k (tx k)) (by omega) (by omega) (by omega) (fun j hj => by rw [gI, if_neg hA3]; exact hT j hj) (fun j hj => by
      rw [gI, if_pos rfl]
      by_cases hjk : j = k
      · rw [if_pos hjk, hjk]
      · rw [if_neg hjk]; exact hw j (by omega))
    refine ⟨t', ?_, i2, fun o j ho => by rw [i3 o j ho, gI, if_neg ho], i4⟩
    conv => lhs; unfold fX11_toWork_3
    rw [if_neg (by rw [nz_le (by omega) (by omega)]; omega), show (1000 : Int32) = nz 1000 from rfl, nz_mul, nz_add, ck_n (show 1000 * f + k < (twLa A).2 by omega) hA2, ck_n (show k < 1000 by omega) (by omega), nz_tn (by omega), nz_tn (by omega), hT k (by omega), wI_e, nz_s]
    exact i1
theorem tWork {t : cS} {A S f n : Nat} {tx : Nat → Int32} (hA : (twLa A).1 = 2 ∧ 1000 * f + 1000 ≤ (twLa A).2) (hA2 : (twLa A).2 < 2147483648) (hA3 : A ≠ 32) (h : tTe t A S f n tx) : ∃ t', fX11_toWork A (nz f) (nz n) t = some (nz n, t') ∧ t'.2 = t.2 ∧ (∀ o j, o ≠ 32 → t'.1 o j = t.1 o j) ∧ tSrc t' 32 n tx := by
  obtain ⟨t', i1, i2, i3, i4⟩ := tWork3 (A := A) (f := f) hA hA2 hA3 h.2.1 n 0 FU t (by omega) (by have := h.2.1; unfold FU; omega) (by omega) (fun j hj => (h.2.2.2 j hj).1) (fun j hj => by omega)
  refine ⟨t', ?_, i2, i3, by decide, by decide, by decide, h.2.1, fun k hk => ⟨i4 k hk, (h.2.2.2 k hk).2⟩⟩
  unfold fX11_toWork
  rw [hA.1, ck_t (by decide)]
  exact i1
/-- what is frozen in a slot: a model's text, a library's (none: no signs), a question's, a row, settings -/
def tFz (t : cS) (f : Nat) (n1 : Nat) (tx1 : Nat → Int32) (n2 : Nat) (tx2 : Nat → Int32) (n3 : Nat) (tx3 : Nat → Int32) (R : List Int32) (cs : Nat → Int32) : Prop :=
  f < 16 ∧ tTe t 23 24 f n1 tx1 ∧ tTe t 25 26 f n2 tx2 ∧ tTe t 27 28 f n3 tx3 ∧ (t.1 30 f = nz R.length ∧ R.length ≤ 20 ∧ (∀ x ∈ R, nV x) ∧ ∀ j, j < R.length → t.1 29 (20 * f + j) = R.getD j 0) ∧ ∀ k, k < 3 → t.1 31 (3 * f + k) = cs k ∧ nV (cs k)
/-- the texts are well: model, library, question -/
def rdA (n1 : Nat) (tx1 : Nat → Int32) (n2 : Nat) (tx2 : Nat → Int32) (n3 : Nat) (tx3 : Nat → Int32) (C : List Cd) (ch : List Int32) (F : List Fn) (Y : List Sy) (r1 r3 : List Int32) : Prop :=
  rdM n1 tx1 = .ok (C, ch, r1) ∧ ((n2 = 0 ∧ F = []) ∨ (∃ r2, rdL n2 tx2 = .ok (F, r2))) ∧ rdQ n3 tx3 = .ok (Y, r3)
/-- what preparing changes -/
def fPp (t t' : cS) : Prop := t'.2.1 = t.2.1 ∧ (∀ o j, ¬ (o = 0 ∧ j = 4) → t'.2.2 o j = t.2.2 o j) ∧ (∀ o j, o = 1 ∨ (22 < o ∧ o ≠ 32 ∧ o ≠ 34 ∧ o ≠ 35) → t'.1 o j = t.1 o j) ∧ (∀ j, j < 5 ∨ (46 < j ∧ j ≠ 57 ∧ j ≠ 58 ∧ j ≠ 61 ∧ j ≠ 63 ∧ j ≠ 64 ∧ j ≠ 65) → t'.1 0 j = t.1 0 j)
