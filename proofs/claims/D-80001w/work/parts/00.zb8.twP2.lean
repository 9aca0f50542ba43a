set_option maxRecDepth 100000
def bi (b : Bool) : Int32 := if b = true then 1 else 0
def f67 (σ σ' : cS) : Prop := σ'.2 = σ.2 ∧ ∀ o j, o ≠ 67 → σ'.1 o j = σ.1 o j
theorem f67.tr {σ σ1 σ2 : cS} (h : f67 σ σ1) (h' : f67 σ1 σ2) : f67 σ σ2 := ⟨h'.1.trans h.1, fun o j e => (h'.2 o j e).trans (h.2 o j e)⟩
theorem f67_I {σ : cS} {j : Nat} {v : Int32} : f67 σ (stI σ 67 j v) := ⟨rfl, fun o k h => by rw [gI, if_neg h]⟩
theorem nr1 : vp_nar .boolean 1 = 1 := rfl
theorem nr0 : vp_nar .boolean 0 = 0 := rfl
/-- what printing leaves as it was -/
def tQF (σ σ' : cS) : Prop := σ'.2 = σ.2 ∧ (∀ o j, o ≠ 0 → o ≠ 1 → o ≠ 67 → σ'.1 o j = σ.1 o j) ∧ (∀ j, j ≠ 1 → j ≠ 113 → σ'.1 0 j = σ.1 0 j)
theorem tQF.tr {σ σ1 σ2 : cS} (h : tQF σ σ1) (h' : tQF σ1 σ2) : tQF σ σ2 := ⟨h'.1.trans h.1, fun o j a b c => (h'.2.1 o j a b c).trans (h.2.1 o j a b c), fun j a b => (h'.2.2 j a b).trans (h.2.2 j a b)⟩
theorem tQF_67 {σ σ' : cS} (h : f67 σ σ') : tQF σ σ' := ⟨h.1, fun o j _ _ c => h.2 o j c, fun j _ _ => h.2 0 j (by decide)⟩
section
variable {tk n : Nat} {tx : Nat → Int32}
theorem tTx_67 {σ σ' : cS} (h : tTx σ tk n tx) (hf : f67 σ σ') (hk : tk ≠ 67) : tTx σ' tk n tx := by
  obtain ⟨h1, h2, h0, h8, h3, h4, h5⟩ := h
  exact ⟨by rw [hf.1]; exact h1, h2, h0, h8, by rw [hf.2 0 5 (by decide)]; exact h3, h4, fun k hk2 => by rw [hf.2 tk k hk]; exact h5 k hk2⟩
theorem tMk2 (hk : tk ≠ 67) : ∀ (m k f : Nat) (σ : cS), n - k = m → m < f → k ≤ n → tTx σ tk n tx → ∃ σ', fX11_markGroups_2 f (nz k) σ = fX11_markGroups_51 FU 0 σ' ∧ f67 σ σ' ∧ (∀ j, k ≤ j → j < n → σ'.1 67 j = bi (bl (tx j))) ∧ (∀ j, j < k → σ'.1 67 j = σ.1 67 j) := by
  intro m
  induction m with
  | zero =>
    intro k f σ hm hf hkn T
    obtain ⟨f, rfl⟩ : ∃ e, f = e + 1 := ⟨f - 1, by omega⟩
    have hn6 := T.2.2.2.2.2.1
    refine ⟨σ, ?_, ⟨rfl, fun _ _ _ => rfl⟩, fun j h1 h2 => by omega, fun j _ => rfl⟩
    unfold fX11_markGroups_2
    rw [T.2.2.2.2.1, if_pos (by rw [nz_le (by omega) (by omega)]; omega)]
  | succ m ih =>
    intro k f σ hm hf hkn T
    obtain ⟨f, rfl⟩ : ∃ e, f = e + 1 := ⟨f - 1, by omega⟩
    have hn6 := T.2.2.2.2.2.1
    have hk1 : k < n := by omega
    have step : ∀ v, fX11_markGroups_2 (f + 1) (nz k) σ = fX11_markGroups_2 f (nz (k + 1)) (stI σ 67 k v) → v = bi (bl (tx k)) → ∃ σ', fX11_markGroups_2 (f + 1) (nz k) σ = fX11_markGroups_51 FU 0 σ' ∧ f67 σ σ' ∧ (∀ j, k ≤ j → j < n → σ'.1 67 j = bi (bl (tx j))) ∧ (∀ j, j < k → σ'.1 67 j = σ.1 67 j) := by
      intro v e hv
      obtain ⟨σ', i1, i2, i3, i4⟩ := ih (k + 1) f (stI σ 67 k v) (by omega) (by omega) (by omega) (tTx_67 T f67_I hk)
      refine ⟨σ', by rw [e, i1], f67_I.tr i2, fun j h1 h2 => ?_, fun j h1 => ?_⟩
      · by_cases hj : j = k
        · rw [hj, i4 k (by omega), gI, if_pos rfl, if_pos rfl, hv]
        · exact i3 j (by omega) h2
      · rw [i4 j (by omega), gI, if_pos rfl, if_neg (by omega)]
    have rT : ∀ (K : Nat → Option (Unit × cS)), rR (σ.2.2 0 4) K = K tk := fun K => by rw [T.1]; rfl
    have d2 : ∀ {β : Type} (K : Option β), ck (decide ((twLa tk).1 = 2)) K = K := fun K => by rw [T.2.1]; exact ck_t (by decide)
    have d3 : ∀ {β : Type} (K : Option β), ck (inB (nz k) (twLa tk).2) K = K := fun K => by rw [T.2.1]; exact ck_n (by omega) (by omega)
    have hu : fX11_markGroups_2 (f + 1) (nz k) σ = (if tx k = 32 then fX11_markGroups_2 f (nz (k + 1)) (stI σ 67 k 1) else if tx k = 10 then fX11_markGroups_2 f (nz (k + 1)) (stI σ 67 k 1) else fX11_markGroups_2 f (nz (k + 1)) (stI σ 67 k 0)) := by
      conv => lhs; unfold fX11_markGroups_2
      rw [T.2.2.2.2.1, if_neg (by rw [nz_le (by omega) (by omega)]; omega), rT, d2, d3, rT, d2, d3, nz_tn (by omega), (T.2.2.2.2.2.2 k hk1).1, ck_n (show k < 1000 by omega) (by omega), ck_n (show k < 1000 by omega) (by omega), nr1, nr0, nz_s, wI_e, wI_e]
    by_cases h32 : tx k = 32
    · rw [if_pos h32] at hu
      exact step 1 hu (by rw [h32]; decide)
    · by_cases h10 : tx k = 10
      · rw [if_neg h32, if_pos h10] at hu
        exact step 1 hu (by rw [h10]; decide)
      · rw [if_neg h32, if_neg h10] at hu
        refine step 0 hu ?_
        unfold bl
        rw [decide_eq_false h32, decide_eq_false h10]; rfl
theorem tMk51 {g : Nat} (hg6 : g ≤ 600) (hn6 : n ≤ 600) : ∀ (m x f : Nat) (σ : cS) (D : Nat → Bool), g - x = m → m < f → x ≤ g → σ.1 0 113 = nz g → GI σ x g 0 n → (∀ j, j < n → σ.1 67 j = bi (D j)) → ∃ σ', fX11_markGroups_51 f (nz x) σ = some ((), σ') ∧ f67 σ σ' ∧ (∀ j, j < n → σ'.1 67 j = bi (D j || gOb σ x g j)) := by
  intro m
  induction m with
  | zero =>
    intro x f σ D hm hf hx h113 hG hD
    obtain ⟨f, rfl⟩ : ∃ e, f = e + 1 := ⟨f - 1, by omega⟩
    refine ⟨σ, ?_, ⟨rfl, fun _ _ _ => rfl⟩, fun j hj => ?_⟩
    · unfold fX11_markGroups_51
      rw [h113, if_pos (by rw [nz_le (by omega) (by omega)]; omega)]
    · rw [hD j hj]
      have : gOb σ x g j = false := by
        rw [Bool.eq_false_iff]
        intro q
        obtain ⟨y, y1, y2, -⟩ := gOb_iff.mp q
        omega
      rw [this, Bool.or_false]
  | succ m ih =>
    intro x f σ D hm hf hx h113 hG hD
    obtain ⟨f, rfl⟩ : ∃ e, f = e + 1 := ⟨f - 1, by omega⟩
    obtain ⟨u, v, h7, h8, -, hu, -, hv⟩ := hG x (Nat.le_refl _) (by omega)
    conv => arg 1; ext σ'; arg 1; lhs; unfold fX11_markGroups_51
    rw [h113, if_neg (by rw [nz_le (by omega) (by omega)]; omega), ck_n (show x < 600 by omega) (by omega), ck_n (show x < 600 by omega) (by omega), ck_n (show x < 600 by omega) (by omega), nz_tn (by omega), tNeed, bd_s, nz_s]
    by_cases hn : σ.1 11 x < nd (σ.1 9 x) (σ.1 10 x)
    · rw [if_pos hn]
      obtain ⟨σ', i1, i2, i3⟩ := ih (x + 1) f σ D (by omega) (by omega) (by omega) h113 (fun y y1 y2 => hG y (by omega) y2) hD
      refine ⟨σ', i1, i2, fun j hj => ?_⟩
      rw [i3 j hj]
      congr 2
      rw [Bool.eq_iff_iff, gOb_iff, gOb_iff]
      constructor
      · rintro ⟨y, y1, y2, y3, y4⟩; exact ⟨y, by omega, y2, y3, y4⟩
      · rintro ⟨y, y1, y2, y3, y4⟩
        by_cases hy : y = x
        · subst hy
          exact absurd hn (Int32.not_lt.mpr y3)
        · exact ⟨y, by omega, y2, y3, y4⟩
    · rw [if_neg hn, ck_n (show x < 600 by omega) (by omega), h7, ck_n (show u < 1000 by omega) (by omega), nz_tn (by omega), wI_e, ck_n (show x < 600 by omega) (by omega), nr1]
      have e8 : (stI σ 67 u 1).1 8 x = nz v := by rw [gI, if_neg (by decide)]; exact h8
      rw [e8, ck_n (show v < 1000 by omega) (by omega), nz_tn (by omega), wI_e]
      have F : f67 σ (stI (stI σ 67 u 1) 67 v 1) := f67_I.tr f67_I
      have kk : ∀ o j, o ≠ 67 → (stI (stI σ 67 u 1) 67 v 1).1 o j = σ.1 o j := F.2
      obtain ⟨σ', i1, i2, i3⟩ := ih (x + 1) f (stI (stI σ 67 u 1) 67 v 1) (fun j => D j || (decide (j = u) || decide (j = v))) (by omega) (by omega) (by omega) (by rw [kk _ _ (by decide)]; exact h113) (fun y y1 y2 => by
        obtain ⟨a, b, c1, c2, c3⟩ := hG y (by omega) y2
        exact ⟨a, b, by rw [kk _ _ (by decide)]; exact c1, by rw [kk _ _ (by decide)]; exact c2, c3⟩) (fun j hj => by
        rw [gI, if_pos rfl]
        by_cases hjv : j = v
        · rw [if_pos hjv, hjv]; simp [bi]
        · rw [if_neg hjv, gI, if_pos rfl]
          by_cases hju : j = u
          · rw [if_pos hju, hju]; simp [bi]
          · rw [if_neg hju, hD j hj]; simp [hju, hjv])
      refine ⟨σ', i1, F.tr i2, fun j hj => ?_⟩
      rw [i3 j hj]
      congr 1
      have hsame : gOb (stI (stI σ 67 u 1) 67 v 1) (x + 1) g j = gOb σ (x + 1) g j := by
        refine gOb_sm (fun a y a1 a2 _ _ => ?_)
        exact kk a y (by omega)
      rw [hsame, Bool.or_assoc]
      congr 1
      rw [Bool.eq_iff_iff, Bool.or_eq_true, Bool.or_eq_true, decide_eq_true_iff, decide_eq_true_iff, gOb_iff, gOb_iff]
      constructor
      · rintro ((hju | hjv) | ⟨y, y1, y2, y3, y4⟩)
        · exact ⟨x, Nat.le_refl _, by omega, Int32.not_lt.mp hn, Or.inl (by rw [h7, hju])⟩
        · exact ⟨x, Nat.le_refl _, by omega, Int32.not_lt.mp hn, Or.inr (by rw [h8, hjv])⟩
        · exact ⟨y, by omega, y2, y3, y4⟩
      · rintro ⟨y, y1, y2, y3, y4⟩
        by_cases hy : y = x
        · subst hy
          left
          rw [h7, h8] at y4
          rcases y4 with q | q
          · left; exact ((nz_inj (by omega) (by omega)).mp q).symm
          · right; exact ((nz_inj (by omega) (by omega)).mp q).symm
        · right; exact ⟨y, by omega, y2, y3, y4⟩
end
