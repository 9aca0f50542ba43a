set_option maxRecDepth 100000
/-! ===== a function's sum has its own variable alone ===== -/
def ownV (own : Int32) (y : List Sy) : Prop := ∀ s ∈ y, s.1 = 1 → s.2 = own - 97
theorem ownV_app {own : Int32} {x y : List Sy} (h : ownV own x) (h' : ownV own y) : ownV own (x ++ y) := by
  intro s hs
  rcases List.mem_append.mp hs with q | q
  · exact h s q
  · exact h' s q
theorem ownV_one {own c a : Int32} (hc : c ≠ 1) : ownV own [(c, a)] := by
  intro s hs h
  simp at hs
  subst hs
  exact absurd h hc
section
variable {n : Nat} {tx : Nat → Int32}
theorem wM_n {w w' : Option Nat} (h : wM w w') (hn : w' = none) : w = none := by
  cases w with
  | none => rfl
  | some f =>
    obtain ⟨f', h1, -⟩ := h f rfl
    rw [hn] at h1; cases h1
theorem pLp_own {own : Int32} {R : Int32 → Nat → Nat → Option Nat → ER} (hm : ∀ L dep i w q, R L dep i w = .ok q → wM w q.2.1) (hR : ∀ L dep i w q, 0 ≤ L → R L dep i w = .ok q → q.2.1 = none → ownV own q.2.2.2.2) (L : Int32) (hL : 0 ≤ L) (dep : Nat) : ∀ k i w l r y q, pLp n tx R L dep k i w l r y = .ok q → q.2.1 = none → (w = none → ownV own y) → ownV own q.2.2.2.2 := by
  intro k
  induction k with
  | zero => intro i w l r y q h; cases h
  | succ k ih =>
    intro i w l r y q h hn hy
    unfold pLp at h
    split at h
    · cases h; exact hy hn
    · next hc =>
      have h1 : pk n tx i ≠ 1 := by
        intro z
        rw [z] at hc
        exact hc (Int32.lt_of_lt_of_le (by decide) hL)
      obtain ⟨q1, e1, e2⟩ := eb_ok h
      split at e2
      · cases e2
        have w0 := wM_n (hm _ _ _ _ _ e1) hn
        exact ownV_app (hy w0) (ownV_app (hR _ _ _ _ _ (lvC_0 _) e1 hn) (ownV_one h1))
      · exact ih _ _ _ _ _ _ e2 hn (fun z => ownV_app (hy (wM_n (hm _ _ _ _ _ e1) z)) (ownV_app (hR _ _ _ _ _ (lvC_0 _) e1 z) (ownV_one h1)))
theorem pE_own {own : Int32} (ho : own ≠ -1) : ∀ d, (∀ L dep i w q, 0 ≤ L → (pE n tx own d).1 L dep i w = .ok q → q.2.1 = none → ownV own q.2.2.2.2) ∧ (∀ dep i w q, (pE n tx own d).2.1 dep i w = .ok q → q.2.1 = none → ownV own q.2.2.2.2) ∧ (∀ dep cl i w q, (pE n tx own d).2.2 dep cl i w = .ok q → q.2.1 = none → ownV own q.2.2.2.2) := by
  intro d
  induction d with
  | zero => exact ⟨fun _ _ _ _ _ _ h => (by cases h), fun _ _ _ _ h => (by cases h), fun _ _ _ _ _ h => (by cases h)⟩
  | succ d ih =>
    obtain ⟨ihS, ihA, ihI⟩ := ih
    obtain ⟨mS, mA, mI⟩ := pE_m (n := n) (tx := tx) own d
    refine ⟨?_, ?_, ?_⟩
    · intro L dep i w q hL h hn
      obtain ⟨q1, e1, e2⟩ := eb_ok (show eb ((pE n tx own d).2.1 dep i w) _ = .ok q from h)
      exact pLp_own mS ihS L hL dep _ _ _ _ _ _ _ e2 hn (fun z => ihA _ _ _ _ e1 z)
    · intro dep i w q h hn
      have h : pAt n tx own (pE n tx own d).2.1 (pE n tx own d).2.2 dep i w = .ok q := h
      unfold pAt at h
      split at h
      · cases h; exact ownV_one (by decide)
      · split at h
        · cases h
          have hn : ntb (!(decide (own = -1) || decide (own = pk n tx i))) w (sk n tx i) = none := hn
          have hb := (ntb_none hn).2
          intro s hs _
          simp only [List.mem_singleton] at hs
          rw [hs]
          have : own = pk n tx i := by
            simp [ho] at hb
            exact hb
          rw [this]
        · split at h
          · split at h
            · obtain ⟨q1, e1, e2⟩ := eb_ok h
              cases e2
              exact ownV_app (ihI _ _ _ _ _ e1 hn) (ownV_one (by decide))
            · cases h
          · split at h
            · exact ihI _ _ _ _ _ h hn
            · split at h
              · obtain ⟨q1, e1, e2⟩ := eb_ok h
                cases e2
                exact ownV_app (ihI _ _ _ _ _ e1 hn) (ownV_one (by decide))
              · split at h
                · obtain ⟨q1, e1, e2⟩ := eb_ok h
                  cases e2
                  exact ownV_app (ihA _ _ _ _ e1 hn) (ownV_one (by decide))
                · cases h
    · intro dep cl i w q h hn
      obtain ⟨q1, e1, e2⟩ := eb_ok (show eb ((pE n tx own d).1 0 (dep + 1) i _) _ = .ok q from h)
      split at e2
      · cases e2; have z := ihS 0 _ _ _ q1 (by decide) e1 hn; exact z
      · cases e2
/-- what holds of a library that was read: fit functions -/
def fnV (f : Fn) : Prop := (∃ a, 65 ≤ a ∧ a ≤ 90 ∧ f.1 = nz a) ∧ vV f.2.1 ∧ wfy 0 f.2.2 1 ∧ f.2.2 ≠ [] ∧ ∀ s ∈ f.2.2, s.1 = 1 → s.2 = f.2.1
theorem sV_wf {y : List Sy} (h : sV y) : wfy 0 y 1 ∧ y ≠ [] := by
  obtain ⟨l, r, hT⟩ := h
  refine ⟨hT.wf 0, fun q => ?_⟩
  have := hT.cl.1
  rw [q] at this
  simp at this
theorem pFn_v {i : Nat} {w : Option Nat} {F : List Fn} {q : Nat × Option Nat × Fn × List Int32} (hi : i ≤ n) (h : pFn n tx i w F = .ok q) (hn : q.2.1 = none) : fnV q.2.2.1 ∧ w = none := by
  obtain ⟨c1, c2, c3, c4, c5, c6, c7, c8, c9⟩ := pFn_facts hi h
  obtain ⟨w1, w2⟩ := sV_wf c8
  refine ⟨⟨c6, c7, w1, w2, ?_⟩, c5.2 hn⟩
  obtain ⟨a, e1, h⟩ := eb_ok h
  obtain ⟨b, e2, h⟩ := eb_ok h
  obtain ⟨v, e3, h⟩ := eb_ok h
  obtain ⟨e, e4, h⟩ := eb_ok h
  obtain ⟨g, e5, h⟩ := eb_ok h
  obtain ⟨z, e6, h⟩ := eb_ok h
  obtain ⟨t, e7, h⟩ := eb_ok h
  cases h
  have hv : v.2 ≠ -1 := by
    unfold pLe at e3
    split at e3
    · next hc =>
      cases e3
      obtain ⟨k, k1, k2, k3⟩ := isI_lo7 (a := 97) (b := 102) hc (by omega) (by omega)
      simp only
      rw [k3]; exact nz_m1 (by omega)
    · cases e3
  exact (pE_own hv DE).1 _ _ _ _ _ (by decide) e6 hn
theorem pLi_v : ∀ (k i : Nat) (w : Option Nat) (F : List Fn) (r : List Int32) (q : Nat × Option Nat × List Fn × List Int32), i ≤ n → pLi n tx k i w F r = .ok q → q.2.1 = none → (w = none → ∀ f ∈ F, fnV f) → ∀ f ∈ q.2.2.1, fnV f := by
  intro k
  induction k with
  | zero => intro i w F r q _ h; cases h
  | succ k ih =>
    intro i w F r q hi h hn hF
    unfold pLi at h
    obtain ⟨q1, e1, e2⟩ := eb_ok h
    have c2 := (pFn_facts hi e1).2.1
    have hstep : q1.2.1 = none → ∀ f ∈ F ++ [q1.2.2.1], fnV f := by
      intro hz f hf
      obtain ⟨v1, v2⟩ := pFn_v hi e1 hz
      rcases List.mem_append.mp hf with x | x
      · exact hF v2 f x
      · simp at x; rw [x]; exact v1
    split at e2
    · cases e2; exact hstep hn
    · exact ih _ _ _ _ _ c2 e2 hn hstep
theorem rdL_v {q : List Fn × List Int32} (h : rdL n tx = .ok q) : ∀ f ∈ q.1, fnV f := by
  unfold rdL at h
  obtain ⟨z, e1, e2⟩ := eb_ok h
  cases hw : z.2.1 with
  | none =>
    rw [hw] at e2
    cases e2
    exact pLi_v FU 0 none [] [] z (Nat.zero_le _) e1 hw (fun _ f hf => by cases hf)
  | some p => rw [hw] at e2; cases e2
end
