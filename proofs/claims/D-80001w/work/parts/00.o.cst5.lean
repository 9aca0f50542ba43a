set_option maxRecDepth 100000
theorem cPA_I {σ : cS} {p o j : Nat} {v : Int32} {E : List Pt} (h : cPA σ 6 p E) (ho : o ≠ 7 ∧ o ≠ 8 ∧ o ≠ 9) : cPA (stI σ o j v) 6 p E := by
  intro k e hk
  have := h k e hk
  rw [gI, if_neg (by omega), gI, if_neg (by omega), gI, if_neg (by omega)]
  exact this
theorem cCd1_g {σ : cS} {k p j : Nat} {v : Int32} {c : Cd} (h : cCd1 σ 6 k p c) (hj : j ≠ k) : cCd1 (stI σ 14 j v) 6 k p c := by
  have key : ∀ o, (stI σ 14 j v).1 o k = σ.1 o k := by
    intro o
    rw [gI]
    split
    · rw [if_neg (fun q => hj q.symm)]
    · rfl
  obtain ⟨h1, h2, h3, h4, h5, h6⟩ := h
  refine ⟨(key _).trans h1, (key _).trans h2, fun q => ?_, fun q => ⟨(key _).trans (h4 q).1, (key _).trans (h4 q).2⟩, fun q => (key _).trans (h5 q), fun q => (key _).trans (h6 q)⟩
  obtain ⟨a1, a2, a3⟩ := h3 q
  exact ⟨(key _).trans a1, (key _).trans a2, cPA_I a3 (by decide)⟩
theorem cCd_g {σ : cS} {j : Nat} {v : Int32} (C : List Cd) : ∀ {k p : Nat}, cCd σ 6 k p C → (j < k ∨ k + C.length ≤ j) → cCd (stI σ 14 j v) 6 k p C := by
  induction C with
  | nil => intro k p _ _; trivial
  | cons c C ih =>
    intro k p h hj
    simp only [List.length_cons] at hj
    exact ⟨cCd1_g h.1 (by omega), ih h.2 (by omega)⟩
section
variable {n : Nat} {tx : Nat → Int32}
theorem cBlp {R1 R2 : Int32 → cS → Option (Option Unit × cS)} {R : Nat → Nat → Option Nat → Nat → Nat → List Int32 → SR} {dep d : Nat}
    (hF : ∀ dep i w st cb ch q, i ≤ n → R dep i w st cb ch = .ok q → GS n tx i w st cb ch q)
    (hR : ∀ dep i w p st cb s ch σ, 2 * nbr n tx i + 3 ≤ 3 * d → dep + nbr n tx i ≤ 1000 → st + nbr n tx i ≤ 1000 → 3 * s + 4 * nbr n tx i ≤ 1600 → cMS σ n tx i w p st cb s ch → cSO σ n tx p cb s (R1 (nz dep) σ) (R dep i w st cb ch)) {σ0 : cS} {p0 s0 cb : Nat} :
    ∀ (k i : Nat) (w : Option Nat) (p st : Nat) (C : List Cd) (ch r : List Int32) (σ : cS), nbr n tx i < k → 2 * nbr n tx i + 3 ≤ 3 * d → dep + 1 + nbr n tx i ≤ 1000 → st + nbr n tx i ≤ 1000 → 3 * (s0 + r.length) + 4 * nbr n tx i ≤ 1600 →
      p = p0 + psz C → cMS σ n tx i w p st (cb + C.length) (s0 + r.length) ch → cSF (st ≤ 40) p0 cb s0 σ0 σ → (st ≤ 40 → cCd σ 6 cb p0 C) → cPr σ s0 r →
      cSO σ0 n tx p0 cb s0 (fX1_block_B_35 R1 R2 (nz dep) k σ) (pBlp n tx R dep k i w st cb C ch r) := by
  intro k
  induction k with
  | zero => intro i w p st C ch r σ h; omega
  | succ k ih =>
    intro i w p st C ch r σ hk hd hdep hst hs hp M F hC P
    unfold fX1_block_B_35 pBlp
    have hsn := nbr_sk (n := n) (tx := tx) i
    have hsl := sk_le (n := n) (tx := tx) M.E.hle
    rw [cTakes 125 M.E.htx M.E.hat M.E.hle (by decide)]
    by_cases hc : pk n tx i = 125
    · obtain ⟨hlt, etx⟩ := pkc_lt hc (by decide)
      have htk := nbr_tk hlt
      have hsg := sk_ge (n := n) (tx := tx) i
      rw [if_pos hc, if_pos hc, bd_s, if_neg (by decide)]
      have M1 := M.go (j := sk n tx i + 1) (by omega) (by omega)
      obtain ⟨u1, M2⟩ := cPutM (c := 125) M1 ⟨125, by decide, rfl⟩ (by omega)
      rw [ck_d M1.E.hto, u1, bd_s]
      have F2 : ∀ g a b, cSF g a b (s0 + r.length) σ (ptL (stI σ 3 3 (nz (sk n tx i + 1))) (s0 + r.length) [125]) := fun g a b => cAt_S.tq (cSF_pt _)
      refine ⟨_, rfl, F.tr (F2 (st ≤ 40) p0 cb) (Nat.le_refl _) (Nat.le_refl _) (by omega) (fun x => ⟨x, x⟩), ?_, fun x => ?_, ?_⟩
      · simp only [List.length_append, List.length_cons, List.length_nil]
        rw [← hp, show s0 + (r.length + (0 + 1)) = s0 + r.length + 1 by omega]
        exact M2
      · exact cCd_S (F2 True (p0 + psz C) (cb + C.length)) trivial C (hC x) (Nat.le_refl _) (Nat.le_refl _)
      · exact cPr_app (cPr_S P (F2 True 0 0) (Nat.le_refl _)) cPr_pt
    · rw [if_neg hc, if_neg hc, bd_s, if_pos rfl, nz_s]
      have M1 := M.go (j := sk n tx i) (sk_ge i) hsl
      have hr := hR (dep + 1) (sk n tx i) w p st (cb + C.length) (s0 + r.length) ch _ (by omega) (by omega) (by omega) (by omega) M1
      rcases hq : R (dep + 1) (sk n tx i) w st (cb + C.length) ch with e | q
      · rw [hq] at hr
        obtain ⟨σ', h1, h2, h3⟩ := hr
        rw [bdT_en h1]
        exact ⟨σ', rfl, (F.tq cAt_S).tr h2 (g := False) (by omega) (by omega) (by omega) (fun x => x.elim), h3⟩
      · rw [hq] at hr
        obtain ⟨σ', h1, h2, h3, h4, h5⟩ := hr
        obtain ⟨⟨b1, b2, b3, b4, b5, b6, b7, b8, b9, b10, b11, b12, b13⟩, b14, b15, b16⟩ := hF _ _ _ _ _ _ _ hsl hq
        have htk : nbr n tx q.1 < nbr n tx i := by omega
        rw [bdT_e h1]
        simp only [eb]
        have F0 : ∀ g a b d, cSF g a b d σ (stI σ 3 3 (nz (sk n tx i))) := fun g a b d => cAt_S
        refine ih q.1 q.2.1 (p + psz q.2.2.2.1) q.2.2.1 (C ++ q.2.2.2.1) q.2.2.2.2.1 (r ++ q.2.2.2.2.2) σ' (by omega) (by omega) (by omega) (by omega) (by rw [List.length_append]; omega) (by rw [psz_app]; omega) ?_ ((F.tq cAt_S).tr h2 (by omega) (by omega) (by omega) (fun x => ⟨by omega, x⟩)) (fun x => ?_) ?_
        · rw [List.length_append, List.length_append, ← Nat.add_assoc, ← Nat.add_assoc]; exact h3
        · refine cCd_app C (cCd_S ((F0 True _ _ _).tr h2 (g := q.2.2.1 ≤ 40) (Nat.le_refl _) (Nat.le_refl _) (Nat.le_refl _) (fun x => ⟨trivial, x⟩)) x C (hC (by omega)) (Nat.le_refl _) (by omega)) ?_
          rw [← hp]; exact h4 x
        · exact cPr_app (cPr_S P ((F0 True _ _ _).tr h2 (g := q.2.2.1 ≤ 40) (Nat.le_refl _) (Nat.le_refl _) (Nat.le_refl _) (fun x => ⟨trivial, x⟩)) (Nat.le_refl _)) h5
end
