set_option maxRecDepth 100000
section
variable {n : Nat} {tx : Nat → Int32}
theorem cSum {σ : cS} {own : Int32} {i p : Nat} {w : Option Nat} (S : cES σ n tx own i w p) : cEO σ n tx own p (fX1_sum 0 0 σ) (pSum n tx own i w) := by
  have h := S.hbd
  exact (cE DE).1 0 0 i w p σ (Or.inl rfl) (by unfold DE; omega) (by omega) S
/-- code with a sum, which is printed -/
theorem cSumOf {σ : cS} {i p st cb s : Nat} {w : Option Nat} {ch : List Int32} {wh v : Int32} (M : cMS σ n tx i w p st cb s ch) (hw : lo7 wh) (hv : lo7 v) (h2 : cb + 1 ≤ 2 * st) (hs : s + nbr n tx i ≤ 600) :
    (∃ e, pSum n tx (-1) i w = .error e ∧ ∃ σ', fX1_sumOf wh v σ = some (none, σ') ∧ cSF False p cb s σ σ' ∧ σ'.1 4 6 = nz e) ∨
    (∃ q, pSum n tx (-1) i w = .ok q ∧ ∃ k σ', k < 96 ∧ fX1_sumOf wh v σ = some (some (nz k), σ') ∧ cSF (st ≤ 40) p cb s σ σ' ∧ cMS σ' n tx q.1 q.2.1 (p + q.2.2.2.2.length) st (cb + 1) (s + q.2.2.2.1.length) ch ∧ cPr σ' s q.2.2.2.1 ∧
      (st ≤ 40 → k = cb ∧ σ'.1 10 cb = wh ∧ σ'.1 11 cb = v ∧ σ'.1 12 cb = nz p ∧ σ'.1 13 cb = nz (p + q.2.2.2.2.length - 1) ∧ cPA σ' 6 p (bld p q.2.2.2.2 []).1)) := by
  have hr := cSum M.E
  unfold fX1_sumOf
  rw [ck_d M.E.hto, M.E.hp]
  rcases hq : pSum n tx (-1) i w with e | q
  · rw [hq] at hr
    obtain ⟨σ', h1, h2, h3⟩ := hr
    rw [bdT_en h1]
    exact Or.inl ⟨e, rfl, σ', rfl, cSF_E h2, h3⟩
  · rw [hq] at hr
    obtain ⟨σ1, h1, hF, h3, h4⟩ := hr
    obtain ⟨f1, f2, f3, f4, f5, f6⟩ := pSum_facts M.E.hle hq
    have hb := M.E.hbd
    have M1 := cMS_E M hF h3
    obtain ⟨k, k1, k2, k3, M2, F2, k5, k6, k7⟩ := M1.add hw hv h2
    rw [bdT_e h1, ck_d h3.hto, k3, bd_s, ck_d M2.E.hto, ck_n k1 (by omega), nz_tn (by omega), wI_e]
    have M3 := M2.oth (o := 12) (j := k) (v := nz p) (by omega)
    have M4 := M3.oth (o := 13) (j := k) (v := nz (p + q.2.2.2.2.length - 1)) (by omega)
    rw [ck_d M3.E.hto, ck_n k1 (by omega), wI_e, ck_d M4.E.hto]
    have hcb : st ≤ 40 → cb ≤ k := fun x => by have := k2 x; omega
    have F4 : cSF (st ≤ 40) (p + q.2.2.2.2.length) cb s σ1 (stI (stI (stAdd σ1 k wh v) 12 k (nz p)) 13 k (nz (p + q.2.2.2.2.length - 1))) :=
      (F2.tq (cSF_I (Or.inr (Or.inr (Or.inr (Or.inr (Or.inr (Or.inr ⟨by omega, hcb⟩)))))))).tq (cSF_I (Or.inr (Or.inr (Or.inr (Or.inr (Or.inr (Or.inr ⟨by omega, hcb⟩)))))))
    have hP4 := cPA_S h4 F4 (by rw [bld_len]; exact Nat.le_refl _)
    have e10 : (stI (stI (stAdd σ1 k wh v) 12 k (nz p)) 13 k (nz (p + q.2.2.2.2.length - 1))).1 10 k = wh := by simpa [gI] using k5
    have e11 : (stI (stI (stAdd σ1 k wh v) 12 k (nz p)) 13 k (nz (p + q.2.2.2.2.length - 1))).1 11 k = v := by simpa [gI] using k6
    have e12 : (stI (stI (stAdd σ1 k wh v) 12 k (nz p)) 13 k (nz (p + q.2.2.2.2.length - 1))).1 12 k = nz p := by simp [gI]
    have e13 : (stI (stI (stAdd σ1 k wh v) 12 k (nz p)) 13 k (nz (p + q.2.2.2.2.length - 1))).1 13 k = nz (p + q.2.2.2.2.length - 1) := by simp [gI]
    generalize stI (stI (stAdd σ1 k wh v) 12 k (nz p)) 13 k (nz (p + q.2.2.2.2.length - 1)) = σ4 at M4 F4 hP4 e10 e11 e12 e13 ⊢
    rw [cPrint f4 hP4 (by omega) M4.hs (by omega), bd_s]
    have F5 : cSF (st ≤ 40) (p + q.2.2.2.2.length) cb s σ4 (ptL σ4 s q.2.2.2.1) := cSF_pt _
    refine Or.inr ⟨q, rfl, k, _, k1, rfl, (cSF_E hF).tr (F4.tq F5) (by omega) (Nat.le_refl _) (Nat.le_refl _) (fun x => ⟨x, x⟩), M4.pt _, cPr_pt, fun x => ?_⟩
    have := k2 x
    subst this
    refine ⟨rfl, ?_, ?_, ?_, ?_, cPA_pt hP4⟩
    · rw [ptL_o _ _ _ _ _ (by decide) (fun q => absurd q.1 (by decide))]; exact e10
    · rw [ptL_o _ _ _ _ _ (by decide) (fun q => absurd q.1 (by decide))]; exact e11
    · rw [ptL_o _ _ _ _ _ (by decide) (fun q => absurd q.1 (by decide))]; exact e12
    · rw [ptL_o _ _ _ _ _ (by decide) (fun q => absurd q.1 (by decide))]; exact e13
/-- what reading a statement does -/
def cSO (σ : cS) (n : Nat) (tx : Nat → Int32) (p cb s : Nat) (x : Option (Option Unit × cS)) (r : SR) : Prop := match r with
  | .error e => ∃ σ', x = some (none, σ') ∧ cSF False p cb s σ σ' ∧ σ'.1 4 6 = nz e
  | .ok q => ∃ σ', x = some (some (), σ') ∧ cSF (q.2.2.1 ≤ 40) p cb s σ σ' ∧ cMS σ' n tx q.1 q.2.1 (p + psz q.2.2.2.1) q.2.2.1 (cb + q.2.2.2.1.length) (s + q.2.2.2.2.2.length) q.2.2.2.2.1 ∧ (q.2.2.1 ≤ 40 → cCd σ' 6 cb p q.2.2.2.1) ∧ cPr σ' s q.2.2.2.2.2
/-- a sign is taken, or thrown -/
theorem cTakeM {σ : cS} {i p st cb s : Nat} {w : Option Nat} {ch : List Int32} (c : Int32) (M : cMS σ n tx i w p st cb s ch) (hc : c ≠ -1) :
    (∃ e, pTk n tx c i = .error e ∧ ∃ σ', fX1_take c σ = some (none, σ') ∧ (∀ g a b d, cSF g a b d σ σ') ∧ σ'.1 4 6 = nz e) ∨ (∃ j, pTk n tx c i = .ok j ∧ fX1_take c σ = some (some (), stI σ 3 3 (nz j)) ∧ cMS (stI σ 3 3 (nz j)) n tx j w p st cb s ch) := by
  rw [cTake c M.E.htx M.E.hat M.E.hle hc]
  by_cases h : pk n tx i = c
  · obtain ⟨h1, h2⟩ := pkc_lt h hc
    have := sk_ge (n := n) (tx := tx) i
    refine Or.inr ⟨sk n tx i + 1, if_pos h, by rw [if_pos h], M.go (by omega) (by omega)⟩
  · refine Or.inl ⟨sk n tx i, if_neg h, _, by rw [if_neg h], fun g a b d => ?_, by simp [gI]⟩
    exact (cSF_I (by omega)).tq (cSF_I (by omega))
/-- bytes are put -/
theorem cPutM {σ : cS} {i p st cb s : Nat} {w : Option Nat} {ch : List Int32} {c : Int32} (M : cMS σ n tx i w p st cb s ch) (hc : lo7 c) (hs : s < 600) : fX3_put 6 c σ = some ((), ptL σ s [c]) ∧ cMS (ptL σ s [c]) n tx i w p st cb (s + 1) ch := ⟨cPut hc M.hs hs, M.pt [c]⟩
theorem cLookM {σ : cS} {i p st cb s : Nat} {w : Option Nat} {ch : List Int32} (M : cMS σ n tx i w p st cb s ch) : fX1_look σ = some (pk n tx i, stI σ 3 3 (nz (sk n tx i))) ∧ cMS (stI σ 3 3 (nz (sk n tx i))) n tx (sk n tx i) w p st cb s ch := ⟨cLook M.E.htx M.E.hat M.E.hle, M.go (sk_ge i) (sk_le M.E.hle)⟩
theorem cNumM {σ : cS} {i p st cb s : Nat} {w : Option Nat} {ch : List Int32} (M : cMS σ n tx i w p st cb s ch) :
    (∃ e, pNo n tx i = .error e ∧ ∃ σ', fX1_number σ = some (none, σ') ∧ (∀ g a b d, cSF g a b d σ σ') ∧ σ'.1 4 6 = nz e) ∨ (∃ q, pNo n tx i = .ok q ∧ fX1_number σ = some (some q.2.2, stI σ 3 3 (nz q.1)) ∧ cMS (stI σ 3 3 (nz q.1)) n tx q.1 w p st cb s ch) := by
  rw [cNum M.E.htx M.E.hat M.E.hle]
  by_cases h : isI (pk n tx i) 48 57 = true
  · have hq : pNo n tx i = .ok (pNm n tx (sk n tx i)) := if_pos h
    obtain ⟨f1, f2, f3, f4, f5, -⟩ := pNo_ok hq
    exact Or.inr ⟨_, hq, by rw [if_pos h], M.go (by omega) f5⟩
  · refine Or.inl ⟨sk n tx i, if_neg h, _, by rw [if_neg h], fun g a b d => ?_, by simp [gI]⟩
    exact (cSF_I (by omega)).tq (cSF_I (by omega))
theorem nV_lo {v : Int32} (h : nV v) : lo7 v := by obtain ⟨a, ha, rfl⟩ := h; exact lo7_lit (by omega)
theorem cAt_S {g : Prop} {p cb s : Nat} {σ : cS} {v : Int32} : cSF g p cb s σ (stI σ 3 3 v) := cSF_I (by omega)
end
