set_option maxRecDepth 100000
/-- the tape holds L -/
def tTa (σ : cS) (L : List Int32) : Prop := σ.1 0 1 = nz L.length ∧ ∀ j, j < L.length → σ.1 1 j = L.getD j 0
theorem tTa_put {σ : cS} {L : List Int32} {c : Int32} (h : tTa σ L) : tTa (stI (stI σ 1 L.length c) 0 1 (nz (L.length + 1))) (L ++ [c]) := by
  refine ⟨by simp [gI], fun j hj => ?_⟩
  rw [gI, if_neg (by decide), gI, if_pos rfl]
  by_cases hl : j = L.length
  · rw [if_pos hl, hl]; simp
  · have hj2 : j < L.length := by simp at hj; omega
    rw [if_neg hl, h.2 j hj2]
    simp [List.getD_eq_getElem?_getD, List.getElem?_append_left hj2]
def f01 (σ σ' : cS) : Prop := σ'.2 = σ.2 ∧ (∀ o j, o ≠ 0 → o ≠ 1 → σ'.1 o j = σ.1 o j) ∧ (∀ j, j ≠ 1 → σ'.1 0 j = σ.1 0 j)
theorem f01.rf {σ : cS} : f01 σ σ := ⟨rfl, fun _ _ _ _ => rfl, fun _ _ => rfl⟩
theorem f01.tr {σ σ1 σ2 : cS} (h : f01 σ σ1) (h' : f01 σ1 σ2) : f01 σ σ2 := ⟨h'.1.trans h.1, fun o j a b => (h'.2.1 o j a b).trans (h.2.1 o j a b), fun j a => (h'.2.2 j a).trans (h.2.2 j a)⟩
theorem f01_put {σ : cS} {l : Nat} {c v : Int32} : f01 σ (stI (stI σ 1 l c) 0 1 v) := ⟨rfl, fun o j a b => by rw [gI, if_neg a, gI, if_neg b], fun j a => by rw [gI, if_pos rfl, if_neg a, gI, if_neg (by decide)]⟩
section
variable {tk n : Nat} {tx : Nat → Int32}
theorem tTx_01 {σ σ' : cS} (h : tTx σ tk n tx) (hf : f01 σ σ') (hk : tk ≠ 1) : tTx σ' tk n tx := by
  obtain ⟨h1, h2, h0, h8, h3, h4, h5⟩ := h
  exact ⟨by rw [hf.1]; exact h1, h2, h0, h8, by rw [hf.2.2 5 (by decide)]; exact h3, h4, fun k hk2 => by rw [hf.2.1 tk k h0 hk]; exact h5 k hk2⟩
theorem tPr21 (hk : tk ≠ 1) {D : Nat → Bool} : ∀ (m k f : Nat) (σ : cS) (fl : Bool) (L : List Int32), n - k ≤ m → m < f → k ≤ n → tTx σ tk n tx → (∀ j, j < n → σ.1 67 j = bi (D j)) → tTa σ L → (L ++ outp n tx D k fl).length ≤ 1000 →
    ∃ σ', fX11_printText_21 f (bi fl) (nz k) σ = some (nz (L ++ outp n tx D k fl).length, σ') ∧ f01 σ σ' ∧ tTa σ' (L ++ outp n tx D k fl) := by
  intro m
  induction m with
  | zero =>
    intro k f σ fl L hm hf hkn T hD hT hl
    obtain ⟨f, rfl⟩ : ∃ e, f = e + 1 := ⟨f - 1, by omega⟩
    have hn6 := T.2.2.2.2.2.1
    rw [out_end (by omega), List.append_nil]
    refine ⟨σ, ?_, f01.rf, hT⟩
    unfold fX11_printText_21
    rw [T.2.2.2.2.1, if_pos (by rw [nz_le (by omega) (by omega)]; omega), hT.1]
  | succ m ih =>
    intro k f σ fl L hm hf hkn T hD hT hl
    obtain ⟨f, rfl⟩ : ∃ e, f = e + 1 := ⟨f - 1, by omega⟩
    have hn6 := T.2.2.2.2.2.1
    by_cases hk1 : k < n
    case neg =>
      rw [out_end (by omega), List.append_nil]
      refine ⟨σ, ?_, f01.rf, hT⟩
      unfold fX11_printText_21
      rw [T.2.2.2.2.1, if_pos (by rw [nz_le (by omega) (by omega)]; omega), hT.1]
    have rT : ∀ (τ : cS), τ.2.2 0 4 = some tk → ∀ (K : Nat → Option (Int32 × cS)), rR (τ.2.2 0 4) K = K tk := fun τ hτ K => by rw [hτ]; rfl
    have d2 : ∀ {β : Type} (K : Option β), ck (decide ((twLa tk).1 = 2)) K = K := fun K => by rw [T.2.1]; exact ck_t (by decide)
    have d3 : ∀ {β : Type} (x : Nat) (K : Option β), x < 1000 → ck (inB (nz x) (twLa tk).2) K = K := fun x K hx => by rw [T.2.1]; exact ck_n (by omega) (by omega)
    conv => arg 1; ext σ'; arg 1; lhs; unfold fX11_printText_21
    rw [T.2.2.2.2.1, if_neg (by rw [nz_le (by omega) (by omega)]; omega), rT σ T.1, d2, d3 k _ (by omega), nz_tn (by omega), (T.2.2.2.2.2.2 k hk1).1, tFig, bd_s, ck_n (show k < 1000 by omega) (by omega), hD k hk1, nz_s]
    -- one sign, and a second figure
    have h81 : ∀ (τ : cS) (L1 : List Int32), tTx τ tk n tx → (∀ j, j < n → τ.1 67 j = bi (D j)) → tTa τ L1 → f01 σ τ → L1 ++ (if isI (tx k) 48 57 = true then (pNm n tx k).2.1 ++ outp n tx D (pNm n tx k).1 true else tx k :: outp n tx D (k + 1) false) = L ++ outp n tx D k fl →
        ∃ σ', fX11_printText_81 (fX11_printText_21 f) (nz k) (tx k) (if isI (tx k) 48 57 = true then 1 else 0) τ = some (nz (L ++ outp n tx D k fl).length, σ') ∧ f01 σ σ' ∧ tTa σ' (L ++ outp n tx D k fl) := by
      intro τ L1 Tτ Dτ Lτ Fτ e
      have hl1 : L1.length < 1000 := by
        have := congrArg List.length e
        rw [List.length_append] at this
        have h1 : 1 ≤ (if isI (tx k) 48 57 = true then (pNm n tx k).2.1 ++ outp n tx D (pNm n tx k).1 true else tx k :: outp n tx D (k + 1) false).length := by
          split
          · rw [List.length_append]
            have : 1 ≤ (pNm n tx k).2.1.length := by unfold pNm; split <;> simp
            omega
          · simp
        omega
      unfold fX11_printText_81
      rw [Lτ.1, ck_n hl1 (by omega), nz_tn (by omega), wI_e]
      have e01 : (stI τ 1 L1.length (tx k)).1 0 1 = nz L1.length := by rw [gI, if_neg (by decide)]; exact Lτ.1
      rw [e01, nz_s, wI_e]
      have T2 := tTx_01 Tτ (f01_put (l := L1.length) (c := tx k) (v := nz (L1.length + 1))) hk
      have L2 := tTa_put (c := tx k) Lτ
      have F2 := Fτ.tr (f01_put (l := L1.length) (c := tx k) (v := nz (L1.length + 1)))
      have D2 : ∀ j, j < n → (stI (stI τ 1 L1.length (tx k)) 0 1 (nz (L1.length + 1))).1 67 j = bi (D j) := fun j hj => by rw [gI, if_neg (by decide), gI, if_neg (by decide)]; exact Dτ j hj
      generalize stI (stI τ 1 L1.length (tx k)) 0 1 (nz (L1.length + 1)) = τ2 at T2 L2 F2 D2 ⊢
      rw [i10]
      have fin : ∀ (fl' : Bool), L1 ++ [tx k] ++ outp n tx D (k + 1) fl' = L ++ outp n tx D k fl → ∃ σ', fX11_printText_21 f (bi fl') (nz (k + 1)) τ2 = some (nz (L ++ outp n tx D k fl).length, σ') ∧ f01 σ σ' ∧ tTa σ' (L ++ outp n tx D k fl) := by
        intro fl' e'
        obtain ⟨σ', i1, i2, i3⟩ := ih (k + 1) f τ2 fl' (L1 ++ [tx k]) (by omega) (by omega) (by omega) T2 D2 L2 (by rw [e']; exact hl)
        rw [e'] at i1 i3
        exact ⟨σ', i1, F2.tr i2, i3⟩
      by_cases hd : isI (tx k) 48 57 = true
      · rw [if_pos hd] at e ⊢
        rw [if_pos hd]
        by_cases hp : tx k ≠ 48 ∧ k + 1 < n ∧ isI (tx (k + 1)) 48 57 = true
        · have epn : pNm n tx k = (k + 2, [tx k, tx (k + 1)], ((10 : Int32) * (tx k - 48)) + tx (k + 1) - 48) := if_pos hp
          rw [epn] at e
          rw [if_neg hp.1, T2.2.2.2.2.1, nz_s, if_neg (by rw [nz_le (by omega) (by omega)]; omega), rT τ2 T2.1, d2, d3 (k + 1) _ (by omega), nz_tn (by omega), (T2.2.2.2.2.2.2 (k + 1) hp.2.1).1, tFig, bd_s, i10, if_pos hp.2.2, rT τ2 T2.1, d2, d3 (k + 1) _ (by omega), (T2.2.2.2.2.2.2 (k + 1) hp.2.1).1]
          have hl2 : (L1 ++ [tx k]).length < 1000 := by
            have := congrArg List.length e
            simp only [List.length_append, List.length_cons, List.length_nil] at this hl ⊢
            omega
          rw [L2.1, ck_n hl2 (by omega), nz_tn (by omega), wI_e]
          have e01 : (stI τ2 1 (L1 ++ [tx k]).length (tx (k + 1))).1 0 1 = nz (L1 ++ [tx k]).length := by rw [gI, if_neg (by decide)]; exact L2.1
          rw [e01, nz_s, wI_e, nz_s]
          have T3 := tTx_01 T2 (f01_put (l := (L1 ++ [tx k]).length) (c := tx (k + 1)) (v := nz ((L1 ++ [tx k]).length + 1))) hk
          have L3 := tTa_put (c := tx (k + 1)) L2
          have F3 := F2.tr (f01_put (l := (L1 ++ [tx k]).length) (c := tx (k + 1)) (v := nz ((L1 ++ [tx k]).length + 1)))
          have D3 : ∀ j, j < n → (stI (stI τ2 1 (L1 ++ [tx k]).length (tx (k + 1))) 0 1 (nz ((L1 ++ [tx k]).length + 1))).1 67 j = bi (D j) := fun j hj => by rw [gI, if_neg (by decide), gI, if_neg (by decide)]; exact D2 j hj
          generalize stI (stI τ2 1 (L1 ++ [tx k]).length (tx (k + 1))) 0 1 (nz ((L1 ++ [tx k]).length + 1)) = τ3 at T3 L3 F3 D3 ⊢
          have e' : L1 ++ [tx k] ++ [tx (k + 1)] ++ outp n tx D (k + 1 + 1) true = L ++ outp n tx D k fl := by rw [← e]; simp
          obtain ⟨σ', i1, i2, i3⟩ := ih (k + 1 + 1) f τ3 true (L1 ++ [tx k] ++ [tx (k + 1)]) (by omega) (by omega) (by omega) T3 D3 L3 (by rw [e']; exact hl)
          rw [e'] at i1 i3
          exact ⟨σ', i1, F3.tr i2, i3⟩
        · have epn : pNm n tx k = (k + 1, [tx k], tx k - 48) := if_neg hp
          rw [epn] at e
          have fin1 := fin true (by rw [← e]; simp)
          have : (if tx k = 48 then fX11_printText_21 f 1 (nz k + 1) τ2 else if τ2.1 0 5 ≤ nz k + 1 then fX11_printText_21 f 1 (nz k + 1) τ2 else rR (τ2.2.2 0 4) fun k3 => ck (decide ((twLa k3).1 = 2)) <| ck (inB (nz k + 1) (twLa k3).2) <| bd (fX11_isFigure (τ2.1 k3 (nz k + 1).toNatClampNeg) τ2) fun r5 σ4 => if r5 = 0 then (fX11_printText_21 f 1 (nz k + 1) σ4) else rR (σ4.2.2 0 4) fun k6 => ck (decide ((twLa k6).1 = 2)) <| ck (inB (nz k + 1) (twLa k6).2) <| ck (inB (σ4.1 0 1) 1000) <| wI σ4 1 (σ4.1 0 1).toNatClampNeg (σ4.1 k6 (nz k + 1).toNatClampNeg) fun σ7 => wI σ7 0 1 ((σ7.1 0 1) + 1) fun σ8 => fX11_printText_21 f 1 ((nz k + 1) + 1) σ8) = fX11_printText_21 f 1 (nz (k + 1)) τ2 := by
            rw [nz_s]
            by_cases h48 : tx k = 48
            · rw [if_pos h48]
            · rw [if_neg h48, T2.2.2.2.2.1]
              by_cases hkn1 : k + 1 < n
              · rw [if_neg (by rw [nz_le (by omega) (by omega)]; omega), rT τ2 T2.1, d2, d3 (k + 1) _ (by omega), nz_tn (by omega), (T2.2.2.2.2.2.2 (k + 1) hkn1).1, tFig, bd_s, i10, if_neg (fun q => hp ⟨h48, hkn1, q⟩)]
              · rw [if_pos (by rw [nz_le (by omega) (by omega)]; omega)]
          rw [this]
          exact fin1
      · rw [if_neg hd] at e ⊢
        rw [if_neg hd, nz_s]
        exact fin false (by rw [← e]; simp)
    by_cases hDk : D k = true
    · rw [hDk, show bi true = 1 from rfl, if_neg (by decide)]
      obtain ⟨σ', i1, i2, i3⟩ := ih (k + 1) f σ fl L (by omega) (by omega) (by omega) T hD hT (by rw [← out_D hk1 hDk]; exact hl)
      rw [out_D hk1 hDk]
      exact ⟨σ', i1, i2, i3⟩
    · rw [show D k = false by simpa using hDk, show bi false = 0 from rfl, if_pos rfl, i10]
      have eout := out_s (tx := tx) (D := D) (f := fl) hk1
      rw [if_neg hDk] at eout
      by_cases hd : isI (tx k) 48 57 = true
      · rw [if_pos hd]
        rw [if_pos hd] at eout
        cases fl with
        | false =>
          rw [show bi false = 0 from rfl, if_pos rfl]
          exact h81 σ L T hD hT f01.rf (by rw [eout, if_pos hd]; simp)
        | true =>
          rw [show bi true = 1 from rfl, if_neg (by decide)]
          have hl1 : L.length < 1000 := by
            rw [eout] at hl
            simp only [List.length_append, if_pos, List.length_cons, List.length_nil] at hl
            omega
          rw [hT.1, ck_n hl1 (by omega), nz_tn (by omega), wI_e]
          have e01 : (stI σ 1 L.length 32).1 0 1 = nz L.length := by rw [gI, if_neg (by decide)]; exact hT.1
          rw [e01, nz_s, wI_e]
          exact h81 _ (L ++ [32]) (tTx_01 T f01_put hk) (fun j hj => by rw [gI, if_neg (by decide), gI, if_neg (by decide)]; exact hD j hj) (tTa_put hT) f01_put (by rw [eout, if_pos hd]; simp)
      · rw [if_neg hd]
        exact h81 σ L T hD hT f01.rf (by rw [eout, if_neg hd, if_neg hd])
/-- the twin prints a text that was read -/
theorem tPrint {σ : cS} {r : List Int32} (T : tTx σ tk n tx) (hk : tk ≠ 1) (hk2 : tk ≠ 67) (h : tGP σ n tx r) (hr : r.length ≤ 1000) : ∃ σ', fX11_printText σ = some (nz r.length, σ') ∧ tQF σ σ' ∧ tTa σ' r := by
  obtain ⟨g, h26, hgn, hG, hP⟩ := h
  have hn6 := T.2.2.2.2.2.1
  unfold fX11_printText fX11_markGroups
  rw [wI_e, h26]
  have fr0 : tQF σ (stI σ 0 113 (nz g)) := ⟨rfl, fun o j a b c => by rw [gI, if_neg a], fun j a b => by rw [gI, if_pos rfl, if_neg b]⟩
  have T1 : tTx (stI σ 0 113 (nz g)) tk n tx := by
    obtain ⟨h1, h2, h0, h8, h3, h4, h5⟩ := T
    exact ⟨h1, h2, h0, h8, by simpa [gI] using h3, h4, fun k hk2 => by rw [gI, if_neg h0]; exact h5 k hk2⟩
  obtain ⟨σ2, e2, F2, D2, -⟩ := tMk2 hk2 n 0 FU (stI σ 0 113 (nz g)) (by omega) (by unfold FU; omega) (Nat.zero_le _) T1
  rw [show (0 : Int32) = nz 0 from rfl, e2]
  have kk : ∀ o j, o ≠ 67 → o ≠ 0 → σ2.1 o j = σ.1 o j := fun o j h1 h2 => by rw [F2.2 o j h1, gI, if_neg h2]
  have hsm : gSm 0 g σ σ2 := fun a x a1 a2 _ _ => kk a x (by omega) (by omega)
  obtain ⟨σ3, e3, F3, D3⟩ := tMk51 (by omega : g ≤ 600) hn6 g 0 FU σ2 (fun j => bl (tx j)) (by omega) (by unfold FU; omega) (Nat.zero_le _) (by rw [F2.2 0 113 (by decide)]; simp [gI]) (hG.sm hsm) (fun j hj => D2 j (Nat.zero_le _) hj)
  rw [show (0 : Int32) = nz 0 from rfl, e3, bd_s, wI_e]
  have T3 := tTx_67 (tTx_67 T1 F2 hk2) F3 hk2
  have F4 : f01 σ3 (stI σ3 0 1 (nz 0)) := ⟨rfl, fun o j a b => by rw [gI, if_neg a], fun j a => by rw [gI, if_pos rfl, if_neg a]⟩
  have eo : outp n tx (fun j => bl (tx j) || gOb σ2 0 g j) 0 false = r := by
    have := (hP.sm hsm) (fun j => bl (tx j) || gOb σ2 0 g j) (fun k _ _ => rfl)
    rw [this, out_end (Nat.le_refl _), List.append_nil]
  obtain ⟨σ5, e5, F5, L5⟩ := tPr21 (tk := tk) (tx := tx) hk (D := fun j => bl (tx j) || gOb σ2 0 g j) n 0 FU (stI σ3 0 1 (nz 0)) false [] (by omega) (by unfold FU; omega) (Nat.zero_le _) (tTx_01 T3 F4 hk) (fun j hj => by rw [gI, if_neg (by decide)]; exact D3 j hj) ⟨by simp [gI], fun j hj => by simp at hj⟩ (by rw [eo]; simpa using hr)
  rw [eo, List.nil_append] at e5 L5
  refine ⟨σ5, e5, ((fr0.tr (tQF_67 F2)).tr (tQF_67 F3)).tr ?_, L5⟩
  have := F4.tr F5
  exact ⟨this.1, fun o j a b _ => this.2.1 o j a b, fun j a _ => this.2.2 j a⟩
end
