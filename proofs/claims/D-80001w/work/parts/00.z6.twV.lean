set_option maxRecDepth 100000
section
variable {tk n : Nat} {tx : Nat → Int32} {nm : Nat → Int32} {nF B : Nat}
/-- a draw that stops: its orders are put all the same -/
theorem tDrErr {σ : cS} {i : Nat} {w : Option Nat} {o g b st nc dm : Nat} {ch : List Int32} {v x2 x4 : Int32} (f : Nat) (M : tMS σ i w o g b st nc dm ch) (ho : o ≤ 10800) (x6 x3 : Int32) :
    ∃ σ', fX11_readDraw_35 v (f + 1) x2 x3 x4 0 x6 (stI σ 0 7 (nz i)) = some (0, σ') ∧ σ'.1 0 7 = nz i ∧ tMF o g b nc (3 * dm) σ σ' ∧ ∃ o', o' ≤ 10810 ∧ σ'.1 0 11 = nz o' := by
  unfold fX11_readDraw_35 fX11_readDraw_136 fX11_readDraw_153
  rw [if_pos rfl, if_pos rfl]
  have e11 : (stI σ 0 7 (nz i)).1 0 11 = nz o := by simpa [gI] using M.B.od
  rw [tPut e11 (by omega), bd_s]
  have e12 : (stO (stI σ 0 7 (nz i)) o 10 ((stI σ 0 7 (nz i)).1 0 46)).1 0 11 = nz (o + 1) := by simp [stO, gI]
  rw [tPut e12 (by omega), bd_s, wI_e, ck_t (by decide)]
  refine ⟨_, rfl, by simp [stO, gI], ?_, o + 1 + 1, by omega, by simp [stO, gI]⟩
  exact (((tMF_I (by omega)).tq (tMF_O (Nat.le_refl _))).tq (tMF_O (by omega))).tq (tMF_I (by omega))
/-- one number of a draw -/
theorem tDrNum {σ : cS} {i : Nat} {w : Option Nat} {o g b st nc dm k : Nat} {ch : List Int32} {v x2 x4 : Int32} (f : Nat) (T : tTx σ tk n tx) (M : tMS σ i w o g b st nc dm ch) (hi : i ≤ n) (hk : k < 3) (hdm : 3 * dm ≤ 600) (hd : isI (pk n tx i) 48 57 = true) :
    fX11_readDraw_35 v (f + 1) x2 (nz k) x4 1 1 σ = fX11_readDraw_35 v f (x2 + (pNm n tx (sk n tx i)).2.2) (nz (k + 1)) x4 1 1 (stI (stI (stI σ 0 6 (nz (pNm n tx (sk n tx i)).1)) 0 12 (pNm n tx (sk n tx i)).2.2) 22 (3 * dm + k) (pNm n tx (sk n tx i)).2.2) := by
  conv => lhs; unfold fX11_readDraw_35
  have M1 := M.go (sk n tx i)
  have T1 := T.at (nz (sk n tx i))
  rw [if_neg (by decide), if_neg (by decide), tLook T M.B.at hi, bd_s, tFig, bd_s, i10, if_pos hd, if_neg (by rw [show (3 : Int32) = nz 3 from rfl, nz_le (by omega) (by omega)]; omega), tTakeN T1 M1.B.at (sk_le hi) (by rw [pk_sk]; exact hd), bd_s, sk_sk, stI_stI]
  have M2 := (M.go (pNm n tx (sk n tx i)).1).oth (a := 0) (j := 12) (v := (pNm n tx (sk n tx i)).2.2) (Or.inr ⟨rfl, rfl⟩)
  have e12 : (stI (stI σ 0 6 (nz (pNm n tx (sk n tx i)).1)) 0 12 (pNm n tx (sk n tx i)).2.2).1 0 12 = (pNm n tx (sk n tx i)).2.2 := by simp [gI]
  rw [M2.ndm, show (3 : Int32) = nz 3 from rfl, nz_mul, nz_add, ck_n (by omega) (by omega), nz_tn (by omega), e12, wI_e, nz_s]
  rw [show (stI (stI (stI σ 0 6 (nz (pNm n tx (sk n tx i)).1)) 0 12 (pNm n tx (sk n tx i)).2.2) 22 (3 * dm + k) (pNm n tx (sk n tx i)).2.2).1 0 12 = (pNm n tx (sk n tx i)).2.2 by simp [gI]]
theorem rd_99 {σ : cS} {i : Nat} {v x2 x3 x4 : Int32} (f : Nat) (T : tTx σ tk n tx) (h6 : σ.1 0 6 = nz i) (hi : i ≤ n) (h : ¬ isI (pk n tx i) 48 57 = true ∨ 3 ≤ x3) : fX11_readDraw_35 v (f + 1) x2 x3 x4 1 1 σ = fX11_readDraw_99 v (fX11_readDraw_35 v f) x2 x3 x4 1 1 (pk n tx i) (stI σ 0 6 (nz (sk n tx i))) := by
  conv => lhs; unfold fX11_readDraw_35
  rw [if_neg (by decide), if_neg (by decide), tLook T h6 hi, bd_s, tFig, bd_s, i10]
  rcases h with h | h
  · rw [if_neg h]
  · rw [if_pos h]
    split <;> rfl
/-- no number where one must be -/
theorem tDrNo {σ : cS} {i : Nat} {w : Option Nat} {o g b st nc dm k : Nat} {ch : List Int32} {v x2 x4 : Int32} (f : Nat) (T : tTx σ tk n tx) (M : tMS σ i w o g b st nc dm ch) (hi : i ≤ n) (hk : k < 2) (hd : ¬ isI (pk n tx i) 48 57 = true) (ho : o ≤ 10800) :
    ∃ σ', fX11_readDraw_35 v (f + 2) x2 (nz k) x4 1 1 σ = some (0, σ') ∧ σ'.1 0 7 = nz (sk n tx i) ∧ tMF o g b nc (3 * dm) σ σ' ∧ ∃ o', o' ≤ 10810 ∧ σ'.1 0 11 = nz o' := by
  have M1 := M.go (sk n tx i)
  rw [rd_99 (f + 1) T M.B.at hi (Or.inl hd)]
  unfold fX11_readDraw_99
  rw [tStops M1.B.wr M1.B.at, bd_s]
  obtain ⟨σ', a1, a2, a3, a4⟩ := tDrErr (v := v) (x2 := x2) (x4 := x4) f M1 ho 1 (nz k)
  have hif : ∀ X Y : Option (Int32 × cS), X = some (0, σ') → (if pk n tx i = 59 then (if nz k < 2 then X else Y) else X) = some (0, σ') := by
    intro X Y hX
    rw [if_pos (show nz k < 2 by rw [show (2 : Int32) = nz 2 from rfl, nz_lt (by omega) (by omega)]; exact hk)]
    split <;> exact hX
  rw [hif _ _ a1]
  exact ⟨σ', rfl, a2, (tMF_I (by omega)).tq a3, a4⟩
/-- the end of a draw -/
theorem tDrEnd {σ : cS} {i fst : Nat} {w : Option Nat} {o g b st nc dm k : Nat} {ch : List Int32} {v x2 : Int32} (f : Nat) (T : tTx σ tk n tx) (M : tMS σ i w o g b st nc dm ch) (hi : i ≤ n) (hwg : wG n w) (hfst : fst < n) (hk : k = 2 ∨ k = 3) (hd : k = 2 → ¬ isI (pk n tx i) 48 57 = true) (ho : o ≤ 10800) :
    (∃ e, pTk n tx 59 i = .error e ∧ ∃ σ', fX11_readDraw_35 v (f + 2) x2 (nz k) (nz fst) 1 1 σ = some (0, σ') ∧ σ'.1 0 7 = nz e ∧ tMF o g b nc (3 * dm) σ σ' ∧ ∃ o', o' ≤ 10810 ∧ σ'.1 0 11 = nz o') ∨
    (∃ j, pTk n tx 59 i = .ok j ∧ ∃ σ', fX11_readDraw_35 v (f + 2) x2 (nz k) (nz fst) 1 1 σ = some (1, σ') ∧ tMS σ' j (ntb (!decide (x2 = 16)) w fst) (o + 2) g b st nc (dm + 1) ch ∧ tMF o g b nc 100000 σ σ' ∧ tOA σ' o [(10, nz dm), (9, v)]) := by
  have hn6 : n ≤ 600 := T.2.2.2.2.2.1
  have M1 := M.go (sk n tx i)
  have hor : ¬ isI (pk n tx i) 48 57 = true ∨ 3 ≤ nz k := by
    rcases hk with rfl | rfl
    · exact Or.inl (hd rfl)
    · exact Or.inr (by decide)
  rw [rd_99 (f + 1) T M.B.at hi hor]
  unfold fX11_readDraw_99 pTk
  by_cases hc : pk n tx i = 59
  · rw [if_pos hc, if_pos hc, if_neg (by rw [show (2 : Int32) = nz 2 from rfl, nz_lt (by omega) (by omega)]; omega), wI_e, M1.B.at, nz_s, stI_stI]
    refine Or.inr ⟨_, rfl, ?_⟩
    have M2 := M.go (sk n tx i + 1)
    have e36 : fX11_readDraw_35 v (f + 1) x2 (nz k) (nz fst) 1 0 (stI σ 0 6 (nz (sk n tx i + 1))) = fX11_readDraw_136 v x2 (nz fst) 1 (stI σ 0 6 (nz (sk n tx i + 1))) := by
      conv => lhs; unfold fX11_readDraw_35
      rw [if_neg (by decide), if_pos rfl]
    rw [e36]
    unfold fX11_readDraw_136
    have fin : ∀ (σ3 : cS) (w' : Option Nat), tMS σ3 (sk n tx i + 1) w' o g b st nc dm ch → tMF o g b nc 100000 σ σ3 → ∃ σ', fX11_readDraw_153 v 1 σ3 = some (1, σ') ∧ tMS σ' (sk n tx i + 1) w' (o + 2) g b st nc (dm + 1) ch ∧ tMF o g b nc 100000 σ σ' ∧ tOA σ' o [(10, nz dm), (9, v)] := by
      intro σ3 w' M3 F3
      unfold fX11_readDraw_153
      have M4 := M3.put 10 (nz dm)
      have M5 := M4.put 9 v
      rw [M3.ndm, tPut M3.B.od (by omega), bd_s, tPut M4.B.od (by omega), bd_s, wI_e, M5.ndm, nz_s, ck_t (by decide)]
      refine ⟨_, rfl, ?_, ((F3.tq (tMF_O (Nat.le_refl _))).tq (tMF_O (by omega))).tq (tMF_I (by omega)), ?_⟩
      · refine ⟨M5.B.oth (by omega), by simpa [gI] using M5.bk, by simpa [gI] using M5.sm, by simpa [gI] using M5.nch, by simp [gI], M5.c3p, fun x hx => by simpa [gI] using M5.cv x hx⟩
      · refine tOA_M (o0 := o + 2) (g0 := 0) (b0 := 0) (c0 := 0) (d0 := 0) ?_ (tMF_I (by omega)) (by simp)
        refine tOA_app (E := [(10, nz dm)]) (tOA_M (o0 := o + 1) (g0 := 0) (b0 := 0) (c0 := 0) (d0 := 0) tOA_one (tMF_O (Nat.le_refl _)) (by simp)) tOA_one
    by_cases h16 : x2 = 16
    · rw [if_neg (by decide), if_pos h16, show (!decide (x2 = 16)) = false by rw [decide_eq_true h16]; rfl]
      exact fin _ w M2 (tMF_I (by omega))
    · rw [if_neg (by decide), if_neg h16, tBlame M2.B.fa hwg hn6 (by omega), bd_s, show (!decide (x2 = 16)) = true by rw [decide_eq_false h16]; rfl]
      exact fin _ _ (M2.sFa _ nt_nn) ((tMF_I (by omega)).tq (tMF_I (by omega)))
  · rw [if_neg hc, if_neg hc, tStops M1.B.wr M1.B.at, bd_s]
    obtain ⟨σ', a1, a2, a3, a4⟩ := tDrErr (v := v) (x2 := x2) (x4 := nz fst) f M1 ho 1 (nz k)
    exact Or.inl ⟨_, rfl, σ', a1, a2, (tMF_I (by omega)).tq a3, a4⟩
end
