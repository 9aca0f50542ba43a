set_option maxRecDepth 100000
/-! ===== THE TWIN READS LIBRARIES ===== -/
def tLF (o0 g0 nF : Nat) (σ σ' : cS) : Prop := σ'.2 = σ.2 ∧ (∀ o j, o ≠ 0 → o < 2 ∨ 22 < o → σ'.1 o j = σ.1 o j) ∧ (∀ j, j < 6 ∨ 46 < j → σ'.1 0 j = σ.1 0 j) ∧ (∀ o j, o = 2 ∨ o = 3 → j < o0 → σ'.1 o j = σ.1 o j) ∧ (∀ o j, 7 ≤ o → o ≤ 11 → j < g0 → σ'.1 o j = σ.1 o j) ∧ (∀ o j, 15 ≤ o → o ≤ 17 → j < nF → σ'.1 o j = σ.1 o j)
theorem tLF.rf {o0 g0 nF : Nat} {σ : cS} : tLF o0 g0 nF σ σ := ⟨rfl, fun _ _ _ _ => rfl, fun _ _ => rfl, fun _ _ _ _ => rfl, fun _ _ _ _ _ => rfl, fun _ _ _ _ _ => rfl⟩
theorem tLF.tr {o0 g0 nF o1 g1 n1 : Nat} {σ σ1 σ2 : cS} (h : tLF o0 g0 nF σ σ1) (h' : tLF o1 g1 n1 σ1 σ2) (ho : o0 ≤ o1) (hg : g0 ≤ g1) (hn : nF ≤ n1) : tLF o0 g0 nF σ σ2 := by
  obtain ⟨a1, a2, a3, a4, a5, a6⟩ := h
  obtain ⟨b1, b2, b3, b4, b5, b6⟩ := h'
  exact ⟨b1.trans a1, fun o j e1 e2 => (b2 o j e1 e2).trans (a2 o j e1 e2), fun j e => (b3 j e).trans (a3 j e), fun o j e1 e2 => (b4 o j e1 (by omega)).trans (a4 o j e1 e2), fun o j e1 e2 e3 => (b5 o j e1 e2 (by omega)).trans (a5 o j e1 e2 e3), fun o j e1 e2 e3 => (b6 o j e1 e2 (by omega)).trans (a6 o j e1 e2 e3)⟩
theorem tLF.tq {o0 g0 nF : Nat} {σ σ1 σ2 : cS} (h : tLF o0 g0 nF σ σ1) (h' : tLF o0 g0 nF σ1 σ2) : tLF o0 g0 nF σ σ2 := h.tr h' (Nat.le_refl _) (Nat.le_refl _) (Nat.le_refl _)
theorem tLF_M {o0 g0 b0 c0 d0 nF : Nat} {σ σ' : cS} (h : tMF o0 g0 b0 c0 d0 σ σ') : tLF o0 g0 nF σ σ' := by
  obtain ⟨a1, a2, a3, a4, a5, -⟩ := h
  exact ⟨a1, fun o j e1 e2 => a2 o j e1 (by omega), fun j e => a3 j (by omega), a4, a5, fun o j e1 e2 _ => a2 o j (by omega) (by omega)⟩
theorem tLF_I {o0 g0 nF : Nat} {σ : cS} {o j : Nat} {v : Int32} (h : (o = 0 ∧ 6 ≤ j ∧ j ≤ 46) ∨ ((o = 2 ∨ o = 3) ∧ o0 ≤ j) ∨ (15 ≤ o ∧ o ≤ 17 ∧ nF ≤ j)) : tLF o0 g0 nF σ (stI σ o j v) := by
  have key : ∀ a b, (a ≠ o ∨ b ≠ j) → (stI σ o j v).1 a b = σ.1 a b := by
    intro a b hab
    rw [gI]
    by_cases ha : a = o
    · rw [if_pos ha, if_neg (by omega)]
    · rw [if_neg ha]
  exact ⟨rfl, fun a b e1 e2 => key a b (by omega), fun b e => key 0 b (by omega), fun a b e1 e2 => key a b (by omega), fun a b e1 e2 e3 => key a b (by omega), fun a b e1 e2 e3 => key a b (by omega)⟩
theorem tLF_O {o0 g0 nF o : Nat} {σ : cS} {a b : Int32} (h : o0 ≤ o) : tLF o0 g0 nF σ (stO σ o a b) := ((tLF_I (by omega)).tq (tLF_I (by omega))).tq (tLF_I (by omega))
theorem tTx_L {o0 g0 nF : Nat} {σ σ' : cS} {tk n : Nat} {tx : Nat → Int32} (h : tTx σ tk n tx) (hf : tLF o0 g0 nF σ σ') : tTx σ' tk n tx := by
  obtain ⟨h1, h2, h0, hk, h3, h4, h5⟩ := h
  exact ⟨by rw [hf.1]; exact h1, h2, h0, hk, by rw [hf.2.2.1 5 (by omega)]; exact h3, h4, fun k hk2 => by rw [hf.2.1 tk k h0 (by omega)]; exact h5 k hk2⟩
theorem tOA_L {o0 g0 nF p : Nat} {σ σ' : cS} {E : List (Int32 × Int32)} (h : tOA σ p E) (hf : tLF o0 g0 nF σ σ') (hp : p + E.length ≤ o0) : tOA σ' p E := by
  intro k e hk
  have hl := (List.getElem?_eq_some_iff.mp hk).1
  rw [hf.2.2.2.1 _ _ (Or.inl rfl) (by omega), hf.2.2.2.1 _ _ (Or.inr rfl) (by omega)]
  exact h k e hk
theorem gSm_L {o0 g0 nF a b : Nat} {σ σ' : cS} (h : tLF o0 g0 nF σ σ') (hb : b ≤ g0) : gSm a b σ σ' := fun o x h1 h2 _ h4 => h.2.2.2.2.1 o x h1 h2 (by omega)
section
variable {tk n : Nat} {tx : Nat → Int32} {B : Nat}
theorem tF24 {x1 : Int32} {p : Nat} {F : List Fn} (hn6 : n ≤ 600) (hp : p < n) : ∀ (m k f : Nat) (σ : cS) (w : Option Nat) (bd0 : Bool), F.length - k = m → k ≤ F.length → F.length ≤ 400 → m < f → wG n w → σ.1 0 8 = ow w → σ.1 0 37 = nz F.length → (∀ j, j < F.length → ∀ g, F[j]? = some g → σ.1 15 j = g.1 - 65) →
    fX11_readFunction_24 f (x1) (nz p) (nz k) σ = fX11_readFunction_70 x1 (stI σ 0 8 (ow (ntb (decide (12 ≤ F.length) || (F.drop k).any (fun g => decide (g.1 = x1))) w p))) := by
  intro m
  induction m with
  | zero =>
    intro k f σ w bd0 hm hk hl hf hwg h8 h37 hF
    obtain ⟨f, rfl⟩ : ∃ e, f = e + 1 := ⟨f - 1, by omega⟩
    conv => lhs; unfold fX11_readFunction_24
    rw [h37, if_pos (by rw [nz_le (by omega) (by omega)]; omega), List.drop_of_length_le (by omega), show (12 : Int32) = nz 12 from rfl]
    by_cases h12 : 12 ≤ F.length
    · rw [if_neg (by rw [nz_lt (by omega) (by omega)]; omega), tBlame h8 hwg hn6 (by omega), bd_s, decide_eq_true h12]
      simp [ntb]
    · rw [if_pos (by rw [nz_lt (by omega) (by omega)]; omega), decide_eq_false h12]
      simp only [List.any_nil, Bool.or_false, ntb, Bool.false_eq_true, if_false]
      rw [stI_self h8]
  | succ m ih =>
    intro k f σ w bd0 hm hk hl hf hwg h8 h37 hF
    obtain ⟨f, rfl⟩ : ∃ e, f = e + 1 := ⟨f - 1, by omega⟩
    have hkl : k < F.length := by omega
    conv => lhs; unfold fX11_readFunction_24
    rw [h37, if_neg (by rw [nz_le (by omega) (by omega)]; omega), ck_n (show k < 400 by omega) (by omega), nz_tn (by omega), hF k hkl F[k] (by simp [hkl]), nz_s, List.drop_eq_getElem_cons hkl, List.any_cons]
    have h65 : (F[k].1 - 65 = x1 - 65) ↔ F[k].1 = x1 := by
      constructor
      · intro h
        have := congrArg (· + 65) h
        simpa using this
      · intro h; rw [h]
    by_cases hx : F[k].1 = x1
    · rw [if_pos (h65.mpr hx), tBlame h8 hwg hn6 (by omega), bd_s]
      rw [ih (k + 1) f _ (nt w p) bd0 (by omega) (by omega) hl (by omega) (wG_nt hwg hp) (by simp [gI]) (by simpa [gI] using h37) (fun j hj g hg => by simpa [gI] using hF j hj g hg), stI_stI]
      congr 3
      rw [decide_eq_true hx]
      have : nt w p = ntb true w p := rfl
      rw [this, ntb_ntb]
      simp
    · rw [if_neg (fun h => hx (h65.mp h)), ih (k + 1) f σ w bd0 (by omega) (by omega) hl (by omega) hwg h8 h37 hF, decide_eq_false hx, Bool.false_or]
end
