set_option maxRecDepth 100000
/-! ===== THE COMPONENT's READER: its primitives ===== -/
def sb (c : Int32) : Int32 := c.toInt8.toInt32
/-- a sign: 0 to 255 -/
def sgn (c : Int32) : Prop := ∃ a, a < 256 ∧ c = nz a
theorem sb_all : (List.range 256).all (fun a => decide (sb (nz a) &&& 255 = nz a) && (decide (sb (nz a) = 32) == decide (a = 32)) && (decide (sb (nz a) = 10) == decide (a = 10)) && (decide (a < 128) == decide (sb (nz a) = nz a))) = true := by decide +kernel
theorem sb_facts {c : Int32} (h : sgn c) : sb c &&& 255 = c ∧ (sb c = 32 ↔ c = 32) ∧ (sb c = 10 ↔ c = 10) := by
  obtain ⟨a, ha, rfl⟩ := h
  have h1 := List.all_eq_true.mp sb_all a (List.mem_range.mpr ha)
  simp only [Bool.and_eq_true, decide_eq_true_eq, beq_iff_eq, decide_eq_decide] at h1
  obtain ⟨⟨⟨q1, q2⟩, q3⟩, q4⟩ := h1
  refine ⟨q1, q2.trans ?_, q3.trans ?_⟩
  · rw [show (32 : Int32) = nz 32 from rfl, nz_inj (by omega) (by omega)]
  · rw [show (10 : Int32) = nz 10 from rfl, nz_inj (by omega) (by omega)]
theorem sb_low {a : Nat} (h : a < 128) : sb (nz a) = nz a := by
  have h1 := List.all_eq_true.mp sb_all a (List.mem_range.mpr (by omega))
  simp only [Bool.and_eq_true, decide_eq_true_eq, beq_iff_eq, decide_eq_decide] at h1
  exact h1.2.mp h
/-- small signs -/
def lo7 (c : Int32) : Prop := ∃ a, a < 128 ∧ c = nz a
theorem lo7.sb {c : Int32} (h : lo7 c) : sb c = c := by obtain ⟨a, ha, rfl⟩ := h; exact sb_low ha
theorem isI_iff {c lo hi : Int32} : isI c lo hi = true ↔ lo ≤ c ∧ c ≤ hi := by simp [isI]
theorem isI_lo7 {c : Int32} {a b : Nat} (h : isI c (nz a) (nz b) = true) (hb : b < 128) (hab : a ≤ b) : ∃ k, a ≤ k ∧ k ≤ b ∧ c = nz k := by
  obtain ⟨h1, h2⟩ := isI_iff.mp h
  have h0 : 0 ≤ c := by
    have := nz_0le (a := a) (by omega)
    rw [i32_le] at *
    omega
  obtain ⟨k, hk, rfl⟩ := nz_of h0
  rw [nz_le (by omega) (by omega)] at h1 h2
  exact ⟨k, h1, h2, rfl⟩
theorem isIn0 (a lo hi : Int32) (σ : cS) : fX0_isIn a lo hi σ = some (if isI a lo hi = true then 1 else 0, σ) := by
  unfold fX0_isIn isI
  by_cases h1 : a < lo
  · have : ¬ lo ≤ a := fun q => by rw [i32_le] at q; rw [i32_lt] at h1; omega
    simp [h1, this]
  · have h1' := i32_nlt.mp h1
    by_cases h2 : hi < a
    · have : ¬ a ≤ hi := fun q => by rw [i32_le] at q; rw [i32_lt] at h2; omega
      simp [h1, h2, this]
    · have h2' := i32_nlt.mp h2
      simp [h1, h2, h1', h2']
/-- the tape -/
def cTx (σ : cS) (n : Nat) (tx : Nat → Int32) : Prop := σ.1 3 4 = nz n ∧ n ≤ 600 ∧ ∀ k, k < n → σ.1 1 k = sb (tx k) ∧ sgn (tx k)
theorem cTx.at {σ : cS} {n : Nat} {tx : Nat → Int32} (h : cTx σ n tx) (v : Int32) : cTx (stI σ 3 3 v) n tx := by
  obtain ⟨h1, h2, h3⟩ := h
  refine ⟨by simpa [gI] using h1, h2, fun k hk => ?_⟩
  simpa [gI] using h3 k hk
theorem cLook58 {σ : cS} {n : Nat} {tx : Nat → Int32} {i : Nat} (h : cTx σ n tx) (hi : σ.1 3 3 = nz i) (hn : i ≤ n) (hb : ¬ (i < n ∧ bl (tx i) = true)) : fX1_look_58 σ = some (pk n tx i, stI σ 3 3 (nz (sk n tx i))) := by
  obtain ⟨h1, h2, h3⟩ := h
  unfold fX1_look_58 pk
  rw [sk_nb hb, stI_self hi, h1, hi]
  by_cases hlt : i < n
  · rw [if_neg (by rw [nz_le (by omega) (by omega)]; omega), ck_n (by omega) (by omega), nz_tn (by omega), (h3 i hlt).1, (sb_facts (h3 i hlt).2).1, if_pos hlt]
  · rw [if_pos (by rw [nz_le (by omega) (by omega)]; omega), if_neg hlt]
theorem cLook0 {n : Nat} {tx : Nat → Int32} : ∀ (k i : Nat) (σ : cS), cTx σ n tx → σ.1 3 3 = nz i → i ≤ n → n - i < k → fX1_look_0 k σ = some (pk n tx i, stI σ 3 3 (nz (sk n tx i))) := by
  intro k
  induction k with
  | zero => intro i σ _ _ _ h; omega
  | succ k ih =>
    intro i σ h hi hn hk
    have h0 := h
    obtain ⟨h1, h2, h3⟩ := h
    show (if (σ.1 3 4) ≤ (σ.1 3 3) then (fX1_look_58 σ) else ck (inB (σ.1 3 3) 600) <| if (σ.1 1 (σ.1 3 3).toNatClampNeg) = 32 then (wI σ 3 3 ((σ.1 3 3) + 1) fun σ1 => fX1_look_0 k σ1) else ck (inB (σ.1 3 3) 600) <| if (σ.1 1 (σ.1 3 3).toNatClampNeg) = 10 then (wI σ 3 3 ((σ.1 3 3) + 1) fun σ2 => fX1_look_0 k σ2) else fX1_look_58 σ) = _
    by_cases hlt : i < n
    · have hs := sb_facts (h3 i hlt).2
      have step : bl (tx i) = true → fX1_look_0 k (stI σ 3 3 (nz (i + 1))) = some (pk n tx i, stI σ 3 3 (nz (sk n tx i))) := by
        intro hb
        rw [ih (i + 1) (stI σ 3 3 (nz (i + 1))) (h0.at _) (by simp [gI]) (by omega) (by omega), stI_stI]
        unfold pk
        rw [sk_bl hlt hb]
      rw [h1, hi, if_neg (by rw [nz_le (by omega) (by omega)]; omega), ck_n (by omega) (by omega), nz_tn (by omega), (h3 i hlt).1, nz_s, wI_e]
      by_cases c1 : tx i = 32
      · rw [if_pos (hs.2.1.mpr c1)]
        exact step (by simp [bl, c1])
      · rw [if_neg (fun q => c1 (hs.2.1.mp q)), ck_n (by omega) (by omega)]
        by_cases c2 : tx i = 10
        · rw [if_pos (hs.2.2.mpr c2)]
          exact step (by simp [bl, c2])
        · rw [if_neg (fun q => c2 (hs.2.2.mp q))]
          exact cLook58 h0 hi hn (by simp [bl, c1, c2])
    · rw [h1, hi, if_pos (by rw [nz_le (by omega) (by omega)]; omega)]
      exact cLook58 h0 hi hn (fun q => hlt q.1)
theorem cLook {σ : cS} {n : Nat} {tx : Nat → Int32} {i : Nat} (h : cTx σ n tx) (hi : σ.1 3 3 = nz i) (hn : i ≤ n) : fX1_look σ = some (pk n tx i, stI σ 3 3 (nz (sk n tx i))) := by
  have := h.2.1
  exact cLook0 FU i σ h hi hn (by unfold FU; omega)
theorem cBad (p : Int32) (σ : cS) : fX1_bad p σ = some (some 4, stI σ 4 6 p) := rfl
/-- what is thrown: a fault at a place -/
theorem cTakes {σ : cS} {n : Nat} {tx : Nat → Int32} {i : Nat} (c : Int32) (h : cTx σ n tx) (hi : σ.1 3 3 = nz i) (hn : i ≤ n) (hc : c ≠ -1) : fX1_takes c σ = if pk n tx i = c then some (1, stI σ 3 3 (nz (sk n tx i + 1))) else some (0, stI σ 3 3 (nz (sk n tx i))) := by
  unfold fX1_takes
  rw [cLook h hi hn, bd_s]
  split
  · rw [wI_e, stI_stI]
    simp [gI, nz_s]
  · rfl
theorem cTake {σ : cS} {n : Nat} {tx : Nat → Int32} {i : Nat} (c : Int32) (h : cTx σ n tx) (hi : σ.1 3 3 = nz i) (hn : i ≤ n) (hc : c ≠ -1) : fX1_take c σ = if pk n tx i = c then some (some (), stI σ 3 3 (nz (sk n tx i + 1))) else some (none, stI (stI σ 3 3 (nz (sk n tx i))) 4 6 (nz (sk n tx i))) := by
  unfold fX1_take
  rw [cTakes c h hi hn hc]
  split
  · rfl
  · rw [bd_s, if_pos rfl, cBad, bd_s, ck_d rfl]
    simp [gI]
