set_option maxRecDepth 100000
/-! ===== THE TWIN READS WHOLE TEXTS ===== -/
/-- what a reading leaves as it was; orders stay below o0 -/
def tRG (o0 : Nat) (σ σ' : cS) : Prop := σ'.2.1 = σ.2.1 ∧ (∀ o j, ¬ (o = 0 ∧ j = 4) → σ'.2.2 o j = σ.2.2 o j) ∧ (∀ o j, o ≠ 0 → o < 2 ∨ (14 < o ∧ o < 18) ∨ 22 < o → σ'.1 o j = σ.1 o j) ∧ (∀ j, j < 5 ∨ j = 37 ∨ 46 < j → σ'.1 0 j = σ.1 0 j) ∧ (∀ o j, o = 2 ∨ o = 3 → j < o0 → σ'.1 o j = σ.1 o j)
theorem tRG.rf {o0 : Nat} {σ : cS} : tRG o0 σ σ := ⟨rfl, fun _ _ _ => rfl, fun _ _ _ _ => rfl, fun _ _ => rfl, fun _ _ _ _ => rfl⟩
theorem tRG.tr {o0 o1 : Nat} {σ σ1 σ2 : cS} (h : tRG o0 σ σ1) (h' : tRG o1 σ1 σ2) (ho : o0 ≤ o1) : tRG o0 σ σ2 := by
  obtain ⟨a1, a2, a3, a4, a5⟩ := h
  obtain ⟨b1, b2, b3, b4, b5⟩ := h'
  exact ⟨b1.trans a1, fun o j e => (b2 o j e).trans (a2 o j e), fun o j e1 e2 => (b3 o j e1 e2).trans (a3 o j e1 e2), fun j e => (b4 j e).trans (a4 j e), fun o j e1 e2 => (b5 o j e1 (by omega)).trans (a5 o j e1 e2)⟩
theorem tRG_M {o0 g0 b0 c0 d0 : Nat} {σ σ' : cS} (h : tMF o0 g0 b0 c0 d0 σ σ') : tRG o0 σ σ' := by
  obtain ⟨a1, a2, a3, a4, -⟩ := h
  exact ⟨by rw [a1], fun o j _ => by rw [a1], a2, fun j e => a3 j (by omega), a4⟩
/-- a text at tk: its signs, its length -/
def tSrc (σ : cS) (tk n : Nat) (tx : Nat → Int32) : Prop := twLa tk = (2, 1000) ∧ tk ≠ 0 ∧ (tk = 1 ∨ 22 < tk) ∧ n ≤ 600 ∧ ∀ k, k < n → σ.1 tk k = tx k ∧ sgn (tx k)
section
variable {tk n : Nat} {tx : Nat → Int32} {nm : Nat → Int32} {nF B : Nat} {sz : Int32} {a1 : Nat}
theorem tBegin {σ : cS} {o : Nat} (h : tSrc σ tk n tx) (ho : σ.1 0 11 = nz o) : ∃ σ1, fX11_beginText tk (nz n) σ = some ((), σ1) ∧ tTx σ1 tk n tx ∧ tB σ1 0 none o 0 ∧ σ1.1 0 18 = -1 ∧ σ1.1 0 19 = -1 ∧ ∀ x, tRG x σ σ1 := by
  obtain ⟨h1, h2, h3, h4, h5⟩ := h
  refine ⟨stI (stI (stI (stI (stI (stI (stI (stI (stR σ 0 4 (some tk)) 0 5 (nz n)) 0 6 0) 0 7 (-1)) 0 8 (-1)) 0 26 0) 0 16 0) 0 18 (-1)) 0 19 (-1), ?_, ⟨?_, h1, h2, h3, ?_, h4, fun k hk => ⟨?_, (h5 k hk).2⟩⟩, ⟨?_, ?_, ?_, ?_, ?_, ?_⟩, ?_, ?_, fun x => ⟨rfl, ?_, ?_, ?_, ?_⟩⟩
  · unfold fX11_beginText
    rw [h1, ck_t (by decide)]; rfl
  · show (stR σ 0 4 (some tk)).2.2 0 4 = _
    rw [gR, if_pos rfl, if_pos rfl]
  · simp [gI]
  · rw [gI, if_neg h2, gI, if_neg h2, gI, if_neg h2, gI, if_neg h2, gI, if_neg h2, gI, if_neg h2, gI, if_neg h2, gI, if_neg h2]
    exact (h5 k hk).1
  · simp [gI]; rfl
  · simp [gI]
  · simp [gI]; rfl
  · simpa [gI, gR_I] using ho
  · simp [gI]
  · simp [gI]; rfl
  · simp [gI]
  · simp [gI]
  · intro o j hj
    show (stR σ 0 4 (some tk)).2.2 o j = _
    rw [gR]
    by_cases ho : o = 0
    · rw [if_pos ho, if_neg (by omega)]
    · rw [if_neg ho]
  · intro o j hj _
    simp [gI, hj, gR_I]
  · intro j hj
    have : j ≠ 5 ∧ j ≠ 6 ∧ j ≠ 7 ∧ j ≠ 8 ∧ j ≠ 26 ∧ j ≠ 16 ∧ j ≠ 18 ∧ j ≠ 19 := by omega
    simp [gI, this, gR_I]
  · intro o j hj _
    have : o ≠ 0 := by omega
    simp [gI, this, gR_I]
/-- which place a fault has -/
def tFt (σ : cS) (e : Nat) : Prop := e ≤ 600 ∧ (σ.1 0 7 = nz e ∨ (σ.1 0 7 = -1 ∧ σ.1 0 8 = nz e))
theorem tWell0 {σ : cS} {e : Nat} (h : tFt σ e) : fX11_isWell σ = some (0, σ) := by
  unfold fX11_isWell
  obtain ⟨h0, h | ⟨h1, h2⟩⟩ := h
  · rw [h, if_pos (nz_0le (by omega))]
  · rw [h1, if_neg (by decide), h2, if_pos (nz_0le (by omega))]
theorem tWell1 {σ : cS} (h7 : σ.1 0 7 = -1) (h8 : σ.1 0 8 = -1) : fX11_isWell σ = some (1, σ) := by
  unfold fX11_isWell
  rw [h7, if_neg (by decide), h8, if_neg (by decide)]
theorem tFaultP {σ : cS} {e : Nat} (h : tFt σ e) : fX11_faultPlace σ = some (nz e, σ) := by
  unfold fX11_faultPlace
  obtain ⟨h0, h | ⟨h1, h2⟩⟩ := h
  · rw [h, if_neg (by rw [show (0 : Int32) = nz 0 from rfl, nz_lt (by omega) (by omega)]; omega)]
  · rw [h1, if_pos (by decide), h2]
/-- what the groups say of the print -/
def tGP (σ : cS) (n : Nat) (tx : Nat → Int32) (r : List Int32) : Prop := ∃ g, σ.1 0 26 = nz g ∧ g ≤ n ∧ GI σ 0 g 0 n ∧ PF n tx σ 0 g 0 n r
theorem tGP_M {o0 g0 b0 c0 d0 : Nat} {σ σ' : cS} {r : List Int32} {g : Nat} (h0 : σ.1 0 26 = nz g) (h1 : σ'.1 0 26 = nz g) (hg : g ≤ n) (hG : GI σ 0 g 0 n) (hP : PF n tx σ 0 g 0 n r) (hf : tMF o0 g0 b0 c0 d0 σ σ') (hg0 : g ≤ g0) : tGP σ' n tx r := 
  ⟨g, h1, hg, hG.sm (gSm_M hf hg0), hP.sm (gSm_M hf hg0)⟩
/-- a model was read -/
def tWM (σ : cS) (tk n : Nat) (tx : Nat → Int32) (tr : Sy → Int32 × Int32) (o : Nat) (C : List Cd) (ch r : List Int32) : Prop := tTx σ tk n tx ∧ tOA σ o (CM tr o 0 0 C ++ [(15, 0)]) ∧ σ.1 0 11 = nz (o + osum C + 1) ∧ tDn σ 0 C ∧ σ.1 0 43 = nz ch.length ∧ (∀ k, k < ch.length → σ.1 21 k = ch.getD k 0) ∧ tGP σ n tx r
theorem tPut15 {σ : cS} {i : Nat} {w : Option Nat} {o g b st nc dm : Nat} {ch : List Int32} (f : Nat) (M : tMS σ i w o g b st nc dm ch) (ho : o < 12000) (hwg : wG n w) (hn6 : n ≤ 600) :
    ∃ v, fX11_readModel_31 a1 sz (f + 1) 1 0 σ = some (v, stO σ o 15 0) ∧ ((∃ p, w = some p ∧ v = 0 ∧ tFt (stO σ o 15 0) p) ∨ (w = none ∧ v = 1)) := by
  have M1 := M.put 15 0
  rw [rM_g, tPut M.B.od ho, bd_s]
  cases w with
  | none =>
    refine ⟨1, ?_, Or.inr ⟨rfl, rfl⟩⟩
    rw [tWell1 M1.B.wr M1.B.fa, bd_s, ck_t (by decide)]
  | some p =>
    have hp : p < n := hwg p rfl
    have hF : tFt (stO σ o 15 0) p := ⟨by omega, Or.inr ⟨M1.B.wr, M1.B.fa⟩⟩
    refine ⟨0, ?_, Or.inl ⟨p, rfl, rfl, hF⟩⟩
    rw [tWell0 hF, bd_s, ck_t (by decide)]
end
