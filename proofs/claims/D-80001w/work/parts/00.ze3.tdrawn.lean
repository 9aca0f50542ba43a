set_option maxRecDepth 100000
/-! ===== THE TWIN DRAWS ===== -/
theorem dw_16 {ch : List Int32} {c : Cd} (hv : cdV c) (hw : cdW ch c) (h1 : c.1 = 1) : dw c 0 + dw c 1 + dw c 2 = 16 ∧ c.2.2.2.1 = nz (dw c 0) ∧ c.2.2.2.2.1 = nz (dw c 1) ∧ c.2.2.2.2.2 = nz (dw c 2) := by
  obtain ⟨w1, w2, w3⟩ : nV c.2.2.2.1 ∧ nV c.2.2.2.2.1 ∧ nV c.2.2.2.2.2 := by
    rcases hv with ⟨k, -⟩ | ⟨-, -, -, a, b, c⟩ | ⟨k, -⟩ | ⟨k, -⟩ | ⟨k, -⟩ | ⟨k, -⟩
    · rw [k] at h1; exact absurd h1 (by decide)
    · exact ⟨a, b, c⟩
    · rw [k] at h1; exact absurd h1 (by decide)
    · rw [k] at h1; exact absurd h1 (by decide)
    · rw [k] at h1; exact absurd h1 (by decide)
    · rw [k] at h1; exact absurd h1 (by decide)
  have hs := hw.1 h1
  obtain ⟨x1, hx1, e1⟩ := w1
  obtain ⟨x2, hx2, e2⟩ := w2
  obtain ⟨x3, hx3, e3⟩ := w3
  have d0 : dw c 0 = x1 := by unfold dw; rw [if_pos rfl, e1, nz_tn (by omega)]
  have d1 : dw c 1 = x2 := by unfold dw; rw [if_neg (by decide), if_pos rfl, e2, nz_tn (by omega)]
  have d2 : dw c 2 = x3 := by unfold dw; rw [if_neg (by decide), if_neg (by decide), e3, nz_tn (by omega)]
  rw [e1, e2, e3, nz_add, nz_add, show (16 : Int32) = nz 16 from rfl, nz_inj (by omega) (by omega)] at hs
  rw [d0, d1, d2]
  exact ⟨hs, e1, e2, e3⟩
/-- what a draw changes -/
def fDr (d : Nat) (σ σ' : cS) : Prop := σ'.2.2 = σ.2.2 ∧ (∀ o j, ¬ (o = 0 ∧ j = 71) → σ'.2.1 o j = σ.2.1 o j) ∧ (∀ o j, o ≠ 0 → ¬ ((o = 36 ∨ o = 37) ∧ j = d) → σ'.1 o j = σ.1 o j) ∧ (∀ j, j ≠ 67 → j ≠ 73 → σ'.1 0 j = σ.1 0 j)
theorem fRn_D {d : Nat} {σ σ' : cS} (h : fDr d σ σ') : fRn σ σ' := ⟨h.1, h.2.1, fun o j a _ _ b c => h.2.2.1 o j a (by omega), fun j a => h.2.2.2 j (by omega) (by omega)⟩
/-- a source of draws works -/
def drO {α : Type} (C : List Cd) (orc : α → Cd → Nat × α) (Rp : (Nat → Int32) → Int32 → Int32 → Int32 → α → Nat → Prop) : Prop :=
  ∀ (σ : cS) (a : α) (d p w : Nat), d < 7 → p < C.length → (cdA C p).1 = 1 → w ≤ 16 ^ d → Rp (σ.1 36) (σ.1 0 72) (σ.1 0 73) (σ.1 0 76) a d → σ.1 0 67 = nz d → σ.2.1 0 71 = nl (w * 16 ^ (7 - d)) → (∀ j, j < 3 → σ.1 22 (3 * dn (C.take p) + j) = nz (dw (cdA C p) j)) →
  ∃ σ', fX11_drawn (nz (dn (C.take p))) σ = some (nz (orc a (cdA C p)).1, σ') ∧ (orc a (cdA C p)).1 < 3 ∧ fDr d σ σ' ∧ σ'.1 36 d = nz (orc a (cdA C p)).1 ∧ σ'.1 37 d = nz (dn (C.take p)) ∧ σ'.1 0 67 = nz (d + 1) ∧ σ'.2.1 0 71 = nl (w * dw (cdA C p) (orc a (cdA C p)).1 * 16 ^ (7 - (d + 1))) ∧ Rp (σ'.1 36) (σ'.1 0 72) (σ'.1 0 73) (σ'.1 0 76) (orc a (cdA C p)).2 (d + 1)
theorem nl_div16 {x : Nat} (hx : x < 2 ^ 40) : nl x / 16 = nl (x / 16) := by
  apply Int64.toInt_inj.mp
  rw [Int64.toInt_div, show (nl x).toInt = x from Int64.toInt_ofNat_of_lt (by omega), show (nl (x / 16)).toInt = (x / 16 : Nat) from Int64.toInt_ofNat_of_lt (by omega), show (16 : Int64).toInt = 16 from rfl, Int.bmod_eq_of_le]
  · rw [Int.tdiv_eq_ediv_of_nonneg (by omega)]; omega
  · rw [Int.tdiv_eq_ediv_of_nonneg (by omega)]; omega
  · rw [Int.tdiv_eq_ediv_of_nonneg (by omega)]; omega
theorem p16 (w d : Nat) (hd : d < 7) : w * 16 ^ (7 - d) = w * 16 ^ (7 - (d + 1)) * 16 := by
  rw [show 7 - d = 7 - (d + 1) + 1 by omega, Nat.pow_succ, Nat.mul_assoc]
theorem p16b {w d : Nat} (hd : d ≤ 7) (hw : w ≤ 16 ^ d) : w * 16 ^ (7 - d) ≤ 268435456 := by
  have h1 : w * 16 ^ (7 - d) ≤ 16 ^ d * 16 ^ (7 - d) := Nat.mul_le_mul_right _ hw
  rw [← Nat.pow_add, show d + (7 - d) = 7 by omega] at h1
  exact h1
/-- the number is found: it is noted -/
theorem tDr119 {σ : cS} {d D j w x : Nat} (hd : d < 7) (hD : D ≤ 80) (hj : j < 3) (hw : w ≤ 16 ^ d) (h67 : σ.1 0 67 = nz d) (h71 : σ.2.1 0 71 = nl (w * 16 ^ (7 - d))) (h22 : σ.1 22 (3 * D + j) = nz x) (hx : x < 100) :
    ∃ σ', fX11_drawn_119 (nz D) (nz j) σ = some (nz j, σ') ∧ fDr d σ σ' ∧ σ'.1 36 d = nz j ∧ σ'.1 37 d = nz D ∧ σ'.1 0 67 = nz (d + 1) ∧ σ'.2.1 0 71 = nl (w * x * 16 ^ (7 - (d + 1))) ∧ σ'.1 0 73 = σ.1 0 73 := by
  unfold fX11_drawn_119
  have e2 : (stI σ 36 d (nz j)).1 0 67 = nz d := by simpa [gI] using h67
  rw [h67, if_neg (by rw [show (7 : Int32) = nz 7 from rfl, nz_le (by omega) (by omega)]; omega), ck_n (show d < 8 by omega) (by omega), nz_tn (by omega), wI_e, e2, ck_n (show d < 8 by omega) (by omega), nz_tn (by omega), wI_e]
  unfold fX11_drawn_148
  have e22 : (stI (stI σ 36 d (nz j)) 37 d (nz D)).1 22 (3 * D + j) = nz x := by simpa [gI] using h22
  have e67 : ∀ v, (stL (stI (stI σ 36 d (nz j)) 37 d (nz D)) 0 71 v).1 0 67 = nz d := fun v => by
    show (stI (stI σ 36 d (nz j)) 37 d (nz D)).1 0 67 = _
    simpa [gI] using h67
  have e71 : (stI (stI σ 36 d (nz j)) 37 d (nz D)).2.1 0 71 = nl (w * 16 ^ (7 - (d + 1)) * 16) := by rw [← p16 w d hd]; exact h71
  have hb := p16b (show d ≤ 7 by omega) hw
  rw [p16 w d hd] at hb
  rw [show (3 : Int32) = nz 3 from rfl, nz_mul, nz_add, ck_n (show 3 * D + j < 1200 by omega) (by omega), nz_tn (by omega), e22, e71, nl_div16 (by omega), Nat.mul_div_cancel _ (by omega), nz_nl (by omega), nl_mul]
  show ∃ σ', (wI (stL (stI (stI σ 36 d (nz j)) 37 d (nz D)) 0 71 (nl (w * 16 ^ (7 - (d + 1)) * x))) 0 67 _ fun σ2 => some (nz j, σ2)) = _ ∧ _
  rw [e67, nz_s, wI_e]
  refine ⟨_, rfl, ⟨rfl, fun o k h => ?_, fun o k h1 h2 => ?_, fun k h1 h2 => ?_⟩, ?_, ?_, ?_, ?_, ?_⟩
  · rw [gI_L, gL]
    by_cases ho : o = 0
    · rw [if_pos ho, if_neg (fun z => h ⟨ho, z⟩)]; rfl
    · rw [if_neg ho]; rfl
  · rw [gI, if_neg h1]
    show (stI (stI σ 36 d (nz j)) 37 d (nz D)).1 o k = _
    rw [gI, gI]
    by_cases h37 : o = 37
    · rw [if_pos h37, if_neg (fun z => h2 ⟨Or.inr h37, z⟩), if_neg (by omega)]
    · rw [if_neg h37]
      by_cases h36 : o = 36
      · rw [if_pos h36, if_neg (fun z => h2 ⟨Or.inl h36, z⟩)]
      · rw [if_neg h36]
  · rw [gI, if_pos rfl, if_neg h1]
    show (stI (stI σ 36 d (nz j)) 37 d (nz D)).1 0 k = _
    simp [gI]
  · rw [gI, if_neg (by decide)]
    show (stI (stI σ 36 d (nz j)) 37 d (nz D)).1 36 d = _
    simp [gI]
  · rw [gI, if_neg (by decide)]
    show (stI (stI σ 36 d (nz j)) 37 d (nz D)).1 37 d = _
    simp [gI]
  · simp [gI]
  · rw [gI_L, gL, if_pos rfl, if_pos rfl]
    congr 1
    rw [Nat.mul_assoc, Nat.mul_assoc, Nat.mul_comm x]
  · rw [gI, if_pos rfl, if_neg (by decide)]
    show (stI (stI σ 36 d (nz j)) 37 d (nz D)).1 0 73 = _
    simp [gI]
/-- what is told first -/
def RpF (fo0 : List Nat) (f : Nat → Int32) (x72 _x73 x76 : Int32) (fo : List Nat) (d : Nat) : Prop := x72 = 0 ∧ x76 = nz fo0.length ∧ fo0.length ≤ 7 ∧ (∀ j ∈ fo0, j < 3) ∧ fo = fo0.drop d ∧ ∀ i j, fo0[i]? = some j → f i = nz j
theorem dn_take (C : List Cd) (p : Nat) (h : C.length ≤ 80) : dn (C.take p) ≤ 80 := by
  have := dn_le (C.take p)
  rw [List.length_take] at this
  omega
theorem drF {C : List Cd} {ch : List Int32} (hC : cOk C ch) (fo0 : List Nat) : drO C orF (RpF fo0) := by
  intro σ fo d p w hd hp h1 hw hR h67 h71 h22
  obtain ⟨r1, r2, r3, r4, r5, r6⟩ := hR
  obtain ⟨s1, s2, s3, s4⟩ := dw_16 (hC.2.2.1 _ (cdA_mem hp)) (hC.2.2.2.2.2.1 _ (cdA_mem hp)) h1
  have hD := dn_take C p hC.1
  have hdw : ∀ j, j < 3 → dw (cdA C p) j < 100 := by
    intro j hj
    have : j = 0 ∨ j = 1 ∨ j = 2 := by omega
    rcases this with q | q | q <;> rw [q] <;> omega
  have fin : ∀ j, j = (orF fo (cdA C p)).1 → j < 3 → ∃ σ', fX11_drawn_119 (nz (dn (C.take p))) (nz j) σ = some (nz (orF fo (cdA C p)).1, σ') ∧ (orF fo (cdA C p)).1 < 3 ∧ fDr d σ σ' ∧ σ'.1 36 d = nz (orF fo (cdA C p)).1 ∧ σ'.1 37 d = nz (dn (C.take p)) ∧ σ'.1 0 67 = nz (d + 1) ∧ σ'.2.1 0 71 = nl (w * dw (cdA C p) (orF fo (cdA C p)).1 * 16 ^ (7 - (d + 1))) ∧ RpF fo0 (σ'.1 36) (σ'.1 0 72) (σ'.1 0 73) (σ'.1 0 76) (orF fo (cdA C p)).2 (d + 1) := by
    intro j hj hj3
    rw [← hj]
    obtain ⟨σ', a1, a2, a3, a4, a5, a6, a7⟩ := tDr119 hd hD hj3 hw h67 h71 (h22 j hj3) (hdw j hj3)
    refine ⟨σ', a1, hj3, a2, a3, a4, a5, a6, ?_, ?_, r3, r4, ?_, fun i x hx => ?_⟩
    · rw [a2.2.2.2 72 (by decide) (by decide)]; exact r1
    · rw [a2.2.2.2 76 (by decide) (by decide)]; exact r2
    · show fo.tail = _
      rw [r5, List.tail_drop]
    · by_cases hi : i = d
      · rw [hi, a3, hj]
        show nz (fo.headD _) = _
        rw [r5, List.headD_eq_head?_getD, List.head?_drop, ← hi, hx]; rfl
      · rw [a2.2.2.1 36 i (by decide) (by omega)]; exact r6 i x hx
  unfold fX11_drawn
  rw [r1, if_pos rfl, r2, h67]
  by_cases hfo : fo0.length ≤ d
  · rw [if_pos (by rw [nz_le (by omega) (by omega)]; exact hfo)]
    have ej : (orF fo (cdA C p)).1 = fs1 (cdA C p) := by
      show fo.headD _ = _
      rw [r5, List.drop_of_length_le hfo]; rfl
    have hz : ∀ j, j < 3 → (nz (dw (cdA C p) j) = 0 ↔ dw (cdA C p) j = 0) := fun j hj => by
      rw [show (0 : Int32) = nz 0 from rfl, nz_inj (by have := hdw j hj; omega) (by omega)]
    have st : ∀ j f, j < 3 → fX11_drawn_100 (nz (dn (C.take p))) (f + 1) (nz j) σ = if dw (cdA C p) j = 0 then fX11_drawn_100 (nz (dn (C.take p))) f (nz (j + 1)) σ else fX11_drawn_119 (nz (dn (C.take p))) (nz j) σ := by
      intro j f hj
      conv => lhs; unfold fX11_drawn_100
      rw [show (3 : Int32) = nz 3 from rfl, nz_mul, nz_add, ck_n (show 3 * dn (C.take p) + j < 1200 by omega) (by omega), nz_tn (by omega), h22 j hj, nz_s]
      by_cases h0 : dw (cdA C p) j = 0
      · rw [if_pos ((hz j hj).mpr h0), if_pos h0]
      · rw [if_neg (fun z => h0 ((hz j hj).mp z)), if_neg h0]
    obtain ⟨f, hf⟩ : ∃ f, FU = f + 3 := ⟨FU - 3, by unfold FU; omega⟩
    rw [hf, show (0 : Int32) = nz 0 from rfl, st 0 (f + 2) (by omega)]
    have ej2 := ej
    unfold fs1 at ej2
    by_cases d0 : dw (cdA C p) 0 = 0
    · rw [if_pos d0, st 1 (f + 1) (by omega)]
      rw [if_pos d0] at ej2
      by_cases d1 : dw (cdA C p) 1 = 0
      · rw [if_pos d1, st 2 f (by omega), if_neg (by omega)]
        rw [if_pos d1] at ej2
        exact fin 2 ej2.symm (by omega)
      · rw [if_neg d1] at ej2 ⊢
        exact fin 1 ej2.symm (by omega)
    · rw [if_neg d0] at ej2 ⊢
      exact fin 0 ej2.symm (by omega)
  · rw [if_neg (by rw [nz_le (by omega) (by omega)]; exact hfo), ck_n (show d < 8 by omega) (by omega), nz_tn (by omega)]
    obtain ⟨j, hj⟩ : ∃ j, fo0[d]? = some j := ⟨fo0[d], List.getElem?_eq_getElem (by omega)⟩
    rw [r6 d j hj]
    refine fin j ?_ (r4 j (List.mem_of_getElem? hj))
    show j = fo.headD _
    rw [r5, List.headD_eq_head?_getD, List.head?_drop, hj]; rfl
