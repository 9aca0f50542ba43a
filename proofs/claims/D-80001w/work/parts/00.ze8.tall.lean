set_option maxRecDepth 100000
/-! ===== THE TWIN: all runs ===== -/
def lT : List Lf → Nat
  | [] => 0
  | l :: L => (if l.1 = 0 then l.2.2.2.2 else 0) + lT L
theorem lT_app (A : List Lf) : ∀ B, lT (A ++ B) = lT A + lT B := by
  induction A with
  | nil => intro B; simp [lT]
  | cons e A ih => intro B; simp only [List.cons_append, lT, ih]; omega
/-- what all runs change -/
def fAl (σ σ' : cS) : Prop := σ'.2.2 = σ.2.2 ∧ (∀ o j, o ≠ 38 → ¬ (o = 0 ∧ (j = 71 ∨ j = 78)) → σ'.2.1 o j = σ.2.1 o j) ∧ (∀ o j, o ≠ 0 → o ≠ 33 → o ≠ 34 → o ≠ 36 → o ≠ 37 → σ'.1 o j = σ.1 o j) ∧ (∀ j, j < 61 ∨ j = 62 ∨ j = 63 ∨ j = 65 ∨ 82 < j → σ'.1 0 j = σ.1 0 j)
theorem fAl.rf {σ : cS} : fAl σ σ := ⟨rfl, fun _ _ _ _ => rfl, fun _ _ _ _ _ _ _ => rfl, fun _ _ => rfl⟩
theorem fAl.tr {σ σ1 σ2 : cS} (h : fAl σ σ1) (h' : fAl σ1 σ2) : fAl σ σ2 := ⟨h'.1.trans h.1, fun o j a b => (h'.2.1 o j a b).trans (h.2.1 o j a b), fun o j a b c d e => (h'.2.2.1 o j a b c d e).trans (h.2.2.1 o j a b c d e), fun j a => (h'.2.2.2 j a).trans (h.2.2.2 j a)⟩
theorem fAl_R {σ σ' : cS} (h : fRn σ σ') : fAl σ σ' := ⟨h.1, fun o j _ a => h.2.1 o j (by omega), h.2.2.1, fun j a => h.2.2.2 j (by omega)⟩
theorem fAl_0 {σ : cS} {j : Nat} {v : Int32} (hj : j = 61 ∨ j = 64 ∨ (66 ≤ j ∧ j ≤ 82)) : fAl σ (stI σ 0 j v) := ⟨rfl, fun _ _ _ _ => rfl, fun o k a _ _ _ _ => by rw [gI, if_neg a], fun k a => by rw [gI, if_pos rfl, if_neg (by omega)]⟩
theorem fAl_78 {σ : cS} {v : Int64} : fAl σ (stL σ 0 78 v) := ⟨rfl, fun o j _ h => by
  rw [gL]
  by_cases ho : o = 0
  · rw [if_pos ho, if_neg (by omega)]
  · rw [if_neg ho], fun _ _ _ _ _ _ _ => rfl, fun _ _ => rfl⟩
theorem fAl_38 {σ : cS} {j : Nat} {v : Int64} : fAl σ (stL σ 38 j v) := ⟨rfl, fun o j h _ => by rw [gL, if_neg h], fun _ _ _ _ _ _ _ => rfl, fun _ _ => rfl⟩
theorem fAl_N {σ σ' : cS} (h : fNd σ σ') : fAl σ σ' := ⟨by rw [h.1], fun _ _ _ _ => by rw [h.1], fun o j a _ _ b _ => h.2 o j b (by omega), fun j a => h.2 0 j (by decide) (by omega)⟩
/-- what the runs so far came to -/
def tAc (σ : cS) (ℓ : List Lf) : Prop := σ.1 0 79 = nz (lA ℓ) ∧ σ.1 0 80 = nz (lS ℓ) ∧ σ.1 0 81 = nz (lX ℓ) ∧ σ.1 0 82 = nz (lD ℓ) ∧ σ.2.1 0 78 = nl (lT ℓ) ∧ (∀ a, a < 100 → σ.2.1 38 a = nl (lG (nz a) ℓ)) ∧ lX ℓ ≤ 60 ∧ lD ℓ ≤ 7
section
variable {nm : Nat → Int32} {q o p : Nat} {C : List Cd} {ch : List Int32} {Y : List Sy} {F : List Fn} {R : List Int32} {cs : Nat → Int32} {a1 : Int32}
theorem tQn_A {σ σ' : cS} (h : tQn σ nm q o p C ch Y F R cs) (hf : fAl σ σ') : tQn σ' nm q o p C ch Y F R cs :=
  tQn_f h (fun j hj => hf.2.2.2 j (by omega)) (fun x j hx => hf.2.2.1 x j (by omega) (by omega) (by omega) (by omega) (by omega)) (fun k _ => hf.2.2.1 _ _ (by decide) (by decide) (by decide) (by decide) (by decide))
/-- what is asked -/
theorem tAns {σ : cS} (h : tQn σ nm q o p C ch Y F R cs) {v : List Int32} (hv : vOk v) (hr : ∀ a, a < 6 → σ.1 33 a = vof v a) : ∃ σ', fX11_answer σ = some (val (vof v) (clf F (fv F (nuf R)) F.length) (nuf R) Y, σ') ∧ f34 σ σ' := by
  obtain ⟨w1, w2⟩ := sV_wf h.2.1.2.1
  obtain ⟨σ1, σ2, g1, g2, g3⟩ := tSumE (ov := -1) (nm := nm) (nF := F.length) (q := q) (σ := σ) (y := Y) (pc := p) (en := 15) (v := vof v) (cl := clf F (fv F (nuf R)) F.length) (nu := nuf R) ⟨fun a _ => vof_n hv a, h.env.1, h.env.2⟩ (Or.inr rfl) h.1.1 h.2.2.1.1 w1 (by have := h.1.2.2.2.2.2.1; omega) h.1.2.2.2.2.1 h.1.2.2.2.2.2.2 ⟨R.length, h.2.2.2.1.1, h.2.2.2.1.2.2.1⟩ h.2.1.2.2.2.1 (fun a ha => by unfold tVr; rw [if_pos (by decide)]; exact hr a ha) h.2.2.1.2.2 h.2.2.2.1.2.2.2
  refine ⟨σ2, ?_, g3⟩
  unfold fX11_answer
  rw [h.1.2.2.1, g1, bd_s, g2, bd_s]
/-- the end of a round: the next draws, or none -/
theorem tAll_n {K : Int32 → Int32 → cS → Option (Int32 × cS)} {x2 : Int32} {σ : cS} (h : tQn σ nm q o p C ch Y F R cs) {H : Hs} (hH : tHs σ C H) (hl : H.length ≤ 7) (h67 : σ.1 0 67 = nz H.length) (h72 : σ.1 0 72 = 0) {ℓ : List Lf} (P : Prop) (ha : P → tAc σ ℓ) :
    ∃ σ', fAl σ σ' ∧ (P → tAc σ' ℓ) ∧ ((nx C H = none ∧ (bd (fX11_nextDraws σ) fun r5 σ4 => K x2 r5 σ4) = K x2 0 σ') ∨ ∃ fo, nx C H = some fo ∧ (bd (fX11_nextDraws σ) fun r5 σ4 => K x2 r5 σ4) = K x2 1 σ' ∧ RpF fo (σ'.1 36) (σ'.1 0 72) (σ'.1 0 73) (σ'.1 0 76) fo 0) := by
  obtain ⟨n1, n2⟩ := tNx h hH hl h67 h72
  cases hn : nx C H with
  | none => exact ⟨σ, fAl.rf, ha, Or.inl ⟨rfl, by rw [n1 hn, bd_s]⟩⟩
  | some fo =>
    obtain ⟨σ', a1, a2, a3⟩ := n2 fo hn
    refine ⟨σ', fAl_N a2, fun hp => ?_, Or.inr ⟨fo, rfl, by rw [a1, bd_s], a3⟩⟩
    obtain ⟨s1, s2, s3, s4, s5, s6, s7, s8⟩ := ha hp
    exact ⟨(a2.2 0 79 (by decide) (by omega)).trans s1, (a2.2 0 80 (by decide) (by omega)).trans s2, (a2.2 0 81 (by decide) (by omega)).trans s3, (a2.2 0 82 (by decide) (by omega)).trans s4, by rw [a2.1]; exact s5, fun a ha => by rw [a2.1]; exact s6 a ha, s7, s8⟩
theorem lK_one {k : Nat} {l : Lf} : lK k [l] ↔ l.1 = k := by simp [lK]
/-- one run is added up -/
theorem tAll_1 {K : Int32 → Int32 → cS → Option (Int32 × cS)} {x2 : Int32} {σ : cS} {r : Rn} {ℓ : List Lf} (h : tQn σ nm q o p C ch Y F R cs) (he : tEd σ C r) (h2 : r.1 ≠ 2) (h72 : σ.1 0 72 = 0) (ha : ¬ lK 3 ℓ → tAc σ ℓ) :
    ∃ σ', fAl σ σ' ∧ (¬ lK 3 (ℓ ++ [lfo (clf F (fv F (nuf R)) F.length) (nuf R) Y r]) → tAc σ' (ℓ ++ [lfo (clf F (fv F (nuf R)) F.length) (nuf R) Y r])) ∧ ((nx C r.2.2.2.2 = none ∧ fX11_runAll_94 a1 K x2 σ = K x2 0 σ') ∨ ∃ fo, nx C r.2.2.2.2 = some fo ∧ fX11_runAll_94 a1 K x2 σ = K x2 1 σ' ∧ RpF fo (σ'.1 36) (σ'.1 0 72) (σ'.1 0 73) (σ'.1 0 76) fo 0) := by
  obtain ⟨t1, t2, t3, t4, t5, t6, t7, t8, t9, t10, t11, t12⟩ := he
  -- the three numbers
  have cnt : ∃ A B D, fX11_runAll_94 a1 K x2 σ = fX11_runAll_154 a1 K x2 D (stI (stI σ 0 79 A) 0 81 B) ∧ (r.1 ≤ 1 → tAc σ ℓ → A = nz (lA ℓ + 1) ∧ B = nz (max (lX ℓ) r.2.1) ∧ D = nz (max (lD ℓ) r.2.2.1.2.2.1)) := by
    unfold fX11_runAll_94
    rw [wI_e]
    have e66 : (stI σ 0 79 (σ.1 0 79 + 1)).1 0 66 = σ.1 0 66 := by simp [gI]
    have e81 : (stI σ 0 79 (σ.1 0 79 + 1)).1 0 81 = σ.1 0 81 := by simp [gI]
    rw [e66, e81]
    have s2 : ∀ B, ∃ D, fX11_runAll_128 a1 K x2 B (stI σ 0 79 (σ.1 0 79 + 1)) = fX11_runAll_154 a1 K x2 D (stI (stI σ 0 79 (σ.1 0 79 + 1)) 0 81 B) ∧ (r.1 ≤ 1 → tAc σ ℓ → D = nz (max (lD ℓ) r.2.2.1.2.2.1)) := by
      intro B
      unfold fX11_runAll_128
      rw [wI_e]
      have e67 : (stI (stI σ 0 79 (σ.1 0 79 + 1)) 0 81 B).1 0 67 = nz r.2.2.1.2.2.1 := by simpa [gI] using t4
      have e82 : (stI (stI σ 0 79 (σ.1 0 79 + 1)) 0 81 B).1 0 82 = σ.1 0 82 := by simp [gI]
      rw [e67, e82]
      by_cases hc : nz r.2.2.1.2.2.1 ≤ σ.1 0 82
      · rw [if_pos hc]
        refine ⟨_, rfl, fun h1 ht => ?_⟩
        have h8 := ht.2.2.2.2.2.2.2
        rw [ht.2.2.2.1] at hc ⊢
        rw [nz_le (by omega) (by omega)] at hc
        congr 1; omega
      · rw [if_neg hc]
        refine ⟨_, rfl, fun h1 ht => ?_⟩
        have h8 := ht.2.2.2.2.2.2.2
        rw [ht.2.2.2.1, nz_le (by omega) (by omega)] at hc
        congr 1; omega
    by_cases hc : σ.1 0 66 ≤ σ.1 0 81
    · rw [if_pos hc]
      obtain ⟨D, d1, d2⟩ := s2 (σ.1 0 81)
      refine ⟨_, _, D, d1, fun h1 ht => ⟨?_, ?_, d2 h1 ht⟩⟩
      · rw [ht.1, nz_s]
      · have h7 := ht.2.2.2.2.2.2.1
        rw [(t3 h1).1, ht.2.2.1, nz_le (by omega) (by omega)] at hc
        rw [ht.2.2.1]; congr 1; omega
    · rw [if_neg hc]
      obtain ⟨D, d1, d2⟩ := s2 (σ.1 0 66)
      refine ⟨_, _, D, d1, fun h1 ht => ⟨?_, ?_, d2 h1 ht⟩⟩
      · rw [ht.1, nz_s]
      · have h7 := ht.2.2.2.2.2.2.1
        rw [(t3 h1).1, ht.2.2.1, nz_le (by omega) (by omega)] at hc
        rw [(t3 h1).1]; congr 1; omega
  obtain ⟨A, B, D, c1, c2⟩ := cnt
  rw [c1]
  unfold fX11_runAll_154
  rw [wI_e]
  have F1 : fAl σ (stI (stI (stI σ 0 79 A) 0 81 B) 0 82 D) := ((fAl_0 (by omega)).tr (fAl_0 (by omega))).tr (fAl_0 (by omega))
  have hI : ∀ x j, ¬ (x = 0 ∧ (j = 79 ∨ j = 81 ∨ j = 82)) → (stI (stI (stI σ 0 79 A) 0 81 B) 0 82 D).1 x j = σ.1 x j := by
    intro x j hx
    by_cases hx0 : x = 0
    · rw [gI, if_pos hx0, if_neg (by omega), gI, if_pos hx0, if_neg (by omega), gI, if_pos hx0, if_neg (by omega)]
    · rw [gI, if_neg hx0, gI, if_neg hx0, gI, if_neg hx0]
  have e79 : (stI (stI (stI σ 0 79 A) 0 81 B) 0 82 D).1 0 79 = A := by simp [gI]
  have e81 : (stI (stI (stI σ 0 79 A) 0 81 B) 0 82 D).1 0 81 = B := by simp [gI]
  have e82 : (stI (stI (stI σ 0 79 A) 0 81 B) 0 82 D).1 0 82 = D := by simp [gI]
  have hL : (stI (stI (stI σ 0 79 A) 0 81 B) 0 82 D).2.1 = σ.2.1 := rfl
  generalize stI (stI (stI σ 0 79 A) 0 81 B) 0 82 D = σ1 at F1 hI e79 e81 e82 hL ⊢
  have h1 := tQn_A h F1
  have hH1 : tHs σ1 C r.2.2.2.2 := fun i x hx => by
    rw [hI 36 i (by omega), hI 37 i (by omega)]; exact t8 i x hx
  have f67 : σ1.1 0 67 = nz r.2.2.2.2.length := by rw [hI 0 67 (by omega), t9]; exact t4
  have f72 : σ1.1 0 72 = 0 := by rw [hI 0 72 (by omega)]; exact h72
  rw [hI 0 70 (by omega), hI 0 68 (by omega), t2, t5]
  generalize hl : lfo (clf F (fv F (nuf R)) F.length) (nuf R) Y r = l
  have l1 : l.1 = r.1 := by rw [← hl]; rfl
  have l2 : l.2.1 = r.2.1 := by rw [← hl]; rfl
  have l3 : l.2.2.1 = r.2.2.1.2.2.1 := by rw [← hl]; rfl
  have l4 : r.1 = 0 → l.2.2.2.1 = val (vof r.2.2.1.2.1) (clf F (fv F (nuf R)) F.length) (nuf R) Y := fun hz => by rw [← hl]; unfold lfo; simp only; rw [if_pos hz]
  have l5 : r.1 ≤ 1 → l.2.2.2.2 = r.2.2.2.1 * 16 ^ (7 - r.2.2.1.2.2.1) := fun hz => by rw [← hl]; unfold lfo; simp only; rw [if_pos hz]
  have n3 : ¬ lK 3 (ℓ ++ [l]) → ¬ lK 3 ℓ ∧ r.1 ≠ 3 := fun hn => ⟨fun z => hn (lK_app.mpr (Or.inl z)), fun z => hn (lK_app.mpr (Or.inr (lK_one.mpr (l1.trans z))))⟩
  by_cases h3 : r.1 = 3
  · -- too many draws
    rw [if_pos h3, if_neg (by decide)]
    obtain ⟨σ', g1, g2, g3⟩ := tAll_n (K := K) (x2 := x2) h1 hH1 (by omega) f67 f72 (ℓ := ℓ ++ [l]) (¬ lK 3 (ℓ ++ [l])) (fun hn => absurd h3 (n3 hn).2)
    exact ⟨σ', F1.tr g1, g2, g3⟩
  · rw [if_neg h3, if_pos rfl]
    have hr1 : r.1 ≤ 1 := by omega
    obtain ⟨u1, u2⟩ := t3 hr1
    cases hok : r.2.2.1.2.2.2 with
    | false =>
      have hr : r.1 = 1 := by
        have : ¬ r.1 = 0 := fun z => by rw [u2.mp z] at hok; cases hok
        omega
      rw [show bi false = 0 from rfl, if_pos rfl]
      obtain ⟨σ', g1, g2, g3⟩ := tAll_n (K := K) (x2 := x2) h1 hH1 (by omega) f67 f72 (ℓ := ℓ ++ [l]) (¬ lK 3 (ℓ ++ [l])) (fun hn => by
        have ht := ha (n3 hn).1
        obtain ⟨k1, k2, k3⟩ := c2 hr1 ht
        obtain ⟨s1, s2, s3, s4, s5, s6, s7, s8⟩ := ht
        have q1 : l.1 = 1 := l1.trans hr
        refine ⟨?_, ?_, ?_, ?_, ?_, fun a ha => ?_, ?_, ?_⟩
        · rw [e79, k1, lA_app]; simp [lA, q1]
        · rw [hI 0 80 (by omega), s2, lS_app]; simp [lS, q1]
        · rw [e81, k2, lX_app]; simp [lX, q1, l2]
        · rw [e82, k3, lD_app]; simp [lD, q1, l3]
        · rw [hL, s5, lT_app]; simp [lT, q1]
        · rw [hL, s6 a ha, lG_app]; simp [lG, q1]
        · rw [lX_app]; simp only [lX, q1, l2]; simp; omega
        · rw [lD_app]; simp only [lD, q1, l3]; simp; omega)
      exact ⟨σ', F1.tr g1, g2, g3⟩
    | true =>
      have hr : r.1 = 0 := u2.mpr hok
      rw [show bi true = 1 from rfl, if_neg (by decide), wI_e]
      show ∃ σ', _ ∧ _ ∧ ((_ ∧ (bd (fX11_answer (stL (stI σ1 0 80 (σ1.1 0 80 + 1)) 0 78 ((stI σ1 0 80 (σ1.1 0 80 + 1)).2.1 0 78 + (stI σ1 0 80 (σ1.1 0 80 + 1)).2.1 0 71))) _) = _) ∨ ∃ fo, _ ∧ (bd (fX11_answer (stL (stI σ1 0 80 (σ1.1 0 80 + 1)) 0 78 ((stI σ1 0 80 (σ1.1 0 80 + 1)).2.1 0 78 + (stI σ1 0 80 (σ1.1 0 80 + 1)).2.1 0 71))) _) = _ ∧ _)
      have e71 : σ1.2.1 0 71 = nl l.2.2.2.2 := by rw [hL, t6, l5 hr1]
      have G2 : fAl σ1 (stL (stI σ1 0 80 (σ1.1 0 80 + 1)) 0 78 ((stI σ1 0 80 (σ1.1 0 80 + 1)).2.1 0 78 + (stI σ1 0 80 (σ1.1 0 80 + 1)).2.1 0 71)) := (fAl_0 (by omega)).tr fAl_78
      have e78 : (stL (stI σ1 0 80 (σ1.1 0 80 + 1)) 0 78 ((stI σ1 0 80 (σ1.1 0 80 + 1)).2.1 0 78 + (stI σ1 0 80 (σ1.1 0 80 + 1)).2.1 0 71)).2.1 0 78 = σ1.2.1 0 78 + nl l.2.2.2.2 := by
        rw [gL, if_pos rfl, if_pos rfl, gI_L, e71]
      have e38 : ∀ a, (stL (stI σ1 0 80 (σ1.1 0 80 + 1)) 0 78 ((stI σ1 0 80 (σ1.1 0 80 + 1)).2.1 0 78 + (stI σ1 0 80 (σ1.1 0 80 + 1)).2.1 0 71)).2.1 38 a = σ1.2.1 38 a := fun a => by
        rw [gL, if_neg (by decide)]; rfl
      have e71' : (stL (stI σ1 0 80 (σ1.1 0 80 + 1)) 0 78 ((stI σ1 0 80 (σ1.1 0 80 + 1)).2.1 0 78 + (stI σ1 0 80 (σ1.1 0 80 + 1)).2.1 0 71)).2.1 0 71 = nl l.2.2.2.2 := by
        rw [gL, if_pos rfl, if_neg (by decide), gI_L, e71]
      have i2 : ∀ x j, ¬ (x = 0 ∧ j = 80) → (stL (stI σ1 0 80 (σ1.1 0 80 + 1)) 0 78 ((stI σ1 0 80 (σ1.1 0 80 + 1)).2.1 0 78 + (stI σ1 0 80 (σ1.1 0 80 + 1)).2.1 0 71)).1 x j = σ1.1 x j := fun x j hx => by
        show (stI σ1 0 80 (σ1.1 0 80 + 1)).1 x j = _
        rw [gI]
        by_cases hx0 : x = 0
        · rw [if_pos hx0, if_neg (fun z => hx ⟨hx0, z⟩)]
        · rw [if_neg hx0]
      have e80 : (stL (stI σ1 0 80 (σ1.1 0 80 + 1)) 0 78 ((stI σ1 0 80 (σ1.1 0 80 + 1)).2.1 0 78 + (stI σ1 0 80 (σ1.1 0 80 + 1)).2.1 0 71)).1 0 80 = σ1.1 0 80 + 1 := by
        show (stI σ1 0 80 (σ1.1 0 80 + 1)).1 0 80 = _
        simp [gI]
      generalize stL (stI σ1 0 80 (σ1.1 0 80 + 1)) 0 78 ((stI σ1 0 80 (σ1.1 0 80 + 1)).2.1 0 78 + (stI σ1 0 80 (σ1.1 0 80 + 1)).2.1 0 71) = σ2 at G2 e78 e38 e71' i2 e80 ⊢
      obtain ⟨σ3, v1, v2⟩ := tAns (tQn_A h1 G2) t7.1 (fun a ha => by rw [i2 33 a (by omega), hI 33 a (by omega)]; exact t7.2 a ha)
      obtain ⟨x, hx, ex⟩ := val_n (v := vof r.2.2.1.2.1) ⟨fun a _ => vof_n t7.1 a, h.env.1, h.env.2⟩ (sV_wf h.2.1.2.1).1
      have k67 : σ2.1 0 67 = nz r.2.2.2.2.length := by rw [i2 0 67 (by omega)]; exact f67
      have G4 : fAl σ2 (stL (stI σ3 0 67 (σ2.1 0 67)) 38 x (σ3.2.1 38 x + σ3.2.1 0 71)) := ((fAl_R (fRn_34 v2)).tr (fAl_0 (by omega))).tr fAl_38
      have i4 : ∀ a j, a ≠ 34 → ¬ (a = 0 ∧ (j = 61 ∨ j = 64 ∨ j = 67)) → (stL (stI σ3 0 67 (σ2.1 0 67)) 38 x (σ3.2.1 38 x + σ3.2.1 0 71)).1 a j = σ2.1 a j := fun a j h34 hj => by
        show (stI σ3 0 67 (σ2.1 0 67)).1 a j = _
        rw [gI]
        by_cases ha0 : a = 0
        · rw [if_pos ha0, if_neg (by omega), ha0, v2.2.2 j (by omega) (by omega)]
        · rw [if_neg ha0, v2.2.1 a j ha0 h34]
      have k67' : (stL (stI σ3 0 67 (σ2.1 0 67)) 38 x (σ3.2.1 38 x + σ3.2.1 0 71)).1 0 67 = nz r.2.2.2.2.length := by
        show (stI σ3 0 67 (σ2.1 0 67)).1 0 67 = _
        rw [gI, if_pos rfl, if_pos rfl]; exact k67
      have w71 : σ3.2.1 0 71 = nl l.2.2.2.2 := by rw [v2.1]; exact e71'
      have w38 : ∀ a, (stL (stI σ3 0 67 (σ2.1 0 67)) 38 x (σ3.2.1 38 x + σ3.2.1 0 71)).2.1 38 a = if a = x then σ1.2.1 38 x + nl l.2.2.2.2 else σ1.2.1 38 a := fun a => by
        rw [gL, if_pos rfl, w71]
        by_cases hax : a = x
        · rw [if_pos hax, if_pos hax, v2.1, e38]
        · rw [if_neg hax, if_neg hax]
          show σ3.2.1 38 a = _
          rw [v2.1, e38]
      have w78 : (stL (stI σ3 0 67 (σ2.1 0 67)) 38 x (σ3.2.1 38 x + σ3.2.1 0 71)).2.1 0 78 = σ1.2.1 0 78 + nl l.2.2.2.2 := by
        rw [gL, if_neg (by decide)]
        show σ3.2.1 0 78 = _
        rw [v2.1, e78]
      obtain ⟨σ', g1, g2, g3⟩ := tAll_n (K := K) (x2 := x2) (σ := stL (stI σ3 0 67 (σ2.1 0 67)) 38 x (σ3.2.1 38 x + σ3.2.1 0 71)) (tQn_A (tQn_A h1 G2) G4) (fun i y hy => by rw [i4 36 i (by omega) (by omega), i4 37 i (by omega) (by omega), i2 36 i (by omega), i2 37 i (by omega)]; exact hH1 i y hy) (by omega) k67' (by rw [i4 0 72 (by omega) (by omega), i2 0 72 (by omega)]; exact f72) (ℓ := ℓ ++ [l]) (¬ lK 3 (ℓ ++ [l])) (fun hn => by
        have ht := ha (n3 hn).1
        obtain ⟨k1, k2, k3⟩ := c2 hr1 ht
        obtain ⟨s1, s2, s3, s4, s5, s6, s7, s8⟩ := ht
        have q1 : l.1 = 0 := l1.trans hr
        have q4 : l.2.2.2.1 = nz x := (l4 hr).trans ex
        refine ⟨?_, ?_, ?_, ?_, ?_, fun a ha => ?_, ?_, ?_⟩
        · rw [i4 0 79 (by omega) (by omega), i2 0 79 (by omega), e79, k1, lA_app]; simp [lA, q1]
        · rw [i4 0 80 (by omega) (by omega), e80, hI 0 80 (by omega), s2, nz_s, lS_app]; simp [lS, q1]
        · rw [i4 0 81 (by omega) (by omega), i2 0 81 (by omega), e81, k2, lX_app]; simp [lX, q1, l2]
        · rw [i4 0 82 (by omega) (by omega), i2 0 82 (by omega), e82, k3, lD_app]; simp [lD, q1, l3]
        · rw [w78, hL, s5, nl_add, lT_app]; simp [lT, q1]
        · rw [w38 a, hL, lG_app]
          simp only [lG, q1, q4, Nat.add_zero, true_and]
          by_cases hax : a = x
          · rw [if_pos hax, hax, s6 x hx, nl_add, if_pos rfl]
          · rw [if_neg hax, s6 a ha, if_neg (fun z => hax ((nz_inj (by omega) (by omega)).mp z.symm)), Nat.add_zero]
        · rw [lX_app]; simp only [lX, q1, l2]; simp; omega
        · rw [lD_app]; simp only [lD, q1, l3]; simp; omega)
      refine ⟨σ', ((F1.tr G2).tr G4).tr g1, g2, ?_⟩
      have ee : (bd (fX11_answer σ2) fun r9 σ8 => wI σ8 0 67 (σ2.1 0 67) fun σ10 => ck (inB r9 100) <| ck (inB r9 100) <| wL σ10 38 r9.toNatClampNeg ((σ10.2.1 38 r9.toNatClampNeg) + (σ10.2.1 0 71)) fun σ11 => bd (fX11_nextDraws σ11) fun r13 σ12 => K x2 r13 σ12) = bd (fX11_nextDraws (stL (stI σ3 0 67 (σ2.1 0 67)) 38 x (σ3.2.1 38 x + σ3.2.1 0 71))) fun r5 σ4 => K x2 r5 σ4 := by
        rw [v1, bd_s, wI_e, ex, ck_n hx (by omega), ck_n hx (by omega), nz_tn (by omega)]
        rfl
      rw [ee]
      exact g3
end
