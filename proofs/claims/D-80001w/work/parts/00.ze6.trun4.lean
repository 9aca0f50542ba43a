set_option maxRecDepth 100000
section
variable {nm : Nat → Int32} {q o p : Nat} {C : List Cd} {ch : List Int32} {Y : List Sy} {F : List Fn} {R : List Int32} {cs : Nat → Int32} {a1 : Int32}
/-- a run goes to its end -/
theorem tRuns {α : Type} {orc : α → Cd → Nat × α} {Rp : (Nat → Int32) → Int32 → Int32 → Int32 → α → Nat → Prop} (hD : drO C orc Rp) : ∀ (k : Nat) (c : Cfg) (n w : Nat) (a : α) (H : Hs) (σ : cS) (f : Nat), 1 ≤ k → k + n = 61 → k * 600 ≤ f → tQn σ nm q o p C ch Y F R cs → tRu σ o C c n w H → Rp (σ.1 36) (σ.1 0 72) (σ.1 0 73) (σ.1 0 76) a c.2.2.1 →
    ∃ σ', fX11_go_12 a1 f 1 σ = some ((), σ') ∧ fRn σ σ' ∧ tEd σ' C (ru C (clf F (fv F (nuf R)) F.length) (nuf R) cs orc k c n w a H).1 ∧ Rp (σ'.1 36) (σ'.1 0 72) (σ'.1 0 73) (σ'.1 0 76) (ru C (clf F (fv F (nuf R)) F.length) (nuf R) cs orc k c n w a H).2 (ru C (clf F (fv F (nuf R)) F.length) (nuf R) cs orc k c n w a H).1.2.2.1.2.2.1 := by
  intro k
  induction k with
  | zero => intro c n w a H σ f h; omega
  | succ k ih =>
    intro c n w a H σ f _ hk hf h hr hR
    have hCl := h.2.1.1.1
    have hJ := h.2.1.1.2.2.2.1
    have hol := h.1.2.2.2.1
    obtain ⟨j1, j2⟩ := jp_le hJ hCl hr.2.2.2.2.2.2.2.2.2.2.2.2.2
    -- jumps first
    obtain ⟨σ1, f1, g1, g2, g3, g4, g5⟩ := tJmp (a1 := a1) (C.length + 2) c.1 f σ h hr.2.2.2.2.2.2.2.2.2.2.2.2.2 (by omega) hr.1
    have S1 : fSm σ σ1 := ⟨g4, fun x j q1 _ _ => g5 x j (by omega), fun j _ q2 _ _ => g5 0 j (by omega)⟩
    have h1 := tQn_R h (fRn_S S1)
    have hr1 : tRu σ1 o C (jp C c.1, c.2.1, c.2.2.1, c.2.2.2) n w H := by
      refine tRu_S hr S1 g3 ?_ ?_ ⟨hr.2.2.2.2.2.2.2.1.1, fun b hb => ?_⟩ ?_ rfl j1
      · rw [g5 0 66 (by omega)]; exact hr.2.1
      · rw [g5 0 68 (by omega)]; exact hr.2.2.2.1
      · rw [g5 33 b (by omega)]; exact hr.2.2.2.2.2.2.2.1.2 b hb
      · exact ⟨by rw [g5 0 61 (by omega)]; exact hr.2.2.2.2.2.2.2.2.1.1, fun j s hs => by simp at hs⟩
    have e36 : σ1.1 36 = σ.1 36 := by funext j; exact g5 36 j (by omega)
    have hR1 : Rp (σ1.1 36) (σ1.1 0 72) (σ1.1 0 73) (σ1.1 0 76) a c.2.2.1 := by
      rw [e36, g5 0 72 (by omega), g5 0 73 (by omega), g5 0 76 (by omega)]; exact hR
    rw [g1]
    have hf1 : k * 600 + 500 ≤ f1 := by omega
    clear g1 g2 hf hr hR h
    have FR := fRn_S S1
    have hr1' := hr1
    obtain ⟨b1, b2, b3, b4, b5, b6, b7, b8, b9, b10, b11, b12, b13, b14⟩ := hr1
    simp only at b1 b2 b3 b4 b7 b8 b11 b12 b13 b14
    by_cases hend : C.length ≤ jp C c.1
    · have er : ru C (clf F (fv F (nuf R)) F.length) (nuf R) cs orc (k + 1) c n w a H = ((if c.2.2.2 = true then 0 else 1, n, c, w, H), a) := by
        show (if _ then _ else _ : Rn × α) = _
        rw [if_pos hend]
      rw [er]
      obtain ⟨f1, rfl⟩ : ∃ e, f1 = e + 2 := ⟨f1 - 2, by omega⟩
      have hje : jp C c.1 = C.length := by omega
      have b1' : σ1.1 0 64 = nz (o + osum C) := by rw [b1, hje, h1.en.1]
      rw [tO15 f1 hol b1' h1.en.2]
      refine ⟨_, rfl, FR.tr (fRn_0 (by omega)), ⟨?_, ?_, fun _ => ⟨?_, ?_⟩, ?_, ?_, ?_, ⟨b8.1, fun b hb => ?_⟩, ?_, b11, b13, ?_, by simp only; omega⟩, ?_⟩
      · simp only
        rw [if_neg (by cases c.2.2.2 <;> decide)]
        simpa [gI] using b5
      · simp only
        rw [if_neg (by cases c.2.2.2 <;> decide)]
        simpa [gI] using b6
      · simpa [gI] using b2
      · cases c.2.2.2 <;> simp
      · simpa [gI] using b3
      · simpa [gI] using b4
      · exact b7
      · simpa [gI] using b8.2 b hb
      · intro i x hx
        have := b10 i x hx
        simpa [gI] using this
      · simp only
        cases c.2.2.2 <;> decide
      · have : (stI σ1 0 64 (nz (o + osum C + 1))).1 36 = σ1.1 36 := by funext j; simp [gI]
        rw [this]
        simpa [gI] using hR1
    · have hpl : jp C c.1 < C.length := by omega
      obtain ⟨hA, hB⟩ := h1.at hpl
      have hv := h1.2.1.1.2.2.1 _ (cdA_mem hpl)
      have h5 := j2 hpl
      have h8 : σ1.1 2 (posn o 0 C (jp C c.1)) = 8 ∧ σ1.1 3 (posn o 0 C (jp C c.1)) = 0 := by
        have := hA 0 (8, 0) (by
          unfold ord1
          rcases hv with ⟨z, -⟩ | ⟨z, -⟩ | ⟨z, -⟩ | ⟨z, -⟩ | ⟨z, -⟩ | ⟨z, -⟩
          · rw [z]; rfl
          · rw [z]; rfl
          · rw [z]; rfl
          · rw [z]; rfl
          · rw [z]; rfl
          · exact absurd z h5)
        rw [Nat.add_zero] at this
        exact this
      have hosz : 1 ≤ osz (cdA C (jp C c.1)) := by
        unfold osz
        split
        · omega
        split <;> omega
      by_cases h60 : n = 60
      · have er : ru C (clf F (fv F (nuf R)) F.length) (nuf R) cs orc (k + 1) c n w a H = ((2, n, c, w, H), a) := by
          show (if _ then _ else _ : Rn × α) = _
          rw [if_neg hend, if_pos h60]
        rw [er]
        obtain ⟨f1, rfl⟩ : ∃ e, f1 = e + 2 := ⟨f1 - 2, by omega⟩
        rw [tO8x f1 (by omega) b1 h8 (by rw [b2, h60])]
        refine ⟨_, rfl, FR.tr ((fRn_0 (by omega)).tr (fRn_0 (by omega))), ⟨by simp [gI], ?_, fun z => absurd z (by simp only; omega), ?_, ?_, b7, ⟨b8.1, fun b hb => ?_⟩, ?_, b11, b13, by simp only; omega, by simp only; omega⟩, ?_⟩
        · simp only
          rw [if_neg (by decide)]
          simpa [gI] using b6
        · simpa [gI] using b3
        · simpa [gI] using b4
        · simpa [gI] using b8.2 b hb
        · intro i x hx
          have := b10 i x hx
          simpa [gI] using this
        · have : (stI (stI σ1 0 64 (nz (posn o 0 C (jp C c.1) + 1))) 0 69 1).1 36 = σ1.1 36 := by funext j; simp [gI]
          rw [this]
          simpa [gI] using hR1
      · by_cases hk1 : (cdA C (jp C c.1)).1 = 1
        · by_cases h7 : c.2.2.1 = 7
          · have er : ru C (clf F (fv F (nuf R)) F.length) (nuf R) cs orc (k + 1) c n w a H = ((3, n, c, w, H), a) := by
              show (if _ then _ else _ : Rn × α) = _
              rw [if_neg hend, if_neg h60, if_pos hk1, if_pos h7]
            rw [er]
            have eo : osz (cdA C (jp C c.1)) = 3 := by unfold osz; rw [if_neg h5, if_pos (Or.inl hk1)]
            have ho : ord1 (trS (-1) nm F.length) (posn o 0 C) (dn (C.take (jp C c.1))) (cdA C (jp C c.1)) = [(8, 0), (10, nz (dn (C.take (jp C c.1)))), (9, (cdA C (jp C c.1)).2.1)] := by unfold ord1; rw [if_neg (by rw [hk1]; decide), if_pos hk1]
            rw [ho] at hA
            have h1' := hA 1 _ rfl
            obtain ⟨f1, rfl⟩ : ∃ e, f1 = e + 1 + 1 + 1 := ⟨f1 - 3, by omega⟩
            have e67 : (stI (stI (stI σ1 0 64 (nz (posn o 0 C (jp C c.1) + 1))) 0 66 (nz (n + 1))) 0 64 (nz (posn o 0 C (jp C c.1) + 1 + 1))).1 0 67 = nz 7 := by
              rw [← h7]; simpa [gI] using b3
            have hst : fX11_go_12 a1 (f1 + 1 + 1 + 1) 1 σ1 = some ((), stI (stI (stI (stI σ1 0 64 (nz (posn o 0 C (jp C c.1) + 1))) 0 66 (nz (n + 1))) 0 64 (nz (posn o 0 C (jp C c.1) + 1 + 1))) 0 70 1) := by
              rw [tO8 (f1 + 1 + 1) (by omega) b1 h8 b2 (by omega), go_1, tOrd (k := 10) (pc := posn o 0 C (jp C c.1) + 1) (x := nz (dn (C.take (jp C c.1)))) (by omega) (by omega) (by simp [gI]) (by rw [show nz 10 = (10 : Int32) from rfl]; simpa [gI] using h1'.1) (by simpa [gI] using h1'.2)]
              unfold fX11_doStatement
              rw [if_neg (by decide), if_neg (by decide), if_pos (by rfl), e67, if_pos (by rfl), wI_e, bd_s, ck_t (by decide), bd_s, go_0]
            rw [hst]
            refine ⟨_, rfl, FR.tr ((((fRn_0 (by omega)).tr (fRn_0 (by omega))).tr (fRn_0 (by omega))).tr (fRn_0 (by omega))), ⟨?_, by simp [gI], fun z => absurd z (by simp only; omega), ?_, ?_, b7, ⟨b8.1, fun b hb => ?_⟩, ?_, b11, b13, by simp only; omega, by simp only; omega⟩, ?_⟩
            · simp only
              rw [if_neg (by decide)]
              simpa [gI] using b5
            · simpa [gI] using b3
            · simpa [gI] using b4
            · simpa [gI] using b8.2 b hb
            · intro i x hx
              have := b10 i x hx
              simpa [gI] using this
            · have : (stI (stI (stI (stI σ1 0 64 (nz (posn o 0 C (jp C c.1) + 1))) 0 66 (nz (n + 1))) 0 64 (nz (posn o 0 C (jp C c.1) + 1 + 1))) 0 70 1).1 36 = σ1.1 36 := by funext j; simp [gI]
              rw [this]
              simpa [gI] using hR1
          · have er : ru C (clf F (fv F (nuf R)) F.length) (nuf R) cs orc (k + 1) c n w a H = ru C (clf F (fv F (nuf R)) F.length) (nuf R) cs orc k (jp C c.1 + 1, c.2.1.set (cdA C (jp C c.1)).2.1.toNatClampNeg (nz (orc a (cdA C (jp C c.1))).1), c.2.2.1 + 1, c.2.2.2) (n + 1) (w * dw (cdA C (jp C c.1)) (orc a (cdA C (jp C c.1))).1) (orc a (cdA C (jp C c.1))).2 (((orc a (cdA C (jp C c.1))).1, jp C c.1) :: H) := by
              show (if _ then _ else _ : Rn × α) = _
              rw [if_neg hend, if_neg h60, if_pos hk1, if_neg h7]
            rw [er]
            obtain ⟨f1, rfl⟩ : ∃ e, f1 = e + 3 := ⟨f1 - 3, by omega⟩
            obtain ⟨σ2, d1, d2, d3, d4⟩ := tDrS (a1 := a1) hD h1 f1 hr1' hpl hk1 (by omega) (by omega) hR1
            obtain ⟨σ3, i1, i2, i3, i4⟩ := ih _ (n + 1) _ _ _ σ2 f1 (by omega) (by omega) (by omega) (tQn_R h1 d2) d3 d4
            rw [d1]
            exact ⟨σ3, i1, (FR.tr d2).tr i2, i3, i4⟩
        · have er : ru C (clf F (fv F (nuf R)) F.length) (nuf R) cs orc (k + 1) c n w a H = ru C (clf F (fv F (nuf R)) F.length) (nuf R) cs orc k (act C (clf F (fv F (nuf R)) F.length) (nuf R) cs (jp C c.1) c.2.1 c.2.2.1 c.2.2.2) (n + 1) w a H := by
            show (if _ then _ else _ : Rn × α) = _
            rw [if_neg hend, if_neg h60, if_neg hk1]
          rw [er]
          obtain ⟨f1, rfl⟩ : ∃ e, f1 = e + 403 := ⟨f1 - 403, by omega⟩
          obtain ⟨σ2, f2, d0, d1, d2, d3⟩ := tAct (a1 := a1) h1 f1 hr1' hpl hk1 h5 (by omega)
          have hd2 : (act C (clf F (fv F (nuf R)) F.length) (nuf R) cs (jp C c.1) c.2.1 c.2.2.1 c.2.2.2).2.2.1 = c.2.2.1 := by
            unfold act
            split
            · rfl
            split
            · rfl
            split
            · rfl
            · rfl
          have e36' : σ2.1 36 = σ1.1 36 := by funext j; exact d2.2.1 36 j (by decide) (by decide) (by decide)
          obtain ⟨σ3, i1, i2, i3, i4⟩ := ih _ (n + 1) _ a _ σ2 f2 (by omega) (by omega) (by omega) (tQn_R h1 (fRn_S d2)) d3 (by
            rw [e36', d2.2.2 72 (by decide) (by decide) (by decide) (by decide), d2.2.2 73 (by decide) (by decide) (by decide) (by decide), d2.2.2 76 (by decide) (by decide) (by decide) (by decide), hd2]; exact hR1)
          rw [d1]
          exact ⟨σ3, i1, (FR.tr (fRn_S d2)).tr i2, i3, i4⟩
/-- variables are cleared -/
theorem tRun7 : ∀ (m t f : Nat) (σ : cS), 6 - t = m → m < f → t ≤ 6 → (∀ a, a < t → σ.1 33 a = 0) → ∃ σ' f', fX11_run_7 a1 f (nz t) σ = fX11_run_7 a1 (f' + 1) (nz 6) σ' ∧ fRn σ σ' ∧ σ'.2 = σ.2 ∧ (∀ o j, o ≠ 33 → σ'.1 o j = σ.1 o j) ∧ ∀ a, a < 6 → σ'.1 33 a = 0 := by
  intro m
  induction m with
  | zero =>
    intro t f σ hm hf ht hz
    obtain ⟨f, rfl⟩ : ∃ e, f = e + 1 := ⟨f - 1, by omega⟩
    have : t = 6 := by omega
    subst this
    exact ⟨σ, f, rfl, fRn.rf, rfl, fun _ _ _ => rfl, hz⟩
  | succ m ih =>
    intro t f σ hm hf ht hz
    obtain ⟨f, rfl⟩ : ∃ e, f = e + 1 := ⟨f - 1, by omega⟩
    obtain ⟨σ', f', i1, i2, i3, i4, i5⟩ := ih (t + 1) f (stI σ 33 t 0) (by omega) (by omega) (by omega) (fun a ha => by
      rw [gI, if_pos rfl]
      by_cases hat : a = t
      · rw [if_pos hat]
      · rw [if_neg hat]; exact hz a (by omega))
    refine ⟨σ', f', ?_, (fRn_I (by omega)).tr i2, i3, fun o j ho => by rw [i4 o j ho, gI, if_neg ho], i5⟩
    conv => lhs; unfold fX11_run_7
    rw [show (6 : Int32) = nz 6 from rfl, if_neg (by rw [nz_le (by omega) (by omega)]; omega), ck_n (show t < 6 by omega) (by omega), nz_tn (by omega), wI_e, nz_s]
    exact i1
/-- ONE RUN of the twin -/
theorem tRun {α : Type} {orc : α → Cd → Nat × α} {Rp : (Nat → Int32) → Int32 → Int32 → Int32 → α → Nat → Prop} (hD : drO C orc Rp) {σ : cS} {a : α} (h : tQn σ nm q o p C ch Y F R cs) (hR : Rp (σ.1 36) (σ.1 0 72) (σ.1 0 73) (σ.1 0 76) a 0) :
    ∃ σ', fX11_run (nz q) σ = some ((), σ') ∧ fRn σ σ' ∧ tEd σ' C (ru C (clf F (fv F (nuf R)) F.length) (nuf R) cs orc 61 rt0 0 1 a []).1 ∧ Rp (σ'.1 36) (σ'.1 0 72) (σ'.1 0 73) (σ'.1 0 76) (ru C (clf F (fv F (nuf R)) F.length) (nuf R) cs orc 61 rt0 0 1 a []).2 (ru C (clf F (fv F (nuf R)) F.length) (nuf R) cs orc 61 rt0 0 1 a []).1.2.2.1.2.2.1 := by
  have h65 := h.1.2.2.2.2.2.2
  unfold fX11_run
  rw [wI_e]
  have F0 : fRn σ (stI σ 0 65 (nz q)) := ⟨rfl, fun _ _ _ => rfl, fun o j a _ _ _ _ => by rw [gI, if_neg a], fun j _ => by
    rw [gI, if_pos rfl]
    by_cases hj : j = 65
    · rw [if_pos hj, hj, h65]
    · rw [if_neg hj]⟩
  obtain ⟨σ1, f1, g1, g2, g3, g4, g5⟩ := tRun7 (a1 := nz q) 6 0 FU (stI σ 0 65 (nz q)) (by omega) (by unfold FU; omega) (by omega) (fun a ha => by omega)
  rw [show (0 : Int32) = nz 0 from rfl, g1]
  conv => arg 1; ext σ'; arg 1; lhs; unfold fX11_run_7
  rw [show (6 : Int32) = nz 6 from rfl, if_pos (by rw [nz_le (by omega) (by omega)]; omega), wI_e, wI_e, wI_e, wI_e, wI_e]
  show ∃ σ', (bd (fX11_go ((stL (stI (stI (stI (stI (stI σ1 0 66 0) 0 67 0) 0 68 1) 0 69 0) 0 70 0) 0 71 268435456).1 0 57) (stL (stI (stI (stI (stI (stI σ1 0 66 0) 0 67 0) 0 68 1) 0 69 0) 0 70 0) 0 71 268435456)) fun _ σ7 => some ((), σ7)) = _ ∧ _
  have F2 : fRn σ (stL (stI (stI (stI (stI (stI σ1 0 66 0) 0 67 0) 0 68 1) 0 69 0) 0 70 0) 0 71 268435456) := (F0.tr g2).tr ((((((fRn_0 (by omega)).tr (fRn_0 (by omega))).tr (fRn_0 (by omega))).tr (fRn_0 (by omega))).tr (fRn_0 (by omega))).tr fRn_L)
  have hI : ∀ x j, ¬ (x = 0 ∧ 65 ≤ j ∧ j ≤ 70) → x ≠ 33 → (stL (stI (stI (stI (stI (stI σ1 0 66 0) 0 67 0) 0 68 1) 0 69 0) 0 70 0) 0 71 268435456).1 x j = σ.1 x j := by
    intro x j hx h33
    show (stI (stI (stI (stI (stI σ1 0 66 0) 0 67 0) 0 68 1) 0 69 0) 0 70 0).1 x j = _
    rw [gI, gI, gI, gI, gI, g4 x j h33, gI]
    by_cases hx0 : x = 0
    · simp only [if_pos hx0, if_neg (show ¬ j = 70 by omega), if_neg (show ¬ j = 69 by omega), if_neg (show ¬ j = 68 by omega), if_neg (show ¬ j = 67 by omega), if_neg (show ¬ j = 66 by omega), if_neg (show ¬ j = 65 by omega)]
    · simp only [if_neg hx0]
  have e66 : (stL (stI (stI (stI (stI (stI σ1 0 66 0) 0 67 0) 0 68 1) 0 69 0) 0 70 0) 0 71 268435456).1 0 66 = nz 0 := by
    show (stI (stI (stI (stI (stI σ1 0 66 0) 0 67 0) 0 68 1) 0 69 0) 0 70 0).1 0 66 = _
    simp [gI]; rfl
  have e67 : (stL (stI (stI (stI (stI (stI σ1 0 66 0) 0 67 0) 0 68 1) 0 69 0) 0 70 0) 0 71 268435456).1 0 67 = nz 0 := by
    show (stI (stI (stI (stI (stI σ1 0 66 0) 0 67 0) 0 68 1) 0 69 0) 0 70 0).1 0 67 = _
    simp [gI]; rfl
  have e68 : (stL (stI (stI (stI (stI (stI σ1 0 66 0) 0 67 0) 0 68 1) 0 69 0) 0 70 0) 0 71 268435456).1 0 68 = bi true := by
    show (stI (stI (stI (stI (stI σ1 0 66 0) 0 67 0) 0 68 1) 0 69 0) 0 70 0).1 0 68 = _
    simp [gI]; rfl
  have e69 : (stL (stI (stI (stI (stI (stI σ1 0 66 0) 0 67 0) 0 68 1) 0 69 0) 0 70 0) 0 71 268435456).1 0 69 = 0 := by
    show (stI (stI (stI (stI (stI σ1 0 66 0) 0 67 0) 0 68 1) 0 69 0) 0 70 0).1 0 69 = _
    simp [gI]
  have e70 : (stL (stI (stI (stI (stI (stI σ1 0 66 0) 0 67 0) 0 68 1) 0 69 0) 0 70 0) 0 71 268435456).1 0 70 = 0 := by
    show (stI (stI (stI (stI (stI σ1 0 66 0) 0 67 0) 0 68 1) 0 69 0) 0 70 0).1 0 70 = _
    simp [gI]
  have e71 : (stL (stI (stI (stI (stI (stI σ1 0 66 0) 0 67 0) 0 68 1) 0 69 0) 0 70 0) 0 71 268435456).2.1 0 71 = nl (1 * 16 ^ (7 - 0)) := by
    rw [gL, if_pos rfl, if_pos rfl]; rfl
  have e33 : ∀ b, b < 6 → (stL (stI (stI (stI (stI (stI σ1 0 66 0) 0 67 0) 0 68 1) 0 69 0) 0 70 0) 0 71 268435456).1 33 b = 0 := by
    intro b hb
    show (stI (stI (stI (stI (stI σ1 0 66 0) 0 67 0) 0 68 1) 0 69 0) 0 70 0).1 33 b = _
    simpa [gI] using g5 b hb
  generalize stL (stI (stI (stI (stI (stI σ1 0 66 0) 0 67 0) 0 68 1) 0 69 0) 0 70 0) 0 71 268435456 = σ2 at F2 hI e66 e67 e68 e69 e70 e71 e33 ⊢
  have h2 := tQn_R h F2
  have h57 := h2.1.2.1
  rw [h57]
  unfold fX11_go
  rw [wI_e, wI_e]
  have F3 : fSm σ2 (stI (stI σ2 0 64 (nz o)) 0 61 0) := (fSm_0 (by omega)).tr (fSm_0 (by omega))
  have h3 := tQn_R h2 (fRn_S F3)
  have v0 : ∀ b, b < 6 → vof rt0.2.1 b = 0 := by
    intro b hb
    have : b = 0 ∨ b = 1 ∨ b = 2 ∨ b = 3 ∨ b = 4 ∨ b = 5 := by omega
    rcases this with q | q | q | q | q | q <;> rw [q] <;> rfl
  have hr3 : tRu (stI (stI σ2 0 64 (nz o)) 0 61 0) o C rt0 0 1 [] := by
    refine ⟨?_, ?_, ?_, ?_, ?_, ?_, e71, ⟨rt0_ok, fun b hb => ?_⟩, ⟨by simp [gI]; rfl, fun j s hs => by simp at hs⟩, fun i x hx => by simp at hx, rfl, by decide, by decide, Nat.zero_le _⟩
    · have : posn o 0 C rt0.1 = o := by unfold posn rt0; simp [osum]
      rw [this]; simp [gI]
    · simpa [gI] using e66
    · show _ = nz 0
      simpa [gI] using e67
    · show _ = bi true
      simpa [gI] using e68
    · simpa [gI] using e69
    · simpa [gI] using e70
    · rw [v0 b hb]; simpa [gI] using e33 b hb
  have e36 : (stI (stI σ2 0 64 (nz o)) 0 61 0).1 36 = σ.1 36 := by
    funext j
    rw [F3.2.1 36 j (by decide) (by decide) (by decide)]
    exact hI 36 j (by omega) (by decide)
  obtain ⟨σ4, i1, i2, i3, i4⟩ := tRuns (a1 := nz o) hD 61 rt0 0 1 a [] (stI (stI σ2 0 64 (nz o)) 0 61 0) FU (by omega) (by omega) (by unfold FU; omega) h3 hr3 (by
    rw [e36, F3.2.2 72 (by decide) (by decide) (by decide) (by decide), F3.2.2 73 (by decide) (by decide) (by decide) (by decide), F3.2.2 76 (by decide) (by decide) (by decide) (by decide), hI 0 72 (by omega) (by decide), hI 0 73 (by omega) (by decide), hI 0 76 (by omega) (by decide)]
    exact hR)
  rw [i1, bd_s]
  exact ⟨σ4, rfl, (F2.tr (fRn_S F3)).tr i2, i3, i4⟩
end
