set_option maxRecDepth 100000
/-! ===== THE COMPONENT: one step ===== -/
/-- what a step changes -/
def fSe (kb wb mb pb : Nat) (σ σ' : cS) : Prop := σ'.2.2 = σ.2.2 ∧ (∀ o j, o ≠ kb → o ≠ wb → o ≠ 86 → σ'.2.1 o j = σ.2.1 o j) ∧ (∀ o j, o ≠ 83 → o ≠ 84 → o ≠ mb → o ≠ pb → ¬ (o = 74 ∧ (j = 9 ∨ (14 ≤ j ∧ j ≤ 22))) → σ'.1 o j = σ.1 o j)
theorem fSe.rf {kb wb mb pb : Nat} {σ : cS} : fSe kb wb mb pb σ σ := ⟨rfl, fun _ _ _ _ _ => rfl, fun _ _ _ _ _ _ _ => rfl⟩
theorem fSe.tr {kb wb mb pb : Nat} {σ σ1 σ2 : cS} (h : fSe kb wb mb pb σ σ1) (h' : fSe kb wb mb pb σ1 σ2) : fSe kb wb mb pb σ σ2 := ⟨h'.1.trans h.1, fun o j a b c => (h'.2.1 o j a b c).trans (h.2.1 o j a b c), fun o j a b c d e => (h'.2.2 o j a b c d e).trans (h.2.2 o j a b c d e)⟩
theorem fSe_S {kb wb mb pb : Nat} {σ σ' : cS} (h : fSt kb wb mb pb σ σ') : fSe kb wb mb pb σ σ' := ⟨h.1, fun o j a b _ => h.2.1 o j a b, fun o j a b c d e => h.2.2 o j a b c d (by omega)⟩
theorem fSe_E {kb wb mb pb : Nat} {σ σ' : cS} (h : fEn σ σ') : fSe kb wb mb pb σ σ' := ⟨h.1, fun o j _ _ a => h.2.1 o j a, fun o j a b _ _ e => h.2.2 o j a b (by omega)⟩
theorem fSe.q {kb wb mb pb : Nat} {σ σ' : cS} (h : fSe kb wb mb pb σ σ') (hB : arr kb wb mb pb) : fQ σ σ' := by
  intro o j ho
  rcases hB with ⟨rfl, rfl, rfl, rfl⟩ | ⟨rfl, rfl, rfl, rfl⟩
  · exact h.2.2 o j (by omega) (by omega) (by omega) (by omega) (by omega)
  · exact h.2.2 o j (by omega) (by omega) (by omega) (by omega) (by omega)
theorem cNx_f {ka wa ma pa : Nat} {σ σ' : cS} (h : cNx σ ka wa ma pa) (e : σ'.2.2 = σ.2.2) : cNx σ' ka wa ma pa := by
  obtain ⟨b1, b2, b3, b4⟩ := h
  exact ⟨by rw [e]; exact b1, by rw [e]; exact b2, by rw [e]; exact b3, by rw [e]; exact b4⟩
theorem cCu_f {ka wa ma pa : Nat} {σ σ' : cS} (h : cCu σ ka wa ma pa) (e : σ'.2.2 = σ.2.2) : cCu σ' ka wa ma pa := by
  obtain ⟨b1, b2, b3, b4⟩ := h
  exact ⟨by rw [e]; exact b1, by rw [e]; exact b2, by rw [e]; exact b3, by rw [e]; exact b4⟩
theorem cLy_Se {ka wa ma pa kb wb mb pb : Nat} {σ σ' : cS} {L : List En} (hA : ar2 ka wa ma pa kb wb mb pb) (h : cLy σ ka wa ma pa L) (hf : fSe kb wb mb pb σ σ') : cLy σ' ka wa ma pa L := by
  rcases hA with ⟨rfl, rfl, rfl, rfl, rfl, rfl, rfl, rfl⟩ | ⟨rfl, rfl, rfl, rfl, rfl, rfl, rfl, rfl⟩
  · exact cLy_f h (fun j => hf.2.1 _ _ (by decide) (by decide) (by decide)) (fun j => hf.2.1 _ _ (by decide) (by decide) (by decide)) (fun j => hf.2.2 _ _ (by decide) (by decide) (by decide) (by decide) (by omega)) (fun j => hf.2.2 _ _ (by decide) (by decide) (by decide) (by decide) (by omega))
  · exact cLy_f h (fun j => hf.2.1 _ _ (by decide) (by decide) (by decide)) (fun j => hf.2.1 _ _ (by decide) (by decide) (by decide)) (fun j => hf.2.2 _ _ (by decide) (by decide) (by decide) (by decide) (by omega)) (fun j => hf.2.2 _ _ (by decide) (by decide) (by decide) (by decide) (by omega))
theorem cCh_S {kb wb mb pb : Nat} {σ σ' : cS} {cs : Nat → Int32} (hB : arr kb wb mb pb) (h : cCh σ cs) (hf : fSe kb wb mb pb σ σ') : cCh σ' cs := by
  intro k hk
  obtain ⟨h1, h2⟩ := h k hk
  refine ⟨?_, h2⟩
  rw [← h1]
  rcases hB with ⟨rfl, rfl, rfl, rfl⟩ | ⟨rfl, rfl, rfl, rfl⟩ <;> exact hf.2.2 _ _ (by decide) (by decide) (by decide) (by decide) (by omega)
theorem cRs_I18 {σ : cS} {A S X D : Nat} {lg wd : Bool} {G : Nat → Nat} (hs : cRs σ A S X D lg wd G) : cRs (stI σ 74 18 1) A S X D true wd G := by
  obtain ⟨s1, s2, s3, s4, s5, s6, s7, s8, s9⟩ := hs
  exact ⟨by simpa [gI] using s1, by simpa [gI] using s2, by simpa [gI] using s3, by simpa [gI] using s4, by simp [gI]; rfl, by simpa [gI] using s6, s7, s8, s9⟩
theorem cRs_I19 {σ : cS} {A S X D : Nat} {lg wd : Bool} {G : Nat → Nat} (hs : cRs σ A S X D lg wd G) : cRs (stI σ 74 19 1) A S X D lg true G := by
  obtain ⟨s1, s2, s3, s4, s5, s6, s7, s8, s9⟩ := hs
  exact ⟨by simpa [gI] using s1, by simpa [gI] using s2, by simpa [gI] using s3, by simpa [gI] using s4, by simpa [gI] using s5, by simp [gI]; rfl, s7, s8, s9⟩
section
variable {o : Nat} {C : List Cd} {ch : List Int32} {Y : List Sy} {F : List Fn} {R : List Int32} {ka wa ma pa kb wb mb pb : Nat} {cs : Nat → Int32}
theorem cStep (hA : ar2 ka wa ma pa kb wb mb pb) {σ : cS} {L N : List En} {s w m n A S X D : Nat} {c : Cfg} {lg wd : Bool} {G : Nat → Nat} (h : cQn σ o C ch Y F R) (hch : cCh σ cs) (hC : cCu σ ka wa ma pa) (hN : cNx σ kb wb mb pb) (hL : cLy σ ka wa ma pa L) (hM : cLy σ kb wb mb pb N) (hcnt : σ.1 74 9 = nz N.length) (hl : N.length < 4000) (he : (s, c, w, m) ∈ L) (hpc : c.1 ≤ C.length) (hn : n ≤ 60) (hs : cRs σ A S X D lg wd G) :
    ∃ σ' N' lg' wd', fX6_step o (nz s) (nz n) σ = some ((), σ') ∧ fSe kb wb mb pb σ σ' ∧ adLs (stS C (clf F (fv F (nuf R)) F.length) (nuf R) cs c n w m) N N' ∧ cLy σ' kb wb mb pb N' ∧ σ'.1 74 9 = nz N'.length ∧
    cRs σ' (A + m * lA (stH C (clf F (fv F (nuf R)) F.length) (nuf R) Y c n)) (S + m * lS (stH C (clf F (fv F (nuf R)) F.length) (nuf R) Y c n)) (max X (lX (stH C (clf F (fv F (nuf R)) F.length) (nuf R) Y c n))) (max D (lD (stH C (clf F (fv F (nuf R)) F.length) (nuf R) Y c n))) lg' wd' (fun a => G a + w * lG (nz a) (stH C (clf F (fv F (nuf R)) F.length) (nuf R) Y c n)) ∧
    (lg' = true ↔ lg = true ∨ lK 2 (stH C (clf F (fv F (nuf R)) F.length) (nuf R) Y c n)) ∧ (wd' = true ↔ wd = true ∨ lK 3 (stH C (clf F (fv F (nuf R)) F.length) (nuf R) Y c n)) ∧
    (∀ e ∈ stS C (clf F (fv F (nuf R)) F.length) (nuf R) cs c n w m, e.1.1 ≤ C.length) := by
  have hCl := h.2.1.2.1.1
  have hJ := h.2.1.2.1.2.2.2.1
  obtain ⟨l1, l2, l3, l4⟩ := arr_la hA.a
  obtain ⟨x1, x2, x3, x4, x5⟩ := hL.2.1 _ he
  simp only at x1 x2 x3 x4 x5
  obtain ⟨c1, c2, c3, c4⟩ := hC
  obtain ⟨σ1, g1, g2, g3⟩ := cUnpack (σ := σ) x5.2.2 (by have := x5.1; omega) (by have := x5.2.1; omega)
  have Q1 := cQn_Q h g2.q
  obtain ⟨σ2, k1, k2, k3⟩ := cJump Q1 g3 hpc
  have Q2 := cQn_Q Q1 k2.q
  obtain ⟨j1, j2⟩ := jp_le hJ hCl hpc
  have FR := g2.tr k2
  have r0 : ∀ {x : Nat} {y : Option Nat}, σ.2.2 74 x = y → σ2.2.2 74 x = y := fun q => by rw [FR.1]; exact q
  have d1 := r0 c2
  have d2 := r0 c3
  have ew : σ2.2.1 wa s = nl w := by rw [FR.1]; exact x3
  have em : σ2.1 ma s = nz m := by
    rw [← x4]
    rcases hA.a with ⟨rfl, rfl, rfl, rfl⟩ | ⟨rfl, rfl, rfl, rfl⟩ <;> exact FR.2 _ _ (by decide) (by decide) (by omega)
  have cLA : cLy σ2 kb wb mb pb N := cLy_R hA.b hM FR
  have rs2 : cRs σ2 A S X D lg wd G := cRs_S hA.b hs (fSt_R FR)
  have cnt2 : σ2.1 74 9 = nz N.length := by rw [← hcnt]; exact FR.2 _ _ (by decide) (by decide) (by omega)
  have hN2 := cNx_f hN (show σ2.2.2 = σ.2.2 by rw [FR.1])
  have hch2 := cCh_S hA.b hch (fSe_S (fSt_R FR))
  unfold fX6_step
  rw [h.1.1, ck_t (by decide), c1]
  show ∃ σ' N' lg' wd', (ck (decide (cpLa ka = (4, 8192))) _) = _ ∧ _
  rw [ck_d l1, ck_n x1 (by omega), nz_tn (by omega), x2, g1, bd_s, k1, bd_s, Q2.2.1.1, k3.1]
  simp only
  by_cases hend : C.length ≤ jp C c.1
  · rw [if_pos (by congr 1; omega), d1]
    show ∃ σ' N' lg' wd', (ck (decide (cpLa wa = (4, 8192))) _) = _ ∧ _
    rw [ck_d l2, ck_n x1 (by omega), d2]
    show ∃ σ' N' lg' wd', (ck (decide (cpLa ma = (2, 8192))) _) = _ ∧ _
    rw [ck_d l3, ck_n x1 (by omega), ew, em]
    obtain ⟨σ3, e1, e2, e3⟩ := cEnd (w := w) (m := m) Q2 k3 x5.2.1 hn rs2
    rw [e1, bd_s]
    have el : stH C (clf F (fv F (nuf R)) F.length) (nuf R) Y c n = [(if c.2.2.2 = true then 0 else 1, n, c.2.2.1, if c.2.2.2 = true then val (vof c.2.1) (clf F (fv F (nuf R)) F.length) (nuf R) Y else 0, 16 ^ (7 - c.2.2.1))] := by unfold stH; rw [if_pos hend]
    have es : stS C (clf F (fv F (nuf R)) F.length) (nuf R) cs c n w m = [] := by unfold stS; rw [if_pos hend]
    rw [el, es]
    refine ⟨σ3, N, lg, wd, rfl, fSe_E ((fEn_R FR).tr e2), rfl, cLy_E hA.b cLA e2, ?_, ?_, ?_, ?_, by simp⟩
    · rw [← cnt2]; exact e2.2.2 _ _ (by decide) (by decide) (by omega)
    · simp only at e3
      cases hb : c.2.2.2 with
      | true =>
        rw [hb] at e3
        simp only [lA, lS, lX, lD, lG, if_pos] at e3 ⊢
        simp only [Nat.zero_le, if_pos, Nat.add_zero, Nat.mul_one, Nat.max_zero, true_and] at e3 ⊢
        obtain ⟨s1, s2, s3, s4, s5, s6, s7, s8, s9⟩ := e3
        refine ⟨s1, s2, s3, s4, s5, s6, s7, s8, fun a ha => ?_⟩
        rw [s9 a ha]
        congr 1
        simp only
        by_cases hv : nz a = val (vof c.2.1) (clf F (fv F (nuf R)) F.length) (nuf R) Y
        · rw [if_pos hv, if_pos hv.symm]
        · rw [if_neg hv, if_neg (fun q => hv q.symm), Nat.mul_zero]
      | false =>
        rw [hb] at e3
        simpa [lA, lS, lX, lD, lG] using e3
    · simp only [lK, List.mem_singleton, exists_eq_left]
      cases c.2.2.2 <;> simp
    · simp only [lK, List.mem_singleton, exists_eq_left]
      cases c.2.2.2 <;> simp
  · rw [if_neg (fun q => hend (by rw [nz_inj (by omega) (by omega)] at q; omega))]
    by_cases h60 : n = 60
    · rw [if_pos (by rw [h60]; rfl), wI_e]
      have el : stH C (clf F (fv F (nuf R)) F.length) (nuf R) Y c n = [(2, n, c.2.2.1, 0, 0)] := by unfold stH; rw [if_neg hend, if_pos h60]
      have es : stS C (clf F (fv F (nuf R)) F.length) (nuf R) cs c n w m = [] := by unfold stS; rw [if_neg hend, if_pos h60]
      rw [el, es]
      have E1 : fEn σ2 (stI σ2 74 18 1) := fEn_I (by omega)
      refine ⟨_, N, true, wd, rfl, fSe_E ((fEn_R FR).tr E1), rfl, cLy_E hA.b cLA E1, ?_, ?_, ?_, ?_, by simp⟩
      · simpa [gI] using cnt2
      · simpa [lA, lS, lX, lD, lG] using cRs_I18 rs2
      · simp [lK]
      · simp [lK]
    · rw [if_neg (by rw [show (60 : Int32) = nz 60 from rfl, nz_inj (by omega) (by omega)]; exact h60), ck_n (show jp C c.1 < 96 by omega) (by omega), nz_tn (by omega)]
      obtain ⟨q, q1, q2⟩ := Q2.code (p := jp C c.1) (by omega)
      rw [show σ2.1 (o + 5) (jp C c.1) = (cdA C (jp C c.1)).1 from q2.1]
      by_cases hk1 : (cdA C (jp C c.1)).1 = 1
      · rw [if_pos hk1, k3.2.1]
        simp only
        by_cases h7 : c.2.2.1 = 7
        · rw [if_pos (by rw [h7]; rfl), wI_e]
          have el : stH C (clf F (fv F (nuf R)) F.length) (nuf R) Y c n = [(3, n, c.2.2.1, 0, 0)] := by unfold stH; rw [if_neg hend, if_neg h60, if_pos hk1, if_pos h7]
          have es : stS C (clf F (fv F (nuf R)) F.length) (nuf R) cs c n w m = [] := by unfold stS; rw [if_neg hend, if_neg h60, if_pos hk1, if_pos h7]
          rw [el, es]
          have E1 : fEn σ2 (stI σ2 74 19 1) := fEn_I (by omega)
          refine ⟨_, N, lg, true, rfl, fSe_E ((fEn_R FR).tr E1), rfl, cLy_E hA.b cLA E1, ?_, ?_, ?_, ?_, by simp⟩
          · simpa [gI] using cnt2
          · simpa [lA, lS, lX, lD, lG] using cRs_I19 rs2
          · simp [lK]
          · simp [lK]
        · have el : stH C (clf F (fv F (nuf R)) F.length) (nuf R) Y c n = [] := by unfold stH; rw [if_neg hend, if_neg h60, if_pos hk1, if_neg h7]
          have es : stS C (clf F (fv F (nuf R)) F.length) (nuf R) cs c n w m = dsu C (jp C c.1) c.2.1 c.2.2.1 c.2.2.2 w m := by unfold stS; rw [if_neg hend, if_neg h60, if_pos hk1, if_neg h7]
          have h7' := x5.2.1
          rw [if_neg (by rw [show (7 : Int32) = nz 7 from rfl, nz_inj (by omega) (by omega)]; exact h7), d1]
          show ∃ σ' N' lg' wd', (ck (decide (cpLa wa = (4, 8192))) _) = _ ∧ _
          rw [ck_d l2, ck_n x1 (by omega), d2]
          show ∃ σ' N' lg' wd', (ck (decide (cpLa ma = (2, 8192))) _) = _ ∧ _
          rw [ck_d l3, ck_n x1 (by omega), ew, em]
          obtain ⟨σ3, N3, e1, e2, e3, e4, e5, e6⟩ := cDrawn (w := w) (m := m) hA.b Q2 (by omega) hk1 (by omega) k3 hN2 cLA cnt2 hl
          rw [e1, bd_s, el, es]
          refine ⟨σ3, N3, lg, wd, rfl, fSe_S ((fSt_R FR).tr e3), e2, e5, e6, ?_, by simp [lK], by simp [lK], ?_⟩
          · simpa [lA, lS, lX, lD, lG] using cRs_S hA.b rs2 e3
          · intro e hee
            unfold dsu at hee
            obtain ⟨j, -, hj⟩ := List.mem_flatMap.mp hee
            split at hj
            · cases hj
            · rw [List.mem_singleton] at hj; rw [hj]; simp only; omega
      · rw [if_neg hk1]
        have el : stH C (clf F (fv F (nuf R)) F.length) (nuf R) Y c n = [] := by unfold stH; rw [if_neg hend, if_neg h60, if_neg hk1]
        have es : stS C (clf F (fv F (nuf R)) F.length) (nuf R) cs c n w m = [(act C (clf F (fv F (nuf R)) F.length) (nuf R) cs (jp C c.1) c.2.1 c.2.2.1 c.2.2.2, w, m)] := by unfold stS; rw [if_neg hend, if_neg h60, if_neg hk1]
        obtain ⟨σ3, e1, e2, e3, e4⟩ := cAct Q2 k3 (by omega) hk1 (j2 (by omega)) hch2
        have FR3 := FR.tr e2
        rw [e1, bd_s, show σ3.2.2 74 1 = some wa by rw [e2.1]; exact d1]
        show ∃ σ' N' lg' wd', (ck (decide (cpLa wa = (4, 8192))) _) = _ ∧ _
        rw [ck_d l2, ck_n x1 (by omega), show σ3.2.2 74 2 = some ma by rw [e2.1]; exact d2]
        show ∃ σ' N' lg' wd', (ck (decide (cpLa ma = (2, 8192))) _) = _ ∧ _
        have ew3 : σ3.2.1 wa s = nl w := by rw [e2.1]; exact ew
        have em3 : σ3.1 ma s = nz m := by
          rw [← em]
          rcases hA.a with ⟨rfl, rfl, rfl, rfl⟩ | ⟨rfl, rfl, rfl, rfl⟩ <;> exact e2.2 _ _ (by decide) (by decide) (by omega)
        rw [ck_d l3, ck_n x1 (by omega), ew3, em3]
        have hd7 : (act C (clf F (fv F (nuf R)) F.length) (nuf R) cs (jp C c.1) c.2.1 c.2.2.1 c.2.2.2).2.2.1 = c.2.2.1 := by
          unfold act
          split
          · rfl
          split
          · rfl
          split
          · rfl
          · rfl
        obtain ⟨σ4, N4, f1, f2, f3, f4, f5⟩ := cKeep (w := w) (m := m) hA.b (cNx_f hN2 (by rw [e2.1])) (cLy_R hA.b cLA e2) (by omega) (by rw [← cnt2]; exact e2.2 _ _ (by decide) (by decide) (by omega)) e3 ⟨by omega, by rw [hd7]; exact x5.2.1, e3.2.2.2.1⟩
        rw [f1, bd_s, el, es]
        refine ⟨σ4, N4, lg, wd, rfl, fSe_S ((fSt_R FR3).tr (fSt_K f5)), ⟨N4, f2, rfl⟩, f3, f4, ?_, by simp [lK], by simp [lK], ?_⟩
        · simpa [lA, lS, lX, lD, lG] using cRs_S hA.b rs2 ((fSt_R e2).tr (fSt_K f5))
        · intro e hee
          rw [List.mem_singleton] at hee
          rw [hee]; exact e4
end
