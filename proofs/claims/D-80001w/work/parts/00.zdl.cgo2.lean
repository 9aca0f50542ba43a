set_option maxRecDepth 100000
/-- where all runs begin -/
def rt0 : Cfg := (0, [0, 0, 0, 0, 0, 0], 0, true)
theorem rt0_ok : vOk rt0.2.1 := ⟨rfl, fun x hx => ⟨0, by omega, by
  simp only [rt0, List.mem_cons, List.not_mem_nil, or_false, or_self] at hx
  exact hx⟩⟩
theorem cStart2 : ∀ (m t f : Nat) (σ : cS), 6 - t = m → m < f → t ≤ 6 → (∀ a, a < t → σ.1 83 a = 0) → ∃ σ', fX6_start_2 f (nz t) σ = some ((), σ') ∧ fRu σ σ' ∧ cRu σ' rt0 := by
  intro m
  induction m with
  | zero =>
    intro t f σ hm hf ht hz
    obtain ⟨f, rfl⟩ : ∃ e, f = e + 1 := ⟨f - 1, by omega⟩
    unfold fX6_start_2
    rw [show (6 : Int32) = nz 6 from rfl, if_pos (by rw [nz_le (by omega) (by omega)]; omega), wI_e, wI_e, wI_e]
    refine ⟨_, rfl, ((fRu_I (by omega)).tr (fRu_I (by omega))).tr (fRu_I (by omega)), by simp [gI]; rfl, by simp [gI]; rfl, by simp [gI]; rfl, rt0_ok, fun a ha => ?_⟩
    have : vof rt0.2.1 a = 0 := by
      have : a = 0 ∨ a = 1 ∨ a = 2 ∨ a = 3 ∨ a = 4 ∨ a = 5 := by omega
      rcases this with q | q | q | q | q | q <;> rw [q] <;> rfl
    rw [this]
    simpa [gI] using hz a (by omega)
  | succ m ih =>
    intro t f σ hm hf ht hz
    obtain ⟨f, rfl⟩ : ∃ e, f = e + 1 := ⟨f - 1, by omega⟩
    obtain ⟨σ', i1, i2, i3⟩ := ih (t + 1) f (stI σ 83 t 0) (by omega) (by omega) (by omega) (fun a ha => by
      rw [gI, if_pos rfl]
      by_cases hat : a = t
      · rw [if_pos hat]
      · rw [if_neg hat]; exact hz a (by omega))
    refine ⟨σ', ?_, (fRu_I (by omega)).tr i2, i3⟩
    conv => lhs; unfold fX6_start_2
    rw [show (6 : Int32) = nz 6 from rfl, if_neg (by rw [nz_le (by omega) (by omega)]; omega), ck_n (show t < 6 by omega) (by omega), nz_tn (by omega), wI_e, nz_s]
    exact i1
theorem cStart (σ : cS) : ∃ σ', fX6_start σ = some ((), σ') ∧ fRu σ σ' ∧ cRu σ' rt0 := cStart2 6 0 FU σ (by omega) (by unfold FU; omega) (by omega) (fun a ha => by omega)
section
variable {o : Nat} {C : List Cd} {ch : List Int32} {Y : List Sy} {F : List Fn} {R : List Int32} {cs : Nat → Int32}
/-- what the results' clearing changes -/
def f86 (σ σ' : cS) : Prop := σ'.2.2 = σ.2.2 ∧ σ'.1 = σ.1 ∧ ∀ o j, o ≠ 86 → σ'.2.1 o j = σ.2.1 o j
theorem cGo2 : ∀ (m t f : Nat) (σ : cS), 100 - t = m → m < f → t ≤ 100 → (∀ a, a < t → σ.2.1 86 a = 0) → ∃ σ' f', fX6_go_2 o f (nz t) σ = fX6_go_2 o (f' + 1) (nz 100) σ' ∧ f86 σ σ' ∧ ∀ a, a < 100 → σ'.2.1 86 a = 0 := by
  intro m
  induction m with
  | zero =>
    intro t f σ hm hf ht hz
    obtain ⟨f, rfl⟩ : ∃ e, f = e + 1 := ⟨f - 1, by omega⟩
    have : t = 100 := by omega
    subst this
    exact ⟨σ, f, rfl, ⟨rfl, rfl, fun _ _ _ => rfl⟩, hz⟩
  | succ m ih =>
    intro t f σ hm hf ht hz
    obtain ⟨f, rfl⟩ : ∃ e, f = e + 1 := ⟨f - 1, by omega⟩
    obtain ⟨σ', f', i1, i2, i3⟩ := ih (t + 1) f (stL σ 86 t 0) (by omega) (by omega) (by omega) (fun a ha => by
      rw [gL, if_pos rfl]
      by_cases hat : a = t
      · rw [if_pos hat]
      · rw [if_neg hat]; exact hz a (by omega))
    refine ⟨σ', f', ?_, ⟨i2.1, i2.2.1, fun o j ho => by rw [i2.2.2 o j ho, gL, if_neg ho]⟩, i3⟩
    conv => lhs; unfold fX6_go_2
    rw [show (100 : Int32) = nz 100 from rfl, if_neg (by rw [nz_le (by omega) (by omega)]; omega), ck_n (show t < 100 by omega) (by omega), nz_tn (by omega), nz_s]
    exact i1
/-- ALL RUNS of the component -/
theorem cGo {σ : cS} (h : cQn σ o C ch Y F R) (hch : cCh σ cs) (hy : cRy σ) :
    ∃ σ' lg wd, fX6_go o σ = some (ans lg wd, σ') ∧ fGo σ σ' ∧ cRy σ' ∧ cDn σ' (lvs C (clf F (fv F (nuf R)) F.length) (nuf R) cs Y 61 rt0 0) lg wd := by
  obtain ⟨ka, wa, ma, pa, kb, wb, mb, pb, hA, hC, hN, hLa, hLb, h4, h9⟩ := hy
  obtain ⟨σ1, f1, a1, a2, a3⟩ := cGo2 (o := o) 100 0 FU σ (by omega) (by unfold FU; omega) (by omega) (fun a ha => by omega)
  have h74 : ma ≠ 74 ∧ pa ≠ 74 ∧ mb ≠ 74 ∧ pb ≠ 74 := by rcases hA with ⟨rfl, rfl, rfl, rfl, rfl, rfl, rfl, rfl⟩ | ⟨rfl, rfl, rfl, rfl, rfl, rfl, rfl, rfl⟩ <;> decide
  have h86 : ka ≠ 86 ∧ wa ≠ 86 ∧ kb ≠ 86 ∧ wb ≠ 86 := by rcases hA with ⟨rfl, rfl, rfl, rfl, rfl, rfl, rfl, rfl⟩ | ⟨rfl, rfl, rfl, rfl, rfl, rfl, rfl, rfl⟩ <;> decide
  have he : fX6_go o σ = fX6_go_2 o (f1 + 1) (nz 100) σ1 := by
    unfold fX6_go
    rw [h.1.1, ck_t (by decide)]
    exact a1
  rw [he]
  conv => arg 1; ext σ'; arg 1; ext lg; arg 1; ext wd; arg 1; lhs; unfold fX6_go_2
  rw [show (100 : Int32) = nz 100 from rfl, if_pos (by rw [nz_le (by omega) (by omega)]; omega), wI_e, wI_e, wI_e, wI_e, wI_e, wI_e]
  have G1 : fGo σ (stI (stI (stI (stI (stI (stI σ1 74 14 0) 74 15 0) 74 16 0) 74 17 0) 74 18 0) 74 19 0) := by
    refine ⟨fun o j _ => by show σ1.2.2 o j = _; rw [a2.1], fun o j ho => a2.2.2 o j (by omega), fun o j ho => ?_⟩
    have : o ≠ 74 := by omega
    simp only [gI, if_neg this]
    rw [a2.2.1]
  have R1 : cRs (stI (stI (stI (stI (stI (stI σ1 74 14 0) 74 15 0) 74 16 0) 74 17 0) 74 18 0) 74 19 0) 0 0 0 0 false false (fun _ => 0) := by
    refine ⟨by simp [gI]; rfl, by simp [gI]; rfl, by simp [gI]; rfl, by simp [gI]; rfl, by simp [gI]; rfl, by simp [gI]; rfl, by omega, by omega, fun a ha => ?_⟩
    show σ1.2.1 86 a = _
    rw [a3 a ha]; rfl
  have hx : ∀ a b, ¬ (a = 74 ∧ 14 ≤ b ∧ b ≤ 19) → (stI (stI (stI (stI (stI (stI σ1 74 14 0) 74 15 0) 74 16 0) 74 17 0) 74 18 0) 74 19 0).1 a b = σ.1 a b := by
    intro a b hab
    rw [← a2.2.1]
    by_cases ha : a = 74
    · simp only [gI, if_pos ha, if_neg (show ¬ b = 14 by omega), if_neg (show ¬ b = 15 by omega), if_neg (show ¬ b = 16 by omega), if_neg (show ¬ b = 17 by omega), if_neg (show ¬ b = 18 by omega), if_neg (show ¬ b = 19 by omega)]
    · simp only [gI, if_neg ha]
  have hx2 : ∀ a b, a ≠ 86 → (stI (stI (stI (stI (stI (stI σ1 74 14 0) 74 15 0) 74 16 0) 74 17 0) 74 18 0) 74 19 0).2.1 a b = σ.2.1 a b := fun a b ha => a2.2.2 a b ha
  have hx3 : (stI (stI (stI (stI (stI (stI σ1 74 14 0) 74 15 0) 74 16 0) 74 17 0) 74 18 0) 74 19 0).2.2 = σ.2.2 := a2.1
  generalize stI (stI (stI (stI (stI (stI σ1 74 14 0) 74 15 0) 74 16 0) 74 17 0) 74 18 0) 74 19 0 = σ2 at G1 R1 hx hx2 hx3 ⊢
  clear a1 a2 a3 he
  have hC2 := cCu_f hC hx3
  have hN2 := cNx_f hN hx3
  have hLa2 : cLy σ2 ka wa ma pa [] := cLy_f hLa (fun j => hx2 _ _ h86.1) (fun j => hx2 _ _ h86.2.1) (fun j => hx _ _ (by omega)) (fun j => hx _ _ (by omega))
  have hLb2 : cLy σ2 kb wb mb pb [] := cLy_f hLb (fun j => hx2 _ _ h86.2.2.1) (fun j => hx2 _ _ h86.2.2.2) (fun j => hx _ _ (by omega)) (fun j => hx _ _ (by omega))
  have h42 : σ2.1 74 4 = nz 0 := by rw [hx _ _ (by omega)]; exact h4
  have h92 : σ2.1 74 9 = nz 0 := by rw [hx _ _ (by omega)]; exact h9
  obtain ⟨σ3, b1, b2, b3⟩ := cStart σ2
  rw [b1, bd_s]
  obtain ⟨σ4, N, c1, c2, c3, c4, c5⟩ := cKeep (w := 1) (m := 1) hA.b (cNx_f hN2 (by rw [b2.1])) (cLy_R hA.b hLb2 b2) (by simp) (show σ3.1 74 9 = nz ([] : List En).length by rw [b2.2 _ _ (by decide) (by decide) (by omega)]; exact h92) b3 ⟨by simp only [rt0]; omega, by simp only [rt0]; omega, rt0_ok⟩
  have c1' : fX6_keep 1 1 σ3 = some ((), σ4) := c1
  rw [c1', bd_s]
  have S4 : fSe kb wb mb pb σ2 σ4 := fSe_S ((fSt_R b2).tr (fSt_K c5))
  have G4 := fGo_S hA.b S4
  have h44 : σ4.1 74 4 = nz ([] : List En).length := by
    rw [show nz ([] : List En).length = nz 0 from rfl, ← h42]
    rcases hA.b with ⟨rfl, rfl, rfl, rfl⟩ | ⟨rfl, rfl, rfl, rfl⟩ <;> exact S4.2.2 _ _ (by decide) (by decide) (by decide) (by decide) (by omega)
  obtain ⟨σ5, d1, d2, d3, d4, d5, d6, d7, d8⟩ := cTurn hA (cCu_f hC2 S4.1) (cNx_f hN2 S4.1) (cLy_Se hA hLa2 S4) c3 h44 (by simp) c4
  rw [d1, bd_s]
  obtain ⟨s, hNs⟩ : ∃ s, N = [(s, rt0, 1, 1)] := by
    rcases c2 with ⟨A, B, s, w0, m0, q, -⟩ | ⟨s, q⟩
    · exact absurd q (by simp)
    · exact ⟨s, q⟩
  have G5 := (G1.tr G4).tr (fGo_T d2)
  have R5 : cRs σ5 0 0 0 0 false false (fun _ => 0) := cRs_T (cRs_S hA.b R1 ((fSt_R b2).tr (fSt_K c5))) d2
  obtain ⟨σ', lg, wd, e1, e2, e3, e4⟩ := cGo67 (o := o) (C := C) (ch := ch) (Y := Y) (F := F) (R := R) (cs := cs) (Λ := lvs C (clf F (fv F (nuf R)) F.length) (nuf R) cs Y 61 rt0 0) 60 0 FU _ _ _ _ _ _ _ _ σ5 N 0 0 0 0 false false (fun _ => 0) hA.s (by omega) (by unfold FU; omega) (cQn_Q h G5.q) (cCh_G hch G5) d3 d4 d5 d6 d7 d8 (by
      intro e he
      rw [hNs, List.mem_singleton] at he
      rw [he]; simp only [rt0]; omega) (by
      intro e he
      rw [hNs, List.mem_singleton] at he
      rw [he]; simp only; omega) R5 (by
      rw [hNs, show (61 : Nat) = 60 + 1 from rfl]
      refine ⟨?_, ?_, ?_, ?_, ?_, ?_, fun a ha => ?_, ?_⟩
      · simp only [sM]; omega
      · simp only [sM]; omega
      · simp only [mX]; omega
      · simp only [mX]; omega
      · rw [aP_nil, aP_cons, aP_nil]; simp
      · rw [aP_nil, aP_cons, aP_nil]; simp
      · simp only [sW]; omega
      · simp only [sM, g3, rt0]; omega)
  exact ⟨σ', lg, wd, e1, G5.tr e2, e3, e4⟩
end
