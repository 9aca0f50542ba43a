set_option maxRecDepth 100000
theorem wA_e {β : Type} {σ : cS} {o : Nat} {f : Nat → Int32} {k : cS → Option β} : wA σ o f k = k (stA σ o f) := rfl
theorem wB_e {β : Type} {σ : cS} {o : Nat} {f : Nat → Int64} {k : cS → Option β} : wB σ o f k = k (stB σ o f) := rfl
theorem wR_e {β : Type} {σ : cS} {o j : Nat} {v : Option Nat} {k : cS → Option β} : wR σ o j v k = k (stR σ o j v) := rfl
theorem wL_e {β : Type} {σ : cS} {o j : Nat} {v : Int64} {k : cS → Option β} : wL σ o j v k = k (stL σ o j v) := rfl
theorem cpz {α : Type} (f g : Nat → α) (n j : Nat) : va_cpy f g (0 : Int32).toNatClampNeg (0 : Int32).toNatClampNeg n j = if j < n then f j else g j := by
  rw [show (0 : Int32).toNatClampNeg = 0 from rfl]
  by_cases h : j < n
  · rw [if_pos h, pk_cpy_in (by omega) (by omega)]; congr 1; omega
  · rw [if_neg h, pk_cpy_out (by omega)]
/-! ===== THE COMPONENT: a sampler draws ===== -/
section
variable {b : Nat} {C : List Cd} {ch : List Int32} {Y : List Sy} {F : List Fn} {R : List Int32} {cs : Nat → Int32}
theorem act_d (cl : Int32 → Int32 → Int32) (nu : Int32 → Int32) (p : Nat) (v : List Int32) (d : Nat) (ok : Bool) : act C cl nu cs p v d ok = ((act C cl nu cs p v 0 ok).1, (act C cl nu cs p v 0 ok).2.1, d, (act C cl nu cs p v 0 ok).2.2.2) := by
  unfold act
  split
  · rfl
  split
  · rfl
  split
  · rfl
  · rfl
/-- what a sampler's run changes -/
def fSa (b : Nat) (σ σ' : cS) : Prop := σ'.2 = σ.2 ∧ ∀ o j, o ≠ 83 → o ≠ 84 → ¬ (o = 74 ∧ 20 ≤ j ∧ j ≤ 22) → ¬ (o = b ∧ j = 4) → σ'.1 o j = σ.1 o j
theorem fSa.tr {b : Nat} {σ σ1 σ2 : cS} (h : fSa b σ σ1) (h' : fSa b σ1 σ2) : fSa b σ σ2 := ⟨h'.1.trans h.1, fun o j e1 e2 e3 e4 => (h'.2 o j e1 e2 e3 e4).trans (h.2 o j e1 e2 e3 e4)⟩
theorem fSa_R {σ σ' : cS} (h : fRu σ σ') : fSa b σ σ' := ⟨h.1, fun o j e1 e2 e3 _ => h.2 o j e1 e2 e3⟩
theorem fSa_s {σ : cS} {v : Int32} : fSa b σ (stI σ b 4 v) := ⟨rfl, fun o j _ _ _ e => by
  rw [gI]
  by_cases ho : o = b
  · rw [if_pos ho, if_neg (fun z => e ⟨ho, z⟩)]
  · rw [if_neg ho]⟩
theorem cQn_s {o : Nat} {σ σ' : cS} (hb : b < 74 ∨ 86 < b) (hbo : b < o) (h : cQn σ o C ch Y F R) (hf : fSa b σ σ') : cQn σ' o C ch Y F R := by
  obtain ⟨⟨a1, a2, a3, a4⟩, ⟨b1, b2, b3⟩, ⟨c1, c2, c3, c4⟩, ⟨d1, d2, d3, d4, d5⟩, e1, e2, e3, e4⟩ := h
  have e : ∀ x y, x ≤ 50 → σ'.1 (o + x) y = σ.1 (o + x) y := fun x y hx => hf.2 _ _ (by omega) (by omega) (by omega) (by omega)
  have ecd : ∀ (C : List Cd) {k p : Nat}, cCd σ (o + 1) k p C → cCd σ' (o + 1) k p C := by
    have epa : ∀ {t p : Nat} {E : List Pt}, t + 3 ≤ o + 50 → o ≤ t → cPA σ t p E → cPA σ' t p E := fun {t p E} ht1 ht2 h k e hk => by
      obtain ⟨a, b, c⟩ := h k e hk
      have : ∀ x y, x ≤ 3 → σ'.1 (t + x) y = σ.1 (t + x) y := fun x y hx => hf.2 _ _ (by omega) (by omega) (by omega) (by omega)
      exact ⟨by rw [this _ _ (by omega)]; exact a, by rw [this _ _ (by omega)]; exact b, by rw [this _ _ (by omega)]; exact c⟩
    intro C
    induction C with
    | nil => intro k p _; trivial
    | cons c C ih =>
      intro k p h
      obtain ⟨⟨h1, h2, h3, h4, h5, h6⟩, h7⟩ := h
      have e' : ∀ x y, x ≤ 9 → σ'.1 (o + 1 + x) y = σ.1 (o + 1 + x) y := fun x y hx => hf.2 _ _ (by omega) (by omega) (by omega) (by omega)
      refine ⟨⟨by rw [e' _ _ (by omega)]; exact h1, by rw [e' _ _ (by omega)]; exact h2, fun q => ?_, fun q => ?_, fun q => ?_, fun q => ?_⟩, ih h7⟩
      · obtain ⟨a, b, d⟩ := h3 q
        exact ⟨by rw [e' _ _ (by omega)]; exact a, by rw [e' _ _ (by omega)]; exact b, epa (by omega) (by omega) d⟩
      · obtain ⟨a, b⟩ := h4 q
        exact ⟨by rw [e' _ _ (by omega)]; exact a, by rw [e' _ _ (by omega)]; exact b⟩
      · rw [e' _ _ (by omega)]; exact h5 q
      · rw [e' _ _ (by omega)]; exact h6 q
  have epa : cPA σ' (o + 16) 0 (bld 0 Y []).1 := fun k x hk => by
    obtain ⟨a, b, c⟩ := c4 k x hk
    have : ∀ x y, x ≤ 3 → σ'.1 (o + 16 + x) y = σ.1 (o + 16 + x) y := fun x y hx => hf.2 _ _ (by omega) (by omega) (by omega) (by omega)
    exact ⟨by rw [this _ _ (by omega)]; exact a, by rw [this _ _ (by omega)]; exact b, by rw [this _ _ (by omega)]; exact c⟩
  refine ⟨⟨a1, a2, a3, a4⟩, ⟨by rw [e _ _ (by omega)]; exact b1, b2, ecd C b3⟩, ⟨by rw [e _ _ (by omega)]; exact c1, c2, c3, epa⟩, ⟨by rw [e _ _ (by omega)]; exact d1, d2, d3, fun j hj => ?_, fun j x hj hx => ?_⟩, ?_, e2, e3, fun j hj => ?_⟩
  · rw [show o + 31 + 10 = o + 41 by omega, e _ _ (by omega)]; exact d4 j hj
  · rw [e _ _ (by omega)]; exact d5 j x hj hx
  · have := e 0 8 (by omega)
    rw [Nat.add_zero] at this
    rw [this]; exact e1
  · rw [e _ _ (by omega)]; exact e4 j hj
theorem cSam (hb : b < 74 ∨ 86 < b) : ∀ (k : Nat) (c : Cfg) (n w : Nat) (g : Int32) (H : Hs) (σ : cS) (f : Nat), 1 ≤ k → k + n = 61 → k < f → c.1 ≤ C.length → cQn σ (b + 1) C ch Y F R → cCh σ cs → cRu σ (jp C c.1, c.2.1, 0, c.2.2.2) → σ.1 b 4 = g → (ru C (clf F (fv F (nuf R)) F.length) (nuf R) cs orG k c n w g H).1.1 ≤ 1 →
    ∃ σ', fX6_drawn_34 b f σ = some (if (ru C (clf F (fv F (nuf R)) F.length) (nuf R) cs orG k c n w g H).1.2.2.1.2.2.2 = true then val (vof (ru C (clf F (fv F (nuf R)) F.length) (nuf R) cs orG k c n w g H).1.2.2.1.2.1) (clf F (fv F (nuf R)) F.length) (nuf R) Y else -2, σ') ∧ fSa b σ σ' ∧ σ'.1 b 4 = (ru C (clf F (fv F (nuf R)) F.length) (nuf R) cs orG k c n w g H).2 := by
  intro k
  induction k with
  | zero => intro c n w g H σ f h; omega
  | succ k ih =>
    intro c n w g H σ f _ hk hf hpc h hch hr hg hkd
    obtain ⟨f, rfl⟩ : ∃ e, f = e + 1 := ⟨f - 1, by omega⟩
    have hCl := h.2.1.2.1.1
    have hJ := h.2.1.2.1.2.2.2.1
    obtain ⟨j1, j2⟩ := jp_le hJ hCl hpc
    have hr' := hr
    obtain ⟨r1, r2, r3, r4, r5⟩ := hr
    simp only at r1 r2 r3 r4 r5
    have h9 : σ.1 (b + 2) 9 = nz C.length := h.2.1.1
    by_cases hend : C.length ≤ jp C c.1
    · have er : ru C (clf F (fv F (nuf R)) F.length) (nuf R) cs orG (k + 1) c n w g H = ((if c.2.2.2 = true then 0 else 1, n, c, w, H), g) := by
        show (if _ then _ else _ : Rn × Int32) = _
        rw [if_pos hend]
      rw [er]
      simp only
      conv => arg 1; ext σ'; arg 1; lhs; unfold fX6_drawn_34
      rw [h9, r1, if_pos (by rw [nz_le (by omega) (by omega)]; exact hend), r3]
      cases hok : c.2.2.2 with
      | false => exact ⟨σ, rfl, ⟨rfl, fun _ _ _ _ _ _ => rfl⟩, hg⟩
      | true =>
        rw [show bi true = 1 from rfl, if_neg (by decide)]
        obtain ⟨σ', a1, a2⟩ := cAsk (c := (jp C c.1, c.2.1, 0, true)) h ⟨r1, r2, by rw [r3, hok], r4, r5⟩
        rw [a1, bd_s]
        exact ⟨σ', rfl, fSa_R (fRu_84 a2), by rw [a2.2 b 4 (by omega)]; exact hg⟩
    · have hpl : jp C c.1 < C.length := by omega
      obtain ⟨q, q1, q2⟩ := h.code hpl
      conv => arg 1; ext σ'; arg 1; lhs; unfold fX6_drawn_34
      rw [h9, r1, if_neg (by rw [nz_le (by omega) (by omega)]; exact hend), ck_n (show jp C c.1 < 96 by omega) (by omega), nz_tn (by omega), show σ.1 (b + 6) (jp C c.1) = (cdA C (jp C c.1)).1 from q2.1]
      by_cases h60 : n = 60
      · have er : ru C (clf F (fv F (nuf R)) F.length) (nuf R) cs orG (k + 1) c n w g H = ((2, n, c, w, H), g) := by
          show (if _ then _ else _ : Rn × Int32) = _
          rw [if_neg hend, if_pos h60]
        rw [er] at hkd
        simp only at hkd
        omega
      · by_cases hk1 : (cdA C (jp C c.1)).1 = 1
        · by_cases h7 : c.2.2.1 = 7
          · have er : ru C (clf F (fv F (nuf R)) F.length) (nuf R) cs orG (k + 1) c n w g H = ((3, n, c, w, H), g) := by
              show (if _ then _ else _ : Rn × Int32) = _
              rw [if_neg hend, if_neg h60, if_pos hk1, if_pos h7]
            rw [er] at hkd
            simp only at hkd
            omega
          · have er : ru C (clf F (fv F (nuf R)) F.length) (nuf R) cs orG (k + 1) c n w g H = ru C (clf F (fv F (nuf R)) F.length) (nuf R) cs orG k (jp C c.1 + 1, c.2.1.set (cdA C (jp C c.1)).2.1.toNatClampNeg (nz (orG g (cdA C (jp C c.1))).1), c.2.2.1 + 1, c.2.2.2) (n + 1) (w * dw (cdA C (jp C c.1)) (orG g (cdA C (jp C c.1))).1) (nxg g) (((orG g (cdA C (jp C c.1))).1, jp C c.1) :: H) := by
              show (if _ then _ else _ : Rn × Int32) = _
              rw [if_neg hend, if_neg h60, if_pos hk1, if_neg h7]
              rfl
            rw [er] at hkd ⊢
            have hcv := h.2.1.2.1.2.2.1 _ (cdA_mem hpl)
            have hcw := h.2.1.2.1.2.2.2.2.2.1 _ (cdA_mem hpl)
            obtain ⟨s1, s2, s3, s4⟩ := dw_16 hcv hcw hk1
            obtain ⟨vx, hvx, evx⟩ : vV (cdA C (jp C c.1)).2.1 := by
              rcases hcv with ⟨z, -⟩ | ⟨-, a, -⟩ | ⟨z, -⟩ | ⟨z, -⟩ | ⟨z, -⟩ | ⟨z, -⟩
              · rw [z] at hk1; exact absurd hk1 (by decide)
              · exact a
              · rw [z] at hk1; exact absurd hk1 (by decide)
              · rw [z] at hk1; exact absurd hk1 (by decide)
              · rw [z] at hk1; exact absurd hk1 (by decide)
              · rw [z] at hk1; exact absurd hk1 (by decide)
            obtain ⟨w1, w2⟩ := q2.2.2.2.1 hk1
            have w7 : σ.1 (b + 7) (jp C c.1) = nz vx := q2.2.1.trans evx
            have w8 : σ.1 (b + 8) (jp C c.1) = nz (dw (cdA C (jp C c.1)) 0) := w1.trans s2
            have w9 : σ.1 (b + 9) (jp C c.1) = nz (dw (cdA C (jp C c.1)) 1) := w2.trans s3
            obtain ⟨v1, v2⟩ := rvg_e g
            rw [if_pos hk1, wI_e, hg]
            have E1 : fSa b σ (stI σ b 4 (g * 1103515245 + 12345)) := fSa_s
            have ke : ∀ x j, x ≠ b → (stI σ b 4 (g * 1103515245 + 12345)).1 x j = σ.1 x j := fun x j hx => by rw [gI, if_neg hx]
            have e4 : (stI σ b 4 (g * 1103515245 + 12345)).1 b 4 = nxg g := by rw [gI, if_pos rfl, if_pos rfl]; rfl
            have hb74 : (74 : Nat) ≠ b ∧ (83 : Nat) ≠ b ∧ (85 : Nat) ≠ b := by omega
            have Q1 := cQn_s hb (by omega) h E1
            rw [e4, v1, ke 74 20 hb74.1, r1, ck_n (show jp C c.1 < 96 by omega) (by omega), ck_n (show jp C c.1 < 96 by omega) (by omega), nz_tn (by omega), ke (b + 8) _ (by omega), ke (b + 9) _ (by omega), ke (b + 7) _ (by omega), w7, w8, w9, nz_add]
            -- the rest of the step
            have fin : ∀ j, j = (orG g (cdA C (jp C c.1))).1 → j < 3 → ∃ σ', fX6_drawn_142 b (fX6_drawn_34 b f) (nz j) (nz vx) (stI σ b 4 (g * 1103515245 + 12345)) = some (if (ru C (clf F (fv F (nuf R)) F.length) (nuf R) cs orG k (jp C c.1 + 1, c.2.1.set (cdA C (jp C c.1)).2.1.toNatClampNeg (nz (orG g (cdA C (jp C c.1))).1), c.2.2.1 + 1, c.2.2.2) (n + 1) (w * dw (cdA C (jp C c.1)) (orG g (cdA C (jp C c.1))).1) (nxg g) (((orG g (cdA C (jp C c.1))).1, jp C c.1) :: H)).1.2.2.1.2.2.2 = true then val (vof (ru C (clf F (fv F (nuf R)) F.length) (nuf R) cs orG k (jp C c.1 + 1, c.2.1.set (cdA C (jp C c.1)).2.1.toNatClampNeg (nz (orG g (cdA C (jp C c.1))).1), c.2.2.1 + 1, c.2.2.2) (n + 1) (w * dw (cdA C (jp C c.1)) (orG g (cdA C (jp C c.1))).1) (nxg g) (((orG g (cdA C (jp C c.1))).1, jp C c.1) :: H)).1.2.2.1.2.1) (clf F (fv F (nuf R)) F.length) (nuf R) Y else -2, σ') ∧ fSa b σ σ' ∧ σ'.1 b 4 = (ru C (clf F (fv F (nuf R)) F.length) (nuf R) cs orG k (jp C c.1 + 1, c.2.1.set (cdA C (jp C c.1)).2.1.toNatClampNeg (nz (orG g (cdA C (jp C c.1))).1), c.2.2.1 + 1, c.2.2.2) (n + 1) (w * dw (cdA C (jp C c.1)) (orG g (cdA C (jp C c.1))).1) (nxg g) (((orG g (cdA C (jp C c.1))).1, jp C c.1) :: H)).2 := by
              intro j hj hj3
              rw [← hj] at hkd ⊢
              unfold fX6_drawn_142
              have e20 : (stI (stI σ b 4 (g * 1103515245 + 12345)) 83 vx (nz j)).1 74 20 = nz (jp C c.1) := by rw [gI, if_neg (by decide), ke 74 20 hb74.1]; exact r1
              rw [ck_n hvx (by omega), nz_tn (by omega), wI_e, e20, nz_s, wI_e]
              have E2 : fSa b σ (stI (stI (stI σ b 4 (g * 1103515245 + 12345)) 83 vx (nz j)) 74 20 (nz (jp C c.1 + 1))) := E1.tr ((fSa_R (fRu_I (by omega))).tr (fSa_R (fRu_I (by omega))))
              have Q2 := cQn_s hb (by omega) h E2
              have R2 : cRu (stI (stI (stI σ b 4 (g * 1103515245 + 12345)) 83 vx (nz j)) 74 20 (nz (jp C c.1 + 1))) (jp C c.1 + 1, c.2.1.set (cdA C (jp C c.1)).2.1.toNatClampNeg (nz j), 0, c.2.2.2) := by
                refine ⟨by simp [gI], ?_, ?_, vOk_set r4 ⟨j, by omega, rfl⟩, fun a ha => ?_⟩
                · rw [gI, if_pos rfl, if_neg (by decide), gI, if_neg (by decide), ke 74 21 hb74.1]; exact r2
                · rw [gI, if_pos rfl, if_neg (by decide), gI, if_neg (by decide), ke 74 22 hb74.1]; exact r3
                · simp only
                  rw [evx, nz_tn (by omega), vset hvx r4.1, gI, if_neg (by decide), gI, if_pos rfl]
                  split
                  · rfl
                  · rw [ke 83 a hb74.2.1]; exact r5 a ha
              obtain ⟨σ3, m1, m2, m3⟩ := cJump Q2 R2 (by simp only; omega)
              simp only at m3
              rw [show fX6_jump (b + 2) (stI (stI (stI σ b 4 (g * 1103515245 + 12345)) 83 vx (nz j)) 74 20 (nz (jp C c.1 + 1))) = some ((), σ3) from m1, bd_s]
              have E3 := E2.tr (fSa_R (b := b) m2)
              obtain ⟨σ4, i1, i2, i3⟩ := ih (jp C c.1 + 1, c.2.1.set (cdA C (jp C c.1)).2.1.toNatClampNeg (nz j), c.2.2.1 + 1, c.2.2.2) (n + 1) (w * dw (cdA C (jp C c.1)) j) (nxg g) ((j, jp C c.1) :: H) σ3 f (by omega) (by omega) (by omega) (by simp only; omega) (cQn_s hb (by omega) h E3) (fun x hx => by
                obtain ⟨y1, y2⟩ := hch x hx
                exact ⟨by rw [E3.2 85 x (by decide) (by decide) (by omega) (by omega)]; exact y1, y2⟩) m3 (by
                rw [m2.2 b 4 (by omega) (by omega) (by omega), gI, if_neg (by omega), gI, if_neg (by omega)]; exact e4) hkd
              exact ⟨σ4, i1, E3.tr i2, i3⟩
            unfold orG at fin
            simp only at fin
            by_cases a : rvg g < dw (cdA C (jp C c.1)) 0
            · rw [if_neg (by rw [nz_le (by omega) (by omega)]; omega)]
              have hj : (0 : Nat) = (orG g (cdA C (jp C c.1))).1 := by unfold orG; simp only; rw [if_pos a]
              exact fin 0 hj (by omega)
            · rw [if_pos (by rw [nz_le (by omega) (by omega)]; omega), ck_n (show jp C c.1 < 96 by omega) (by omega), ck_n (show jp C c.1 < 96 by omega) (by omega)]
              by_cases b' : rvg g < dw (cdA C (jp C c.1)) 0 + dw (cdA C (jp C c.1)) 1
              · rw [if_neg (by rw [nz_le (by omega) (by omega)]; omega)]
                have hj : (1 : Nat) = (orG g (cdA C (jp C c.1))).1 := by unfold orG; simp only; rw [if_neg a, if_pos b']
                exact fin 1 hj (by omega)
              · rw [if_pos (by rw [nz_le (by omega) (by omega)]; omega)]
                have hj : (2 : Nat) = (orG g (cdA C (jp C c.1))).1 := by unfold orG; simp only; rw [if_neg a, if_neg b']
                exact fin 2 hj (by omega)
        · have er : ru C (clf F (fv F (nuf R)) F.length) (nuf R) cs orG (k + 1) c n w g H = ru C (clf F (fv F (nuf R)) F.length) (nuf R) cs orG k (act C (clf F (fv F (nuf R)) F.length) (nuf R) cs (jp C c.1) c.2.1 c.2.2.1 c.2.2.2) (n + 1) w g H := by
            show (if _ then _ else _ : Rn × Int32) = _
            rw [if_neg hend, if_neg h60, if_neg hk1]
          rw [er] at hkd ⊢
          rw [if_neg hk1]
          obtain ⟨σ2, a1, a2, a3, a4⟩ := cAct h hr' hpl hk1 (j2 hpl) hch
          rw [a1, bd_s]
          have E2 : fSa b σ σ2 := fSa_R a2
          have Q2 := cQn_s hb (by omega) h E2
          obtain ⟨σ3, m1, m2, m3⟩ := cJump Q2 a3 a4
          rw [show fX6_jump (b + 2) σ2 = some ((), σ3) from m1, bd_s]
          have E3 := E2.tr (fSa_R (b := b) m2)
          have ed := act_d (C := C) (cs := cs) (clf F (fv F (nuf R)) F.length) (nuf R) (jp C c.1) c.2.1 c.2.2.1 c.2.2.2
          have ed0 : (act C (clf F (fv F (nuf R)) F.length) (nuf R) cs (jp C c.1) c.2.1 0 c.2.2.2).2.2.1 = 0 := by
            rw [act_d]
          obtain ⟨σ4, i1, i2, i3⟩ := ih (act C (clf F (fv F (nuf R)) F.length) (nuf R) cs (jp C c.1) c.2.1 c.2.2.1 c.2.2.2) (n + 1) w g H σ3 f (by omega) (by omega) (by omega) (by rw [ed]; exact a4) (cQn_s hb (by omega) h E3) (fun x hx => by
            obtain ⟨y1, y2⟩ := hch x hx
            exact ⟨by rw [E3.2 85 x (by decide) (by decide) (by omega) (by omega)]; exact y1, y2⟩) (by
            rw [ed]
            simp only
            rw [ed0] at m3
            exact m3) (by rw [m2.2 b 4 (by omega) (by omega) (by omega), a2.2 b 4 (by omega) (by omega) (by omega)]; exact hg) hkd
          exact ⟨σ4, i1, E3.tr i2, i3⟩
/-- A SAMPLER of the component draws -/
theorem cDrw (hb : 86 < b) {σ : cS} {g : Int32} (hla : cpLa b = (1, 9)) (h : cQn σ (b + 1) C ch Y F R) (hcs : ∀ k, k < 3 → σ.1 (b + 49) k = cs k ∧ nV (cs k)) (hg : σ.1 b 4 = g) (h2 : ¬ lK 2 (lvs C (clf F (fv F (nuf R)) F.length) (nuf R) cs Y 61 rt0 0)) (h3 : ¬ lK 3 (lvs C (clf F (fv F (nuf R)) F.length) (nuf R) cs Y 61 rt0 0)) :
    ∃ σ', fX6_drawn b σ = some (if (ru C (clf F (fv F (nuf R)) F.length) (nuf R) cs orG 61 rt0 0 1 g []).1.2.2.1.2.2.2 = true then val (vof (ru C (clf F (fv F (nuf R)) F.length) (nuf R) cs orG 61 rt0 0 1 g []).1.2.2.1.2.1) (clf F (fv F (nuf R)) F.length) (nuf R) Y else -2, σ') ∧ (σ'.2 = σ.2 ∧ ∀ o j, o ≠ 83 → o ≠ 84 → o ≠ 85 → ¬ (o = 74 ∧ 20 ≤ j ∧ j ≤ 22) → ¬ (o = b ∧ j = 4) → σ'.1 o j = σ.1 o j) ∧ σ'.1 b 4 = (ru C (clf F (fv F (nuf R)) F.length) (nuf R) cs orG 61 rt0 0 1 g []).2 ∧ (∀ k, k < 3 → σ'.1 85 k = cs k) := by
  have hkd : (ru C (clf F (fv F (nuf R)) F.length) (nuf R) cs orG 61 rt0 0 1 g []).1.1 ≤ 1 := by
    obtain ⟨l, l1, l2⟩ := ru_leaf h.2.1.2.1 (clf F (fv F (nuf R)) F.length) (nuf R) cs Y 61 rt0 0 1 g [] (by omega) (by omega)
    have hb3 : (ru C (clf F (fv F (nuf R)) F.length) (nuf R) cs orG 61 rt0 0 1 g []).1.1 ≤ 3 := by
      have : ∀ (k : Nat) (c : Cfg) (n w : Nat) (g : Int32) (H : Hs), (ru C (clf F (fv F (nuf R)) F.length) (nuf R) cs orG k c n w g H).1.1 ≤ 3 := by
        intro k
        induction k with
        | zero => intro c n w g H; show 2 ≤ 3; omega
        | succ k ih =>
          intro c n w g H
          show (if _ then _ else _ : Rn × Int32).1.1 ≤ 3
          split
          · simp only; split <;> omega
          split
          · simp only; omega
          split
          · split
            · simp only; omega
            · exact ih _ _ _ _ _
          · exact ih _ _ _ _ _
      exact this _ _ _ _ _ _
    have n2 : (ru C (clf F (fv F (nuf R)) F.length) (nuf R) cs orG 61 rt0 0 1 g []).1.1 ≠ 2 := fun z => h2 ⟨l, l1, l2.trans z⟩
    have n3 : (ru C (clf F (fv F (nuf R)) F.length) (nuf R) cs orG 61 rt0 0 1 g []).1.1 ≠ 3 := fun z => h3 ⟨l, l1, l2.trans z⟩
    omega
  unfold fX6_drawn
  rw [ck_d hla, ck_t (by decide)]
  rw [wA_e]
  have kA : ∀ o j, o ≠ 85 → (stA σ 85 (va_cpy (σ.1 (b + 49)) (σ.1 85) (0 : Int32).toNatClampNeg (0 : Int32).toNatClampNeg (3 : Int32).toNatClampNeg)).1 o j = σ.1 o j := fun o j ho => by rw [gA, if_neg ho]
  have kB : ∀ k, k < 3 → (stA σ 85 (va_cpy (σ.1 (b + 49)) (σ.1 85) (0 : Int32).toNatClampNeg (0 : Int32).toNatClampNeg (3 : Int32).toNatClampNeg)).1 85 k = cs k := fun k hk => by
    rw [gA, if_pos rfl, cpz, if_pos (by rw [show (3 : Int32).toNatClampNeg = 3 from rfl]; exact hk)]; exact (hcs k hk).1
  have k2 : (stA σ 85 (va_cpy (σ.1 (b + 49)) (σ.1 85) (0 : Int32).toNatClampNeg (0 : Int32).toNatClampNeg (3 : Int32).toNatClampNeg)).2 = σ.2 := rfl
  generalize stA σ 85 (va_cpy (σ.1 (b + 49)) (σ.1 85) (0 : Int32).toNatClampNeg (0 : Int32).toNatClampNeg (3 : Int32).toNatClampNeg) = σ1 at kA kB k2 ⊢
  have Q1 : cQn σ1 (b + 1) C ch Y F R := cQn_Q h (fun o j ho => kA o j (by omega))
  obtain ⟨σ2, a1, a2, a3⟩ := cStart σ1
  rw [a1, bd_s]
  have Q2 := cQn_Q Q1 a2.q
  obtain ⟨σ3, m1, m2, m3⟩ := cJump Q2 a3 (Nat.zero_le _)
  rw [show fX6_jump (b + 2) σ2 = some ((), σ3) from m1, bd_s]
  have E3 : fRu σ1 σ3 := a2.tr m2
  obtain ⟨σ4, i1, i2, i3⟩ := cSam (b := b) (Or.inr hb) 61 rt0 0 1 g [] σ3 FU (by omega) (by omega) (by unfold FU; omega) (Nat.zero_le _) (cQn_Q Q2 m2.q) (fun k hk => ⟨by rw [E3.2 85 k (by decide) (by decide) (by omega)]; exact kB k hk, (hcs k hk).2⟩) m3 (by rw [E3.2 b 4 (by omega) (by omega) (by omega), kA b 4 (by omega)]; exact hg) hkd
  refine ⟨σ4, i1, ⟨by rw [i2.1, E3.1, k2], fun o j e1 e2 e3 e4 e5 => ?_⟩, i3, fun k hk => ?_⟩
  · rw [i2.2 o j e1 e2 e4 e5, E3.2 o j e1 e2 e4, kA o j e3]
  · rw [i2.2 85 k (by decide) (by decide) (by omega) (by omega), E3.2 85 k (by decide) (by decide) (by omega)]; exact kB k hk
end
