set_option maxRecDepth 100000
theorem nl_mul (a b : Nat) : nl a * nl b = nl (a * b) := (Int64.ofNat_mul a b).symm
section
variable {o : Nat} {C : List Cd} {ch : List Int32} {Y : List Sy} {F : List Fn} {R : List Int32} {kb wb mb pb : Nat}
/-- one number of a draw -/
theorem cDraw1 (hB : arr kb wb mb pb) {σ : cS} {p vx d w m j : Nat} {v v' : List Int32} {ok : Bool} {N : List En} (f : Nat) (h : cQn σ o C ch Y F R) (hp : p < C.length) (hk : (cdA C p).1 = 1) (hvx : vx < 6) (hd : d < 7) (hj : j < 3) (hr : cRu σ (p + 1, v', d + 1, ok)) (hvv : ∀ x, v'.set vx x = v.set vx x) (hN : cNx σ kb wb mb pb) (hL : cLy σ kb wb mb pb N) (hcnt : σ.1 74 9 = nz N.length) (hl : N.length < 4096) :
    ∃ σ' N' v'', fX6_draw_35 (o + 1) (nl w) (nz m) (f + 1) (nz p) (nz vx) (nz j) σ = fX6_draw_35 (o + 1) (nl w) (nz m) f (nz p) (nz vx) (nz (j + 1)) σ' ∧ adLs (if dw (cdA C p) j = 0 then [] else [((p + 1, v.set vx (nz j), d + 1, ok), w * dw (cdA C p) j, m)]) N N' ∧ cRu σ' (p + 1, v'', d + 1, ok) ∧ (∀ x, v''.set vx x = v.set vx x) ∧ cNx σ' kb wb mb pb ∧ cLy σ' kb wb mb pb N' ∧ σ'.1 74 9 = nz N'.length ∧ ∃ σ1, (σ1 = σ ∨ σ1 = stI σ 83 vx (nz j)) ∧ fKp kb wb mb pb σ1 σ' := by
  obtain ⟨q, q1, q2⟩ := h.code hp
  have hC := h.2.1.2.1.1
  have hcv := h.2.1.2.1.2.2.1 _ (cdA_mem hp)
  obtain ⟨w1, w2, w3⟩ : nV (cdA C p).2.2.2.1 ∧ nV (cdA C p).2.2.2.2.1 ∧ nV (cdA C p).2.2.2.2.2 := by
    rcases hcv with ⟨k, -⟩ | ⟨-, -, -, a, b, c⟩ | ⟨k, -⟩ | ⟨k, -⟩ | ⟨k, -⟩ | ⟨k, -⟩
    · rw [k] at hk; exact absurd hk (by decide)
    · exact ⟨a, b, c⟩
    · rw [k] at hk; exact absurd hk (by decide)
    · rw [k] at hk; exact absurd hk (by decide)
    · rw [k] at hk; exact absurd hk (by decide)
    · rw [k] at hk; exact absurd hk (by decide)
  obtain ⟨a1, a2⟩ := q2.2.2.2.1 hk
  have a3 := q2.2.2.2.2.2 (Or.inl hk)
  have hdw : dw (cdA C p) j < 100 ∧ fX6_draw_35 (o + 1) (nl w) (nz m) (f + 1) (nz p) (nz vx) (nz j) σ = fX6_draw_79 (o + 1) (nl w) (nz m) (fX6_draw_35 (o + 1) (nl w) (nz m) f) (nz p) (nz vx) (nz j) (nz (dw (cdA C p) j)) σ := by
    obtain ⟨x1, hx1, e1⟩ := w1
    obtain ⟨x2, hx2, e2⟩ := w2
    obtain ⟨x3, hx3, e3⟩ := w3
    have : j = 0 ∨ j = 1 ∨ j = 2 := by omega
    rcases this with rfl | rfl | rfl
    · refine ⟨by unfold dw; rw [if_pos rfl, e1, nz_tn (by omega)]; exact hx1, ?_⟩
      conv => lhs; unfold fX6_draw_35
      rw [if_neg (by decide), if_pos (by decide), ck_n (show p < 96 by omega) (by omega), nz_tn (by omega), a1]
      unfold dw; rw [if_pos rfl, e1, nz_tn (by omega)]
    · refine ⟨by unfold dw; rw [if_neg (by decide), if_pos rfl, e2, nz_tn (by omega)]; exact hx2, ?_⟩
      conv => lhs; unfold fX6_draw_35
      rw [if_neg (by decide), if_neg (by decide), if_pos (by decide), ck_n (show p < 96 by omega) (by omega), nz_tn (by omega), a2]
      unfold dw; rw [if_neg (by decide), if_pos rfl, e2, nz_tn (by omega)]
    · refine ⟨by unfold dw; rw [if_neg (by decide), if_neg (by decide), e3, nz_tn (by omega)]; exact hx3, ?_⟩
      conv => lhs; unfold fX6_draw_35
      rw [if_neg (by decide), if_neg (by decide), if_neg (by decide), ck_n (show p < 96 by omega) (by omega), nz_tn (by omega), a3]
      unfold dw; rw [if_neg (by decide), if_neg (by decide), e3, nz_tn (by omega)]
  obtain ⟨hd1, hd2⟩ := hdw
  rw [hd2]
  unfold fX6_draw_79
  rw [nz_s]
  by_cases h0 : dw (cdA C p) j = 0
  · rw [if_pos (by rw [nz_le0 (by omega)]; exact h0), if_pos h0]
    exact ⟨σ, N, v', rfl, rfl, hr, hvv, hN, hL, hcnt, σ, Or.inl rfl, rfl, fun _ _ _ _ => rfl, fun _ _ _ _ _ => rfl⟩
  · rw [if_neg (by rw [nz_le0 (by omega)]; exact h0), if_neg h0, ck_n hvx (by omega), nz_tn (by omega), wI_e, nz_nl (by omega), nl_mul]
    obtain ⟨r1, r2, r3, r4, r5⟩ := hr
    have r1' : cRu (stI σ 83 vx (nz j)) (p + 1, v.set vx (nz j), d + 1, ok) := by
      refine ⟨by simpa [gI] using r1, by simpa [gI] using r2, by simpa [gI] using r3, ?_, fun a ha => ?_⟩
      · show vOk (v.set vx (nz j))
        rw [← hvv]; exact vOk_set r4 ⟨j, by omega, rfl⟩
      · show _ = vof (v.set vx (nz j)) a
        rw [← hvv, vset hvx r4.1, gI, if_pos rfl]
        split
        · rfl
        · exact r5 a ha
    have hL' : cLy (stI σ 83 vx (nz j)) kb wb mb pb N := by
      have e : ∀ x b, x = mb ∨ x = pb → (stI σ 83 vx (nz j)).1 x b = σ.1 x b := by
        intro x b hx
        rw [gI, if_neg]
        rcases hB with ⟨rfl, rfl, rfl, rfl⟩ | ⟨rfl, rfl, rfl, rfl⟩ <;> omega
      exact ⟨fun k z hz => by rw [e _ _ (Or.inr rfl)]; exact hL.1 k z hz, fun z hz => by
        obtain ⟨y1, y2, y3, y4, y5⟩ := hL.2.1 z hz
        exact ⟨y1, y2, y3, by rw [e _ _ (Or.inl rfl)]; exact y4, y5⟩, hL.2.2.1, hL.2.2.2⟩
    obtain ⟨σ', N', g1, g2, g3, g4, g5⟩ := cKeep (w := w * dw (cdA C p) j) (m := m) hB (σ := stI σ 83 vx (nz j)) hN hL' hl (by simpa [gI] using hcnt) r1' ⟨by simp only; omega, by simp only; omega, r1'.2.2.2.1⟩
    rw [g1, bd_s]
    have hN' : cNx σ' kb wb mb pb := by
      obtain ⟨b1, b2, b3, b4⟩ := hN
      exact ⟨by rw [g5.1]; exact b1, by rw [g5.1]; exact b2, by rw [g5.1]; exact b3, by rw [g5.1]; exact b4⟩
    exact ⟨σ', N', v.set vx (nz j), rfl, ⟨N', g2, rfl⟩, g5.ru hB r1', fun x => List.set_set _, hN', g3, g4, _, Or.inr rfl, g5⟩
end
