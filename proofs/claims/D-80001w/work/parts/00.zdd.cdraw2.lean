set_option maxRecDepth 100000
/-- what a step changes; results stay -/
def fSt (kb wb mb pb : Nat) (σ σ' : cS) : Prop := σ'.2.2 = σ.2.2 ∧ (∀ o j, o ≠ kb → o ≠ wb → σ'.2.1 o j = σ.2.1 o j) ∧ (∀ o j, o ≠ 83 → o ≠ 84 → o ≠ mb → o ≠ pb → ¬ (o = 74 ∧ (j = 9 ∨ (20 ≤ j ∧ j ≤ 22))) → σ'.1 o j = σ.1 o j)
theorem fSt.rf {kb wb mb pb : Nat} {σ : cS} : fSt kb wb mb pb σ σ := ⟨rfl, fun _ _ _ _ => rfl, fun _ _ _ _ _ _ _ => rfl⟩
theorem fSt.tr {kb wb mb pb : Nat} {σ σ1 σ2 : cS} (h : fSt kb wb mb pb σ σ1) (h' : fSt kb wb mb pb σ1 σ2) : fSt kb wb mb pb σ σ2 := ⟨h'.1.trans h.1, fun o j a b => (h'.2.1 o j a b).trans (h.2.1 o j a b), fun o j a b c d e => (h'.2.2 o j a b c d e).trans (h.2.2 o j a b c d e)⟩
theorem fSt_R {kb wb mb pb : Nat} {σ σ' : cS} (h : fRu σ σ') : fSt kb wb mb pb σ σ' := ⟨by rw [h.1], fun _ _ _ _ => by rw [h.1], fun o j a b _ _ e => h.2 o j a b (by omega)⟩
theorem fSt_K {kb wb mb pb : Nat} {σ σ' : cS} (h : fKp kb wb mb pb σ σ') : fSt kb wb mb pb σ σ' := ⟨h.1, h.2.1, fun o j _ _ c d e => h.2.2 o j c d (by omega)⟩
theorem fSt.q {kb wb mb pb : Nat} {σ σ' : cS} (h : fSt kb wb mb pb σ σ') (hB : arr kb wb mb pb) : fQ σ σ' := by
  intro o j ho
  rcases hB with ⟨rfl, rfl, rfl, rfl⟩ | ⟨rfl, rfl, rfl, rfl⟩
  · exact h.2.2 o j (by omega) (by omega) (by omega) (by omega) (by omega)
  · exact h.2.2 o j (by omega) (by omega) (by omega) (by omega) (by omega)
section
variable {o : Nat} {C : List Cd} {ch : List Int32} {Y : List Sy} {F : List Fn} {R : List Int32} {kb wb mb pb : Nat}
/-- the runs behind a draw -/
def dsu (C : List Cd) (p : Nat) (v : List Int32) (d : Nat) (ok : Bool) (w m : Nat) : List (Cfg × Nat × Nat) := (List.range 3).flatMap (fun j => if dw (cdA C p) j = 0 then [] else [((p + 1, v.set (cdA C p).2.1.toNatClampNeg (nz j), d + 1, ok), w * dw (cdA C p) j, m)])
theorem adLs_len (A : List (Cfg × Nat × Nat)) : ∀ {L L' : List En}, adLs A L L' → L'.length ≤ L.length + A.length := by
  induction A with
  | nil => intro L L' h; cases h; simp
  | cons e A ih =>
    intro L L' h
    obtain ⟨X, x1, x2⟩ := h
    have := ih x2
    have hx : X.length ≤ L.length + 1 := by
      rcases x1 with ⟨A', B', s, w0, m0, rfl, rfl⟩ | ⟨s, rfl⟩ <;> simp
    simp only [List.length_cons]; omega
theorem cDrawn (hB : arr kb wb mb pb) {σ : cS} {p d w m : Nat} {v : List Int32} {ok : Bool} {N : List En} (h : cQn σ o C ch Y F R) (hp : p < C.length) (hk : (cdA C p).1 = 1) (hd : d < 7) (hr : cRu σ (p, v, d, ok)) (hN : cNx σ kb wb mb pb) (hL : cLy σ kb wb mb pb N) (hcnt : σ.1 74 9 = nz N.length) (hl : N.length < 4000) :
    ∃ σ' N', fX6_draw (o + 1) (nl w) (nz m) σ = some ((), σ') ∧ adLs (dsu C p v d ok w m) N N' ∧ fSt kb wb mb pb σ σ' ∧ cNx σ' kb wb mb pb ∧ cLy σ' kb wb mb pb N' ∧ σ'.1 74 9 = nz N'.length := by
  obtain ⟨r1, r2, r3, r4, r5⟩ := hr
  simp only at r1 r2 r3 r4 r5
  have hC := h.2.1.2.1.1
  have hcv := h.2.1.2.1.2.2.1 _ (cdA_mem hp)
  obtain ⟨vx, hvx, evx⟩ : vV (cdA C p).2.1 := by
    rcases hcv with ⟨k, -⟩ | ⟨-, a, -⟩ | ⟨k, -⟩ | ⟨k, -⟩ | ⟨k, -⟩ | ⟨k, -⟩
    · rw [k] at hk; exact absurd hk (by decide)
    · exact a
    · rw [k] at hk; exact absurd hk (by decide)
    · rw [k] at hk; exact absurd hk (by decide)
    · rw [k] at hk; exact absurd hk (by decide)
    · rw [k] at hk; exact absurd hk (by decide)
  obtain ⟨q, q1, q2⟩ := h.code hp
  have F1 : fRu σ (stI (stI σ 74 20 (nz (p + 1))) 74 21 (nz (d + 1))) := (fRu_I (by omega)).tr (fRu_I (by omega))
  have F1s : fSt kb wb mb pb σ (stI (stI σ 74 20 (nz (p + 1))) 74 21 (nz (d + 1))) := fSt_R F1
  have R1 : cRu (stI (stI σ 74 20 (nz (p + 1))) 74 21 (nz (d + 1))) (p + 1, v, d + 1, ok) := ⟨by simp [gI], by simp [gI], by simpa [gI] using r3, r4, fun a ha => by simpa [gI] using r5 a ha⟩
  have e74 : ∀ x b, x = mb ∨ x = pb → (stI (stI σ 74 20 (nz (p + 1))) 74 21 (nz (d + 1))).1 x b = σ.1 x b := by
    intro x b hx
    have : x ≠ 74 := by rcases hB with ⟨rfl, rfl, rfl, rfl⟩ | ⟨rfl, rfl, rfl, rfl⟩ <;> omega
    rw [gI, if_neg this, gI, if_neg this]
  have L1 : cLy (stI (stI σ 74 20 (nz (p + 1))) 74 21 (nz (d + 1))) kb wb mb pb N := ⟨fun k z hz => by rw [e74 _ _ (Or.inr rfl)]; exact hL.1 k z hz, fun z hz => by
        obtain ⟨y1, y2, y3, y4, y5⟩ := hL.2.1 z hz
        exact ⟨y1, y2, y3, by rw [e74 _ _ (Or.inl rfl)]; exact y4, y5⟩, hL.2.2.1, hL.2.2.2⟩
  have Q1 := cQn_Q h F1.q
  have c1 : (stI (stI σ 74 20 (nz (p + 1))) 74 21 (nz (d + 1))).1 74 9 = nz N.length := by simpa [gI] using hcnt
  have hst : fX6_draw (o + 1) (nl w) (nz m) σ = fX6_draw_35 (o + 1) (nl w) (nz m) FU (nz p) (nz vx) (nz 0) (stI (stI σ 74 20 (nz (p + 1))) 74 21 (nz (d + 1))) := by
    unfold fX6_draw
    have e5 : (stI σ 74 20 (nz (p + 1))).1 (o + 1 + 5) p = nz vx := by
      have : o + 1 + 5 ≠ 74 := by have := h.1.2.2.2; omega
      rw [gI, if_neg this]; exact q2.2.1.trans evx
    have e21 : (stI σ 74 20 (nz (p + 1))).1 74 21 = nz d := by simpa [gI] using r2
    rw [h.1.2.1, ck_t (by decide), r1, nz_s, wI_e, ck_n (show p < 96 by omega) (by omega), nz_tn (by omega), e21, nz_s, wI_e, e5]
    rfl
  rw [hst]
  generalize stI (stI σ 74 20 (nz (p + 1))) 74 21 (nz (d + 1)) = σ1 at F1 F1s R1 L1 Q1 c1 ⊢
  have hN1 : cNx σ1 kb wb mb pb := by
    obtain ⟨b1, b2, b3, b4⟩ := hN
    exact ⟨by rw [F1s.1]; exact b1, by rw [F1s.1]; exact b2, by rw [F1s.1]; exact b3, by rw [F1s.1]; exact b4⟩
  have fr : ∀ (τ τ' : cS) (j : Nat), (∃ σ1, (σ1 = τ ∨ σ1 = stI τ 83 vx (nz j)) ∧ fKp kb wb mb pb σ1 τ') → fSt kb wb mb pb τ τ' := by
    rintro τ τ' j ⟨τ1, rfl | rfl, hK⟩
    · exact fSt_K hK
    · exact (fSt_R (fRu_I (by omega))).tr (fSt_K hK)
  have hA1 : ∀ j, (if dw (cdA C p) j = 0 then [] else [((p + 1, v.set vx (nz j), d + 1, ok), w * dw (cdA C p) j, m)] : List (Cfg × Nat × Nat)).length ≤ 1 := by
    intro j; split <;> simp
  obtain ⟨f, hf⟩ : ∃ f, FU = f + 4 := ⟨FU - 4, by unfold FU; omega⟩
  rw [hf]
  obtain ⟨σ2, N2, v2, a1, a2, a3, a4, a5, a6, a7, a8⟩ := cDraw1 (w := w) (m := m) (j := 0) hB (f + 3) Q1 hp hk hvx hd (by omega) R1 (fun _ => rfl) hN1 L1 c1 (by omega)
  have S2 := fr _ _ 0 a8
  have l2 := adLs_len _ a2
  have hz0 := hA1 0
  obtain ⟨σ3, N3, v3, b1, b2, b3, b4, b5, b6, b7, b8⟩ := cDraw1 (w := w) (m := m) (j := 1) hB (f + 2) (cQn_Q Q1 (S2.q hB)) hp hk hvx hd (by omega) a3 a4 a5 a6 a7 (by omega)
  have S3 := fr _ _ 1 b8
  have l3 := adLs_len _ b2
  have hz1 := hA1 1
  obtain ⟨σ4, N4, v4, d1, d2, d3, d4, d5, d6, d7, d8⟩ := cDraw1 (w := w) (m := m) (j := 2) hB (f + 1) (cQn_Q (cQn_Q Q1 (S2.q hB)) (S3.q hB)) hp hk hvx hd (by omega) b3 b4 b5 b6 b7 (by omega)
  have S4 := fr _ _ 2 d8
  refine ⟨σ4, N4, ?_, ?_, ((F1s.tr S2).tr S3).tr S4, d5, d6, d7⟩
  · rw [a1, b1, d1]
    unfold fX6_draw_35
    rw [if_pos (by decide)]
  · have e : dsu C p v d ok w m = (if dw (cdA C p) 0 = 0 then [] else [((p + 1, v.set vx (nz 0), d + 1, ok), w * dw (cdA C p) 0, m)]) ++ ((if dw (cdA C p) 1 = 0 then [] else [((p + 1, v.set vx (nz 1), d + 1, ok), w * dw (cdA C p) 1, m)]) ++ (if dw (cdA C p) 2 = 0 then [] else [((p + 1, v.set vx (nz 2), d + 1, ok), w * dw (cdA C p) 2, m)])) := by
      unfold dsu
      rw [evx, nz_tn (by omega)]
      simp [List.range_succ]
    rw [e]
    exact adLs_app _ a2 (adLs_app _ b2 d2)
end
