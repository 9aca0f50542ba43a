set_option maxRecDepth 100000
section
variable {o : Nat} {C : List Cd} {ch : List Int32} {Y : List Sy} {F : List Fn} {R : List Int32}
theorem cJump {σ : cS} {c : Cfg} (h : cQn σ o C ch Y F R) (hr : cRu σ c) (hp : c.1 ≤ C.length) : ∃ σ', fX6_jump (o + 1) σ = some ((), σ') ∧ fRu σ σ' ∧ cRu σ' (jp C c.1, c.2.1, c.2.2.1, c.2.2.2) := by
  obtain ⟨r1, r2, r3, r4, r5⟩ := hr
  have hC := h.2.1.2.1.1
  obtain ⟨σ', i1, i2, i3, i4, i5, i6⟩ := cJmp h (C.length + 2) c.1 FU σ h (by omega) hp (by unfold FU; omega) r1
  refine ⟨σ', ?_, i2, i3, i5.trans r2, i6.trans r3, r4, fun a ha => (i4 a).trans (r5 a ha)⟩
  unfold fX6_jump
  rw [h.1.2.1, ck_t (by decide)]
  exact i1
theorem jp_le {C : List Cd} (hJ : GJ 0 C) (hl : C.length ≤ 80) {p : Nat} (hp : p ≤ C.length) : jp C p ≤ C.length ∧ (jp C p < C.length → (cdA C (jp C p)).1 ≠ 5) := by
  obtain ⟨h1, h2, -⟩ := jmp_st hJ hl (C.length + 2) p hp (by omega)
  exact ⟨h1, h2⟩
/-- a run's settings -/
def cCh (σ : cS) (cs : Nat → Int32) : Prop := ∀ k, k < 3 → σ.1 85 k = cs k ∧ nV (cs k)
theorem vset {v : List Int32} {a b : Nat} {x : Int32} (ha : a < 6) (hl : v.length = 6) : vof (v.set a x) b = if b = a then x else vof v b := by
  unfold vof
  rw [List.getD_eq_getElem?_getD, List.getD_eq_getElem?_getD, List.getElem?_set]
  by_cases h : a = b
  · rw [if_pos h, if_pos h.symm, if_pos (by omega)]; rfl
  · rw [if_neg h, if_neg (fun q => h q.symm)]
theorem cAct {σ : cS} {p d : Nat} {v : List Int32} {ok : Bool} {cs : Nat → Int32} (h : cQn σ o C ch Y F R) (hr : cRu σ (p, v, d, ok)) (hp : p < C.length) (h1 : (cdA C p).1 ≠ 1) (h5 : (cdA C p).1 ≠ 5) (hc : cCh σ cs) :
    ∃ σ', fX6_act o σ = some ((), σ') ∧ fRu σ σ' ∧ cRu σ' (act C (clf F (fv F (nuf R)) F.length) (nuf R) cs p v d ok) ∧ (act C (clf F (fv F (nuf R)) F.length) (nuf R) cs p v d ok).1 ≤ C.length := by
  obtain ⟨r1, r2, r3, r4, r5⟩ := hr
  simp only at r1 r2 r3 r4 r5
  have hC := h.2.1.2.1.1
  obtain ⟨q, q1, q2⟩ := h.code hp
  have hcv := h.2.1.2.1.2.2.1 _ (cdA_mem hp)
  have hcw := h.2.1.2.1.2.2.2.2.2.1 _ (cdA_mem hp)
  have hJ := h.2.1.2.1.2.2.2.1
  have F1 : fRu σ (stI σ 74 20 (nz (p + 1))) := fRu_I (by omega)
  have Q1 := cQn_Q h F1.q
  have ho := h.1.2.2.2
  obtain ⟨q', q1', q2'⟩ := Q1.code hp
  unfold fX6_act
  rw [h.1.1, ck_t (by decide), r1, nz_s, wI_e, ck_n (show p < 96 by omega) (by omega), nz_tn (by omega), show (stI σ 74 20 (nz (p + 1))).1 (o + 5) p = (cdA C p).1 from q2'.1, show (stI σ 74 20 (nz (p + 1))).1 (o + 6) p = (cdA C p).2.1 from q2'.2.1]
  have r5' : ∀ a, a < 6 → (stI σ 74 20 (nz (p + 1))).1 83 a = vof v a := fun a ha => by rw [gI, if_neg (by decide)]; exact r5 a ha
  have hsum : ((cdA C p).1 = 0 ∨ (cdA C p).1 = 3 ∨ (cdA C p).1 = 4) → sV (cdA C p).2.2.1 → ∃ σ', fX6_sum o (nz p) (stI σ 74 20 (nz (p + 1))) = some (val (vof v) (clf F (fv F (nuf R)) F.length) (nuf R) (cdA C p).2.2.1, σ') ∧ f84 (stI σ 74 20 (nz (p + 1))) σ' := by
    intro hk hs
    obtain ⟨k1, k2, k3⟩ := q2'.2.2.1 hk
    obtain ⟨σ', g1, g2⟩ := Q1.sum (c := (p, v, d, ok)) r5' r4 hs (p := q') (t := o + 1) (by omega) h.1.2.1 (by omega) k3
    refine ⟨σ', ?_, g2⟩
    unfold fX6_sum
    rw [h.1.1, ck_t (by decide), ck_n (show p < 96 by omega) (by omega), ck_n (show p < 96 by omega) (by omega), nz_tn (by omega), show (stI σ 74 20 (nz (p + 1))).1 (o + 7) p = nz q' from k1, show (stI σ 74 20 (nz (p + 1))).1 (o + 8) p = nz (q' + (cdA C p).2.2.1.length - 1) from k2, g1, bd_s]
  obtain ⟨e1, e2, e3, e4⟩ := h.env
  have hval : sV (cdA C p).2.2.1 → nV (val (vof v) (clf F (fv F (nuf R)) F.length) (nuf R) (cdA C p).2.2.1) := fun hs => val_n ⟨fun a _ => vof_n r4 a, e3, e4⟩ (sV_wf hs).1
  rcases hcv with ⟨k, ⟨vx, hvx, evx⟩, hs⟩ | ⟨k, -⟩ | ⟨k, ⟨vx, hvx, evx⟩, -⟩ | ⟨k, -, hs⟩ | ⟨k, -, hs⟩ | ⟨k, -⟩
  · obtain ⟨σ2, g1, g2⟩ := hsum (Or.inl k) hs
    have ea : act C (clf F (fv F (nuf R)) F.length) (nuf R) cs p v d ok = (p + 1, v.set vx (val (vof v) (clf F (fv F (nuf R)) F.length) (nuf R) (cdA C p).2.2.1), d, ok) := by
      unfold act
      rw [if_pos k, evx, nz_tn (by omega)]
    rw [if_pos k, ck_n (show p < 96 by omega) (by omega), g1, bd_s, evx, ck_n hvx (by omega), nz_tn (by omega), wI_e, ea]
    have kk : ∀ x y, x ≠ 84 → σ2.1 x y = (stI σ 74 20 (nz (p + 1))).1 x y := g2.2
    refine ⟨_, rfl, (F1.tr (fRu_84 g2)).tr (fRu_I (by omega)), ⟨?_, ?_, ?_, vOk_set r4 (hval hs), fun a ha => ?_⟩, by simp only; omega⟩
    · rw [gI, if_neg (by decide), kk _ _ (by decide)]; simp [gI]
    · rw [gI, if_neg (by decide), kk _ _ (by decide)]; simpa [gI] using r2
    · rw [gI, if_neg (by decide), kk _ _ (by decide)]; simpa [gI] using r3
    · simp only
      rw [gI, if_pos rfl, vset hvx r4.1]
      split
      · rfl
      · rw [kk _ _ (by decide)]; exact r5' a ha
  · exact absurd k h1
  · have k6 := q2'.2.2.2.2.1 k
    obtain ⟨x, x1, x2, x3⟩ := hcw.2 k
    obtain ⟨y1, y2⟩ := hc x x2
    have ea : act C (clf F (fv F (nuf R)) F.length) (nuf R) cs p v d ok = (p + 1, v.set vx (cs x), d, ok) := by
      unfold act
      rw [if_neg (by rw [k]; decide), if_pos k, evx, nz_tn (by omega), x3, nz_tn (by omega)]
    rw [if_neg (by rw [k]; decide), if_pos k, ck_n (show p < 96 by omega) (by omega), ck_n (show p < 96 by omega) (by omega), show (stI σ 74 20 (nz (p + 1))).1 (o + 7) p = nz x from k6.trans x3, ck_n x2 (by omega), evx, ck_n hvx (by omega), nz_tn (by omega), nz_tn (by omega), wI_e, ea]
    have e85 : (stI σ 74 20 (nz (p + 1))).1 85 x = cs x := by rw [gI, if_neg (by decide)]; exact y1
    rw [e85]
    refine ⟨_, rfl, F1.tr (fRu_I (by omega)), ⟨?_, ?_, ?_, vOk_set r4 y2, fun a ha => ?_⟩, by simp only; omega⟩
    · simp [gI]
    · simpa [gI] using r2
    · simpa [gI] using r3
    · simp only
      rw [gI, if_pos rfl, vset hvx r4.1]
      split
      · rfl
      · exact r5' a ha
  · obtain ⟨σ2, g1, g2⟩ := hsum (Or.inr (Or.inl k)) hs
    have kk : ∀ x y, x ≠ 84 → σ2.1 x y = (stI σ 74 20 (nz (p + 1))).1 x y := g2.2
    have e22 : (stI σ 74 20 (nz (p + 1))).1 74 22 = bi ok := by simpa [gI] using r3
    have ea : act C (clf F (fv F (nuf R)) F.length) (nuf R) cs p v d ok = (p + 1, v, d, ok && !decide (val (vof v) (clf F (fv F (nuf R)) F.length) (nuf R) (cdA C p).2.2.1 = 0)) := by
      unfold act
      rw [if_neg (by rw [k]; decide), if_neg (by rw [k]; decide), if_pos k]
    rw [if_neg (by rw [k]; decide), if_neg (by rw [k]; decide), if_pos k, g1, bd_s, e22, ea]
    generalize val (vof v) (clf F (fv F (nuf R)) F.length) (nuf R) (cdA C p).2.2.1 = z
    have fin : ∀ (b : Bool), ∃ σ', (wI σ2 74 22 (bi b) fun σ8 => some ((), σ8)) = some ((), σ') ∧ fRu σ σ' ∧ cRu σ' (p + 1, v, d, b) ∧ (p + 1, v, d, b).1 ≤ C.length := by
      intro b
      rw [wI_e]
      refine ⟨_, rfl, (F1.tr (fRu_84 g2)).tr (fRu_I (by omega)), ⟨?_, ?_, by simp [gI], r4, fun a ha => ?_⟩, by simp only; omega⟩
      · rw [gI, if_pos rfl, if_neg (by decide), kk _ _ (by decide)]; simp [gI]
      · rw [gI, if_pos rfl, if_neg (by decide), kk _ _ (by decide)]; simpa [gI] using r2
      · rw [gI, if_neg (by decide), kk _ _ (by decide)]; exact r5' a ha
    by_cases hz : z = 0
    · rw [if_pos hz, show bi ok &&& 0 = bi false by cases ok <;> decide, ck_t (by decide), decide_eq_true hz, Bool.not_true, Bool.and_false]
      exact fin false
    · rw [if_neg hz, show bi ok &&& 1 = bi ok by cases ok <;> decide, ck_t (by cases ok <;> decide), decide_eq_false hz, Bool.not_false, Bool.and_true]
      exact fin ok
  · obtain ⟨σ2, g1, g2⟩ := hsum (Or.inr (Or.inr k)) hs
    have kk : ∀ x y, x ≠ 84 → σ2.1 x y = (stI σ 74 20 (nz (p + 1))).1 x y := g2.2
    have e9 := q2'.2.2.2.2.2 (Or.inr (Or.inl k))
    obtain ⟨g, gg1, gg2, gg3⟩ := (hJ p _ (cdA_get hp)).1 k
    rw [Nat.zero_add] at gg2 gg3
    have ea : act C (clf F (fv F (nuf R)) F.length) (nuf R) cs p v d ok = (if val (vof v) (clf F (fv F (nuf R)) F.length) (nuf R) (cdA C p).2.2.1 = 0 then g else p + 1, v, d, ok) := by
      unfold act
      rw [if_neg (by rw [k]; decide), if_neg (by rw [k]; decide), if_neg (by rw [k]; decide), gg1, nz_tn (by omega)]
    rw [if_neg (by rw [k]; decide), if_neg (by rw [k]; decide), if_neg (by rw [k]; decide), g1, bd_s, ea]
    generalize val (vof v) (clf F (fv F (nuf R)) F.length) (nuf R) (cdA C p).2.2.1 = z
    have e20 : σ2.1 74 20 = nz (p + 1) := by rw [kk _ _ (by decide)]; simp [gI]
    have fin : ∀ (t : Nat), t ≤ C.length → ∃ σ', (wI σ2 74 20 (nz t) fun σ8 => some ((), σ8)) = some ((), σ') ∧ fRu σ σ' ∧ cRu σ' (t, v, d, ok) ∧ (t, v, d, ok).1 ≤ C.length := by
      intro t ht
      rw [wI_e]
      refine ⟨_, rfl, (F1.tr (fRu_84 g2)).tr (fRu_I (by omega)), ⟨by simp [gI], ?_, ?_, r4, fun a ha => ?_⟩, ht⟩
      · rw [gI, if_pos rfl, if_neg (by decide), kk _ _ (by decide)]; simpa [gI] using r2
      · rw [gI, if_pos rfl, if_neg (by decide), kk _ _ (by decide)]; simpa [gI] using r3
      · rw [gI, if_neg (by decide), kk _ _ (by decide)]; exact r5' a ha
    by_cases hz : z = 0
    · rw [if_pos hz, if_pos hz, ck_n (show p < 96 by omega) (by omega), kk _ _ (by omega), show (stI σ 74 20 (nz (p + 1))).1 (o + 9) p = (cdA C p).2.2.2.2.2 from e9, gg1]
      exact fin g (by omega)
    · rw [if_neg hz, if_neg hz, e20]
      exact fin (p + 1) (by omega)
  · exact absurd k h5
/-- what is asked in a run -/
theorem cAsk {σ : cS} {c : Cfg} (h : cQn σ o C ch Y F R) (hr : cRu σ c) : ∃ σ', fX6_asked o σ = some (val (vof c.2.1) (clf F (fv F (nuf R)) F.length) (nuf R) Y, σ') ∧ f84 σ σ' := by
  obtain ⟨r1, r2, r3, r4, r5⟩ := hr
  have ho := h.1.2.2.2
  obtain ⟨c1, c2, c3, c4⟩ := h.2.2.1
  obtain ⟨σ', g1, g2⟩ := h.sum (c := c) r5 r4 c3 (p := 0) (t := o + 16) (by omega) h.1.2.2.1 (by omega) c4
  refine ⟨σ', ?_, g2⟩
  unfold fX6_asked
  rw [Nat.zero_add] at g1
  rw [h.1.1, ck_t (by decide), show (0 : Int32) = nz 0 from rfl, ck_n (show 0 < 96 by omega) (by omega), nz_tn (by omega), c1, g1, bd_s]
end
