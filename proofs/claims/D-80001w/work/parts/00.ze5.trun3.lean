set_option maxRecDepth 100000
section
variable {nm : Nat → Int32} {q o p : Nat} {C : List Cd} {ch : List Int32} {Y : List Sy} {F : List Fn} {R : List Int32} {cs : Nat → Int32} {a1 : Int32}
/-- a statement that draws not -/
theorem tAct {σ : cS} (h : tQn σ nm q o p C ch Y F R cs) {k d n w : Nat} {v : List Int32} {ok : Bool} {H : Hs} (f : Nat) (hr : tRu σ o C (k, v, d, ok) n w H) (hk : k < C.length) (h1 : (cdA C k).1 ≠ 1) (h5 : (cdA C k).1 ≠ 5) (hn : n < 60) :
    ∃ σ' f', f ≤ f' ∧ fX11_go_12 a1 (f + 403) 1 σ = fX11_go_12 a1 f' 1 σ' ∧ fSm σ σ' ∧ tRu σ' o C (act C (clf F (fv F (nuf R)) F.length) (nuf R) cs k v d ok) (n + 1) w H := by
  have hr0 := hr
  obtain ⟨b1, b2, b3, b4, b5, b6, b7, b8, b9, b10, b11, b12, b13, b14⟩ := hr
  simp only at b1 b2 b3 b4 b7 b8 b11 b12 b13 b14
  have hv := h.2.1.1.2.2.1 _ (cdA_mem hk)
  have hJ := h.2.1.1.2.2.2.1
  have hCl := h.2.1.1.1
  have hw := h.2.1.1.2.2.2.2.2.1 _ (cdA_mem hk)
  have hyl : (cdA C k).2.2.1.length ≤ 400 := Nat.le_trans (psz_mem (cdA_mem hk)) h.2.1.1.2.1
  obtain ⟨hA, hB⟩ := h.at hk
  have hol := h.1.2.2.2.1
  have hps := posn_s (o := o) hk
  have hval : sV (cdA C k).2.2.1 → nV (val (vof v) (clf F (fv F (nuf R)) F.length) (nuf R) (cdA C k).2.2.1) := fun hs => val_n ⟨fun a _ => vof_n b8.1 a, h.env.1, h.env.2⟩ (sV_wf hs).1
  have e64 : (stI (stI σ 0 64 (nz (posn o 0 C k + 1))) 0 66 (nz (n + 1))).1 0 64 = nz (posn o 0 C k + 1) := by simp [gI]
  have e66 : (stI (stI σ 0 64 (nz (posn o 0 C k + 1))) 0 66 (nz (n + 1))).1 0 66 = nz (n + 1) := by simp [gI]
  have e68 : (stI (stI σ 0 64 (nz (posn o 0 C k + 1))) 0 66 (nz (n + 1))).1 0 68 = bi ok := by simpa [gI] using b4
  have e33 : ∀ a, (stI (stI σ 0 64 (nz (posn o 0 C k + 1))) 0 66 (nz (n + 1))).1 33 a = σ.1 33 a := fun a => by simp [gI]
  have k9 := tSk_I (o := 0) (j := 66) (v := nz (n + 1)) (tSk_I (o := 0) (j := 64) (v := nz (posn o 0 C k + 1)) b9 (by omega)) (by omega)
  have S1 : fSm σ (stI (stI σ 0 64 (nz (posn o 0 C k + 1))) 0 66 (nz (n + 1))) := (fSm_0 (by omega)).tr (fSm_0 (by omega))
  -- the sum
  have sm : ∀ (g : Nat) (z : Int32 × Int32), ord1 (trS (-1) nm F.length) (posn o 0 C) (dn (C.take k)) (cdA C k) = (8, 0) :: ((cdA C k).2.2.1.map (trS (-1) nm F.length) ++ [z]) → osz (cdA C k) = (cdA C k).2.2.1.length + 2 → sV (cdA C k).2.2.1 → ∃ σ2, fX11_go_12 a1 (g + (cdA C k).2.2.1.length + 1) 1 σ = fX11_go_12 a1 g 1 σ2 ∧ fSm σ σ2 ∧ tSk σ2 [val (vof v) (clf F (fv F (nuf R)) F.length) (nuf R) (cdA C k).2.2.1] ∧ σ2.1 0 64 = nz (posn o 0 C k + 1 + (cdA C k).2.2.1.length) ∧ σ2.1 0 66 = nz (n + 1) ∧ σ2.1 0 68 = bi ok ∧ (∀ a, σ2.1 33 a = σ.1 33 a) ∧ σ2.1 2 (posn o 0 C k + 1 + (cdA C k).2.2.1.length) = z.1 ∧ σ2.1 3 (posn o 0 C k + 1 + (cdA C k).2.2.1.length) = z.2 ∧ posn o 0 C k + 1 + (cdA C k).2.2.1.length < 12000 := by
    intro g z ho hoz hs
    rw [ho] at hA
    have h0 := hA 0 (8, 0) rfl
    rw [Nat.add_zero] at h0
    have hy : tOA σ (posn o 0 C k + 1) ((cdA C k).2.2.1.map (trS (-1) nm F.length)) := fun j x hx => by
      have hjl := (List.getElem?_eq_some_iff.mp hx).1
      have := hA (j + 1) x (by rw [List.getElem?_cons_succ, List.getElem?_append_left hjl]; exact hx)
      rw [show posn o 0 C k + 1 + j = posn o 0 C k + (j + 1) by omega]; exact this
    have hz := hA ((cdA C k).2.2.1.length + 1) z (by rw [List.getElem?_cons_succ, List.getElem?_append_right (by simp)]; simp)
    obtain ⟨σ2, g1, g2, g3, g4⟩ := tSm (a1 := a1) (tQn_R h (fRn_S S1)) b8.1 (fun a ha => by rw [e33]; exact b8.2 a ha) (y := (cdA C k).2.2.1) (pc := posn o 0 C k + 1) g hs hyl (by omega) (fun j x hx => by rw [S1.2.1 2 _ (by decide) (by decide) (by decide), S1.2.1 3 _ (by decide) (by decide) (by decide)]; exact hy j x hx) e64 k9
    refine ⟨σ2, ?_, S1.tr (fSm_34 g3), g2, g4, by rw [g3.2.2 66 (by decide) (by decide)]; exact e66, by rw [g3.2.2 68 (by decide) (by decide)]; exact e68, fun a => by rw [g3.2.1 33 a (by decide) (by decide)]; exact e33 a, ?_, ?_, by omega⟩
    · rw [tO8 _ (by omega) b1 h0 b2 hn]
      exact g1
    · rw [g3.2.1 2 _ (by decide) (by decide), S1.2.1 2 _ (by decide) (by decide) (by decide), show posn o 0 C k + 1 + (cdA C k).2.2.1.length = posn o 0 C k + ((cdA C k).2.2.1.length + 1) by omega]; exact hz.1
    · rw [g3.2.1 3 _ (by decide) (by decide), S1.2.1 3 _ (by decide) (by decide) (by decide), show posn o 0 C k + 1 + (cdA C k).2.2.1.length = posn o 0 C k + ((cdA C k).2.2.1.length + 1) by omega]; exact hz.2
  rcases hv with ⟨kk, ⟨vx, hvx, evx⟩, hs⟩ | ⟨kk, -⟩ | ⟨kk, ⟨vx, hvx, evx⟩, -⟩ | ⟨kk, -, hs⟩ | ⟨kk, -, hs⟩ | ⟨kk, -⟩
  · have ea : act C (clf F (fv F (nuf R)) F.length) (nuf R) cs k v d ok = (k + 1, v.set vx (val (vof v) (clf F (fv F (nuf R)) F.length) (nuf R) (cdA C k).2.2.1), d, ok) := by
      unfold act
      rw [if_pos kk, evx, nz_tn (by omega)]
    have eo : osz (cdA C k) = (cdA C k).2.2.1.length + 2 := by unfold osz; rw [kk]; rfl
    obtain ⟨σ2, g1, g2, g3, g4, g5, g6, g7, g8, g9, g10⟩ := sm (f + (401 - (cdA C k).2.2.1.length) + 1) (9, (cdA C k).2.1) (by unfold ord1; rw [if_pos kk]) eo hs
    simp only at g8 g9
    obtain ⟨σ3, i1, i2, i3, i4, i5, i6, i7⟩ := tO9 (a1 := a1) (f + (401 - (cdA C k).2.2.1.length)) g10 g4 ⟨g8, g9.trans evx⟩ hvx g3
    refine ⟨σ3, f + (401 - (cdA C k).2.2.1.length), by omega, ?_, g2.tr i2, ?_⟩
    · rw [show f + 403 = f + (401 - (cdA C k).2.2.1.length) + 1 + (cdA C k).2.2.1.length + 1 by omega, g1, i1]
    · rw [ea]
      refine tRu_S hr0 (g2.tr i2) ?_ (i5.trans g5) (i6.trans g6) ⟨vOk_set b8.1 (hval hs), fun a ha => ?_⟩ i3 rfl (by simp only; omega)
      · rw [i4]; simp only; rw [hps]; congr 1; omega
      · simp only
        rw [i7, vset hvx b8.1.1]
        split
        · rfl
        · rw [g7]; exact b8.2 a ha
  · exact absurd kk h1
  · obtain ⟨x, x1, x2, x3⟩ := hw.2 kk
    obtain ⟨y1, y2⟩ := h.2.2.2.2 x x2
    have ea : act C (clf F (fv F (nuf R)) F.length) (nuf R) cs k v d ok = (k + 1, v.set vx (cs x), d, ok) := by
      unfold act
      rw [if_neg (by rw [kk]; decide), if_pos kk, evx, nz_tn (by omega), x3, nz_tn (by omega)]
    have eo : osz (cdA C k) = 3 := by unfold osz; rw [if_neg (by rw [kk]; decide), if_pos (Or.inr kk)]
    have ho : ord1 (trS (-1) nm F.length) (posn o 0 C) (dn (C.take k)) (cdA C k) = [(8, 0), (11, (cdA C k).2.2.2.1), (9, (cdA C k).2.1)] := by unfold ord1; rw [if_neg (by rw [kk]; decide), if_neg (by rw [kk]; decide), if_pos kk]
    rw [ho] at hA
    have h0 := hA 0 _ rfl
    have h1' := hA 1 _ rfl
    have h2 := hA 2 _ rfl
    rw [Nat.add_zero] at h0
    obtain ⟨σ2, g1, g2, g3, g4⟩ := tO11 (a1 := a1) (q := q) (k := x) (x := cs x) (f + 401) (show posn o 0 C k + 1 < 12000 by omega) e64 ⟨by rw [S1.2.1 2 _ (by decide) (by decide) (by decide)]; exact h1'.1, by rw [S1.2.1 3 _ (by decide) (by decide) (by decide)]; exact h1'.2.trans x3⟩ x2 h.1.1 (by rw [S1.2.2 65 (by decide) (by decide) (by decide) (by decide)]; exact h.1.2.2.2.2.2.2) (by rw [S1.2.1 31 _ (by decide) (by decide) (by decide)]; exact y1) k9
    obtain ⟨σ3, i1, i2, i3, i4, i5, i6, i7⟩ := tO9 (a1 := a1) (vx := vx) (f + 400) (show posn o 0 C k + 1 + 1 < 12000 by omega) g4 ⟨by rw [g2.2.1 2 _ (by decide) (by decide), S1.2.1 2 _ (by decide) (by decide) (by decide)]; exact h2.1, by rw [g2.2.1 3 _ (by decide) (by decide), S1.2.1 3 _ (by decide) (by decide) (by decide)]; exact h2.2.trans evx⟩ hvx g3
    have S2 := (S1.tr (fSm_34 g2)).tr i2
    refine ⟨σ3, f + 400, by omega, ?_, S2, ?_⟩
    · rw [tO8 (f + 402) (by omega) b1 h0 b2 hn, g1, i1]
    · rw [ea]
      refine tRu_S hr0 S2 ?_ ?_ ?_ ⟨vOk_set b8.1 y2, fun a ha => ?_⟩ i3 rfl (by simp only; omega)
      · rw [i4]; simp only; rw [hps]; congr 1; omega
      · rw [i5, g2.2.2 66 (by decide) (by decide)]; exact e66
      · rw [i6, g2.2.2 68 (by decide) (by decide)]; exact e68
      · simp only
        rw [i7, vset hvx b8.1.1]
        split
        · rfl
        · rw [g2.2.1 33 a (by decide) (by decide), e33]; exact b8.2 a ha
  · have ea : act C (clf F (fv F (nuf R)) F.length) (nuf R) cs k v d ok = (k + 1, v, d, ok && !decide (val (vof v) (clf F (fv F (nuf R)) F.length) (nuf R) (cdA C k).2.2.1 = 0)) := by
      unfold act
      rw [if_neg (by rw [kk]; decide), if_neg (by rw [kk]; decide), if_pos kk]
    have eo : osz (cdA C k) = (cdA C k).2.2.1.length + 2 := by unfold osz; rw [kk]; rfl
    obtain ⟨σ2, g1, g2, g3, g4, g5, g6, g7, g8, g9, g10⟩ := sm (f + (401 - (cdA C k).2.2.1.length) + 1) (12, 0) (by unfold ord1; rw [if_neg (by rw [kk]; decide), if_neg (by rw [kk]; decide), if_neg (by rw [kk]; decide), if_pos kk]) eo hs
    simp only at g8 g9
    obtain ⟨σ3, i1, i2, i3, i4, i5, i6, i7⟩ := tO12 (a1 := a1) (f + (401 - (cdA C k).2.2.1.length)) g10 g4 ⟨g8, g9⟩ g6 g3
    refine ⟨σ3, f + (401 - (cdA C k).2.2.1.length), by omega, ?_, g2.tr i2, ?_⟩
    · rw [show f + 403 = f + (401 - (cdA C k).2.2.1.length) + 1 + (cdA C k).2.2.1.length + 1 by omega, g1, i1]
    · rw [ea]
      refine tRu_S hr0 (g2.tr i2) ?_ (i5.trans g5) i6 ⟨b8.1, fun a ha => ?_⟩ i3 rfl (by simp only; omega)
      · rw [i4]; simp only; rw [hps]; congr 1; omega
      · rw [i7, g7]; exact b8.2 a ha
  · obtain ⟨g, gg1, gg2, gg3⟩ := (hJ k _ (cdA_get hk)).1 kk
    rw [Nat.zero_add] at gg2 gg3
    have ea : act C (clf F (fv F (nuf R)) F.length) (nuf R) cs k v d ok = (if val (vof v) (clf F (fv F (nuf R)) F.length) (nuf R) (cdA C k).2.2.1 = 0 then g else k + 1, v, d, ok) := by
      unfold act
      rw [if_neg (by rw [kk]; decide), if_neg (by rw [kk]; decide), if_neg (by rw [kk]; decide), gg1, nz_tn (by omega)]
    have eo : osz (cdA C k) = (cdA C k).2.2.1.length + 2 := by unfold osz; rw [kk]; rfl
    obtain ⟨σ2, g1, g2, g3, g4, g5, g6, g7, g8, g9, g10⟩ := sm (f + (401 - (cdA C k).2.2.1.length) + 1) (13, nz (posn o 0 C g)) (by unfold ord1; rw [if_neg (by rw [kk]; decide), if_neg (by rw [kk]; decide), if_neg (by rw [kk]; decide), if_neg (by rw [kk]; decide), if_pos kk, gg1, nz_tn (by omega)]) eo hs
    simp only at g8 g9
    obtain ⟨σ3, i1, i2, i3, i4, i5, i6, i7⟩ := tO13 (a1 := a1) (f + (401 - (cdA C k).2.2.1.length)) g10 g4 ⟨g8, g9⟩ g3
    refine ⟨σ3, f + (401 - (cdA C k).2.2.1.length), by omega, ?_, g2.tr i2, ?_⟩
    · rw [show f + 403 = f + (401 - (cdA C k).2.2.1.length) + 1 + (cdA C k).2.2.1.length + 1 by omega, g1, i1]
    · rw [ea]
      refine tRu_S hr0 (g2.tr i2) ?_ (i5.trans g5) (i6.trans g6) ⟨b8.1, fun a ha => ?_⟩ i3 rfl ?_
      · rw [i4]; simp only
        by_cases hz : val (vof v) (clf F (fv F (nuf R)) F.length) (nuf R) (cdA C k).2.2.1 = 0
        · rw [if_pos hz, if_pos hz]
        · rw [if_neg hz, if_neg hz, hps]; congr 1; omega
      · rw [i7, g7]; exact b8.2 a ha
      · simp only
        split <;> omega
  · exact absurd kk h5
/-- a draw within a statement -/
theorem tDrS {α : Type} {orc : α → Cd → Nat × α} {Rp : (Nat → Int32) → Int32 → Int32 → Int32 → α → Nat → Prop} (hD : drO C orc Rp) {σ : cS} (h : tQn σ nm q o p C ch Y F R cs) {k d n w : Nat} {v : List Int32} {ok : Bool} {H : Hs} {a : α} (f : Nat) (hr : tRu σ o C (k, v, d, ok) n w H) (hk : k < C.length) (h1 : (cdA C k).1 = 1) (hn : n < 60) (hd : d < 7) (hR : Rp (σ.1 36) (σ.1 0 72) (σ.1 0 73) (σ.1 0 76) a d) :
    ∃ σ', fX11_go_12 a1 (f + 3) 1 σ = fX11_go_12 a1 f 1 σ' ∧ fRn σ σ' ∧ tRu σ' o C (k + 1, v.set (cdA C k).2.1.toNatClampNeg (nz (orc a (cdA C k)).1), d + 1, ok) (n + 1) (w * dw (cdA C k) (orc a (cdA C k)).1) (((orc a (cdA C k)).1, k) :: H) ∧ Rp (σ'.1 36) (σ'.1 0 72) (σ'.1 0 73) (σ'.1 0 76) (orc a (cdA C k)).2 (d + 1) := by
  obtain ⟨b1, b2, b3, b4, b5, b6, b7, b8, b9, b10, b11, b12, b13, b14⟩ := hr
  simp only at b1 b2 b3 b4 b7 b8 b11 b12 b13 b14
  have hv := h.2.1.1.2.2.1 _ (cdA_mem hk)
  have hCl := h.2.1.1.1
  have hw := h.2.1.1.2.2.2.2.2.1 _ (cdA_mem hk)
  obtain ⟨s1, s2, s3, s4⟩ := dw_16 hv hw h1
  obtain ⟨vx, hvx, evx⟩ : vV (cdA C k).2.1 := by
    rcases hv with ⟨z, -⟩ | ⟨-, a, -⟩ | ⟨z, -⟩ | ⟨z, -⟩ | ⟨z, -⟩ | ⟨z, -⟩
    · rw [z] at h1; exact absurd h1 (by decide)
    · exact a
    · rw [z] at h1; exact absurd h1 (by decide)
    · rw [z] at h1; exact absurd h1 (by decide)
    · rw [z] at h1; exact absurd h1 (by decide)
    · rw [z] at h1; exact absurd h1 (by decide)
  obtain ⟨hA, hB⟩ := h.at hk
  have hol := h.1.2.2.2.1
  have hps := posn_s (o := o) hk
  have eo : osz (cdA C k) = 3 := by unfold osz; rw [if_neg (by rw [h1]; decide), if_pos (Or.inl h1)]
  have ho : ord1 (trS (-1) nm F.length) (posn o 0 C) (dn (C.take k)) (cdA C k) = [(8, 0), (10, nz (dn (C.take k))), (9, (cdA C k).2.1)] := by unfold ord1; rw [if_neg (by rw [h1]; decide), if_pos h1]
  rw [ho] at hA
  have h0 := hA 0 _ rfl
  have h1' := hA 1 _ rfl
  have h2 := hA 2 _ rfl
  rw [Nat.add_zero] at h0
  have hdn := tDn_at C h.2.1.2.2.2.2 hk h1
  rw [Nat.zero_add] at hdn
  -- order 8, order 10
  have S1 : fSm σ (stI (stI (stI σ 0 64 (nz (posn o 0 C k + 1))) 0 66 (nz (n + 1))) 0 64 (nz (posn o 0 C k + 1 + 1))) := ((fSm_0 (by omega)).tr (fSm_0 (by omega))).tr (fSm_0 (by omega))
  have k9 := tSk_I (o := 0) (j := 64) (v := nz (posn o 0 C k + 1 + 1)) (tSk_I (o := 0) (j := 66) (v := nz (n + 1)) (tSk_I (o := 0) (j := 64) (v := nz (posn o 0 C k + 1)) b9 (by omega)) (by omega)) (by omega)
  have e67 : (stI (stI (stI σ 0 64 (nz (posn o 0 C k + 1))) 0 66 (nz (n + 1))) 0 64 (nz (posn o 0 C k + 1 + 1))).1 0 67 = nz d := by rw [S1.2.2 67 (by decide) (by decide) (by decide) (by decide)]; exact b3
  have e66 : (stI (stI (stI σ 0 64 (nz (posn o 0 C k + 1))) 0 66 (nz (n + 1))) 0 64 (nz (posn o 0 C k + 1 + 1))).1 0 66 = nz (n + 1) := by simp [gI]
  have e64 : (stI (stI (stI σ 0 64 (nz (posn o 0 C k + 1))) 0 66 (nz (n + 1))) 0 64 (nz (posn o 0 C k + 1 + 1))).1 0 64 = nz (posn o 0 C k + 1 + 1) := by simp [gI]
  have e68 : (stI (stI (stI σ 0 64 (nz (posn o 0 C k + 1))) 0 66 (nz (n + 1))) 0 64 (nz (posn o 0 C k + 1 + 1))).1 0 68 = bi ok := by simpa [gI] using b4
  have e33 : ∀ a, (stI (stI (stI σ 0 64 (nz (posn o 0 C k + 1))) 0 66 (nz (n + 1))) 0 64 (nz (posn o 0 C k + 1 + 1))).1 33 a = σ.1 33 a := fun a => by simp [gI]
  have hst : fX11_go_12 a1 (f + 3) 1 σ = bd (bd (fX11_drawn (nz (dn (C.take k))) (stI (stI (stI σ 0 64 (nz (posn o 0 C k + 1))) 0 66 (nz (n + 1))) 0 64 (nz (posn o 0 C k + 1 + 1)))) fun r7 σ6 => bd (fX11_push r7 σ6) fun _ σ8 => some ((1 : Int32), σ8)) (fun r σ1 => bd (ck (bz r) <| some (r, σ1)) fun r σ1 => fX11_go_12 a1 (f + 1) r σ1) := by
    rw [tO8 (f + 2) (by omega) b1 h0 b2 hn, go_1, tOrd (k := 10) (pc := posn o 0 C k + 1) (x := nz (dn (C.take k))) (by omega) (by omega) (by simp [gI]) (by rw [show nz 10 = (10 : Int32) from rfl]; simpa [gI] using h1'.1) (by simpa [gI] using h1'.2)]
    unfold fX11_doStatement
    rw [if_neg (by decide), if_neg (by decide), if_pos (by rfl), e67, if_neg (by rw [show (7 : Int32) = nz 7 from rfl, nz_inj (by omega) (by omega)]; omega)]
    generalize (bd (fX11_drawn (nz (dn (C.take k))) (stI (stI (stI σ 0 64 (nz (posn o 0 C k + 1))) 0 66 (nz (n + 1))) 0 64 (nz (posn o 0 C k + 1 + 1)))) fun r7 σ6 => bd (fX11_push r7 σ6) fun _ σ8 => some ((1 : Int32), σ8)) = X
    cases X with
    | none => rfl
    | some x => rfl
  rw [hst]
  have e22 : ∀ j, j < 3 → (stI (stI (stI σ 0 64 (nz (posn o 0 C k + 1))) 0 66 (nz (n + 1))) 0 64 (nz (posn o 0 C k + 1 + 1))).1 22 (3 * dn (C.take k) + j) = nz (dw (cdA C k) j) := by
    intro j hj
    rw [S1.2.1 22 _ (by decide) (by decide) (by decide)]
    have : j = 0 ∨ j = 1 ∨ j = 2 := by omega
    rcases this with rfl | rfl | rfl
    · rw [Nat.add_zero, hdn.1, s2]
    · rw [hdn.2.1, s3]
    · rw [hdn.2.2, s4]
  have e36 : (stI (stI (stI σ 0 64 (nz (posn o 0 C k + 1))) 0 66 (nz (n + 1))) 0 64 (nz (posn o 0 C k + 1 + 1))).1 36 = σ.1 36 := by funext j; exact S1.2.1 36 j (by decide) (by decide) (by decide)
  have hR' : Rp ((stI (stI (stI σ 0 64 (nz (posn o 0 C k + 1))) 0 66 (nz (n + 1))) 0 64 (nz (posn o 0 C k + 1 + 1))).1 36) ((stI (stI (stI σ 0 64 (nz (posn o 0 C k + 1))) 0 66 (nz (n + 1))) 0 64 (nz (posn o 0 C k + 1 + 1))).1 0 72) ((stI (stI (stI σ 0 64 (nz (posn o 0 C k + 1))) 0 66 (nz (n + 1))) 0 64 (nz (posn o 0 C k + 1 + 1))).1 0 73) ((stI (stI (stI σ 0 64 (nz (posn o 0 C k + 1))) 0 66 (nz (n + 1))) 0 64 (nz (posn o 0 C k + 1 + 1))).1 0 76) a d := by
    rw [e36, S1.2.2 72 (by decide) (by decide) (by decide) (by decide), S1.2.2 73 (by decide) (by decide) (by decide) (by decide), S1.2.2 76 (by decide) (by decide) (by decide) (by decide)]; exact hR
  obtain ⟨σ2, c1, c2, c3, c4, c5, c6, c7, c8⟩ := hD _ a d k w hd hk h1 b12 hR' e67 b7 e22
  rw [c1, bd_s]
  have k2 : tSk σ2 [] := ⟨by rw [c3.2.2.2 61 (by decide) (by decide)]; exact k9.1, fun j s hs => by simp at hs⟩
  obtain ⟨σ3, d1, d2, d3, d4⟩ := tPush (nz (orc a (cdA C k)).1) k2 (by simp)
  rw [d1, bd_s, bd_s, ck_t (by decide), bd_s]
  have kk0 : ∀ j, j ≠ 61 → j ≠ 64 → j ≠ 66 → j ≠ 67 → j ≠ 68 → j ≠ 73 → σ3.1 0 j = σ.1 0 j := fun j q1 q2 q3 q4 q5 q6 => by rw [d3.2.2 j q1 q2, c3.2.2.2 j q4 q6, S1.2.2 j q1 q2 q3 q5]
  have kko : ∀ x j, x ≠ 0 → x ≠ 33 → x ≠ 34 → ¬ ((x = 36 ∨ x = 37) ∧ j = d) → σ3.1 x j = σ.1 x j := fun x j q1 q2 q3 q4 => by rw [d3.2.1 x j q1 q3, c3.2.2.1 x j q1 q4, S1.2.1 x j q1 q2 q3]
  have e64' : σ3.1 0 64 = nz (posn o 0 C k + 1 + 1) := by rw [d4, c3.2.2.2 64 (by decide) (by decide)]; exact e64
  obtain ⟨σ4, i1, i2, i3, i4, i5, i6, i7⟩ := tO9 (a1 := a1) (vx := vx) f (show posn o 0 C k + 1 + 1 < 12000 by omega) e64' ⟨by rw [kko 2 _ (by decide) (by decide) (by decide) (by omega)]; exact h2.1, by rw [kko 3 _ (by decide) (by decide) (by decide) (by omega)]; exact h2.2.trans evx⟩ hvx d2
  have hdw : dw (cdA C k) (orc a (cdA C k)).1 ≤ 16 := by
    have : (orc a (cdA C k)).1 = 0 ∨ (orc a (cdA C k)).1 = 1 ∨ (orc a (cdA C k)).1 = 2 := by omega
    rcases this with z | z | z <;> rw [z] <;> omega
  have e36' : σ4.1 36 = σ2.1 36 := by funext j; rw [i2.2.1 36 j (by decide) (by decide) (by decide), d3.2.1 36 j (by decide) (by decide)]
  refine ⟨σ4, i1, (((fRn_S S1).tr (fRn_D c3)).tr (fRn_34 d3)).tr (fRn_S i2), ⟨?_, ?_, ?_, ?_, ?_, ?_, ?_, ⟨?_, fun b hb => ?_⟩, i3, fun i x hx => ?_, ?_, ?_, ?_, ?_⟩, ?_⟩
  · rw [i4]; simp only; rw [hps]; congr 1; omega
  · rw [i5, d3.2.2 66 (by decide) (by decide), c3.2.2.2 66 (by decide) (by decide)]; exact e66
  · rw [i2.2.2 67 (by decide) (by decide) (by decide) (by decide), d3.2.2 67 (by decide) (by decide)]; exact c6
  · rw [i6, d3.2.2 68 (by decide) (by decide), c3.2.2.2 68 (by decide) (by decide)]; exact e68
  · rw [i2.2.2 69 (by decide) (by decide) (by decide) (by decide), kk0 69 (by decide) (by decide) (by decide) (by decide) (by decide) (by decide)]; exact b5
  · rw [i2.2.2 70 (by decide) (by decide) (by decide) (by decide), kk0 70 (by decide) (by decide) (by decide) (by decide) (by decide) (by decide)]; exact b6
  · rw [i2.1, d3.1]; exact c7
  · simp only
    exact vOk_set b8.1 ⟨(orc a (cdA C k)).1, by omega, rfl⟩
  · simp only
    rw [evx, nz_tn (by omega), i7, vset hvx b8.1.1]
    split
    · rfl
    · rw [d3.2.1 33 b (by decide) (by decide), c3.2.2.1 33 b (by decide) (by omega), e33]; exact b8.2 b hb
  · rw [i2.2.1 36 i (by decide) (by decide) (by decide), i2.2.1 37 i (by decide) (by decide) (by decide)]
    rw [List.reverse_cons] at hx
    by_cases hi : i < d
    · rw [List.getElem?_append_left (by rw [List.length_reverse]; omega)] at hx
      rw [kko 36 i (by decide) (by decide) (by decide) (by omega), kko 37 i (by decide) (by decide) (by decide) (by omega)]
      exact b10 i x hx
    · have hil := (List.getElem?_eq_some_iff.mp hx).1
      simp at hil
      have hid : i = d := by omega
      rw [List.getElem?_append_right (by rw [List.length_reverse]; omega), List.length_reverse, b11, hid, Nat.sub_self] at hx
      simp at hx
      rw [hid, ← hx, d3.2.1 36 d (by decide) (by decide), d3.2.1 37 d (by decide) (by decide)]
      exact ⟨c4, c5, c2, hk, h1⟩
  · simp only [List.length_cons]; omega
  · simp only
    rw [Nat.pow_succ]
    exact Nat.mul_le_mul b12 hdw
  · simp only; omega
  · simp only; omega
  · rw [e36', i2.2.2 72 (by decide) (by decide) (by decide) (by decide), d3.2.2 72 (by decide) (by decide), i2.2.2 73 (by decide) (by decide) (by decide) (by decide), d3.2.2 73 (by decide) (by decide), i2.2.2 76 (by decide) (by decide) (by decide) (by decide), d3.2.2 76 (by decide) (by decide)]
    exact c8
end
