set_option maxRecDepth 100000
/-! ===== THE TWIN READS A WHOLE SUM ===== -/
/-- between sums: place, least fault, orders, groups; the pile is empty -/
def tB (σ : cS) (i : Nat) (w : Option Nat) (o g : Nat) : Prop := σ.1 0 6 = nz i ∧ σ.1 0 7 = -1 ∧ σ.1 0 8 = ow w ∧ σ.1 0 11 = nz o ∧ σ.1 0 16 = 0 ∧ σ.1 0 26 = nz g
section
variable {σ : cS} {i : Nat} {w : Option Nat} {o g : Nat}
theorem tB.at (h : tB σ i w o g) : σ.1 0 6 = nz i := h.1
theorem tB.wr (h : tB σ i w o g) : σ.1 0 7 = -1 := h.2.1
theorem tB.fa (h : tB σ i w o g) : σ.1 0 8 = ow w := h.2.2.1
theorem tB.od (h : tB σ i w o g) : σ.1 0 11 = nz o := h.2.2.2.1
theorem tB.pl (h : tB σ i w o g) : σ.1 0 16 = 0 := h.2.2.2.2.1
theorem tB.gr (h : tB σ i w o g) : σ.1 0 26 = nz g := h.2.2.2.2.2
theorem tB.go (h : tB σ i w o g) (j : Nat) : tB (stI σ 0 6 (nz j)) j w o g := by
  obtain ⟨a1, a2, a3, a4, a5, a6⟩ := h
  exact ⟨by simp [gI], by simpa [gI] using a2, by simpa [gI] using a3, by simpa [gI] using a4, by simpa [gI] using a5, by simpa [gI] using a6⟩
theorem tB.sFa (h : tB σ i w o g) (w' : Option Nat) : tB (stI σ 0 8 (ow w')) i w' o g := by
  obtain ⟨a1, a2, a3, a4, a5, a6⟩ := h
  exact ⟨by simpa [gI] using a1, by simpa [gI] using a2, by simp [gI], by simpa [gI] using a4, by simpa [gI] using a5, by simpa [gI] using a6⟩
theorem tB.put (h : tB σ i w o g) (a b : Int32) : tB (stO σ o a b) i w (o + 1) g := by
  obtain ⟨a1, a2, a3, a4, a5, a6⟩ := h
  exact ⟨by simpa [stO, gI] using a1, by simpa [stO, gI] using a2, by simpa [stO, gI] using a3, by simp [stO, gI], by simpa [stO, gI] using a5, by simpa [stO, gI] using a6⟩
theorem tB.oth {a j : Nat} {v : Int32} (h : tB σ i w o g) (ha : a ≠ 0 ∨ (j ≠ 6 ∧ j ≠ 7 ∧ j ≠ 8 ∧ j ≠ 11 ∧ j ≠ 16 ∧ j ≠ 26)) : tB (stI σ a j v) i w o g := by
  have k : ∀ x, x = 6 ∨ x = 7 ∨ x = 8 ∨ x = 11 ∨ x = 16 ∨ x = 26 → (stI σ a j v).1 0 x = σ.1 0 x := by
    intro x hx
    rw [gI]
    by_cases h0 : 0 = a
    · rw [if_pos h0, if_neg (by omega)]
    · rw [if_neg h0]
  obtain ⟨a1, a2, a3, a4, a5, a6⟩ := h
  exact ⟨(k _ (by omega)).trans a1, (k _ (by omega)).trans a2, (k _ (by omega)).trans a3, (k _ (by omega)).trans a4, (k _ (by omega)).trans a5, (k _ (by omega)).trans a6⟩
end
section
variable {tk n : Nat} {tx : Nat → Int32} {own ov : Int32} {nm : Nat → Int32} {nF B : Nat}
theorem tTake {σ : cS} {i : Nat} {w : Option Nat} {o g : Nat} (c : Int32) (hc : c ≠ -1) (T : tTx σ tk n tx) (h : tB σ i w o g) (hi : i ≤ n) : (∃ e, pTk n tx c i = .error e ∧ fX11_take c σ = some (0, stI (stI σ 0 6 (nz e)) 0 7 (nz e))) ∨ (∃ j, pTk n tx c i = .ok j ∧ fX11_take c σ = some (1, stI σ 0 6 (nz j))) := by
  unfold fX11_take pTk
  rw [tLook T h.at hi, bd_s]
  have h1 := h.go (sk n tx i)
  by_cases hp : pk n tx i = c
  · refine Or.inr ⟨_, by rw [if_pos hp], ?_⟩
    rw [if_pos hp, wI_e, h1.at, nz_s, stI_stI]
  · refine Or.inl ⟨_, by rw [if_neg hp], ?_⟩
    rw [if_neg hp, tStops h1.wr h1.at, bd_s, ck_t (by decide)]
/-- a sum from where it is read on -/
theorem tReadE {σ : cS} {i : Nat} {w : Option Nat} {o g : Nat} (hB : B ≤ 9000) (C : tCo σ tk n tx own ov nm nF) (h : tB σ i w o g) (hi : i ≤ n) (hwg : wG n w) (ho : o ≤ B + 3 * i) (hg : g ≤ i) (hnb : nbr n tx i ≤ 400) :
    (∃ e, pSum n tx own i w = .error e ∧ ∃ σ', fX11_readE σ = some (0, σ') ∧ (σ'.1 0 7 = nz e ∧ σ'.1 0 6 = nz e) ∧ tEF o 0 g 0 σ σ' ∧ ∃ o', o' ≤ 10800 ∧ σ'.1 0 11 = nz o') ∨
    (∃ q, pSum n tx own i w = .ok q ∧ ∃ σ' g', fX11_readE σ = some (1, σ') ∧ tB σ' q.1 q.2.1 (o + q.2.2.2.2.length) g' ∧ tEF o 0 g 0 σ σ' ∧ tOA σ' o (q.2.2.2.2.map (trS ov nm nF)) ∧ g ≤ g' ∧ g' ≤ q.1 ∧ GI σ' g g' i q.1 ∧ PC n tx σ' g g' i q.1 q.2.2.2.1) := by
  have hn6 : n ≤ 600 := C.1.2.2.2.2.2.1
  unfold fX11_readE
  rw [wI_e, wI_e, wI_e]
  have h3 : tE (stI (stI (stI σ 0 17 0) 0 20 0) 0 30 0) i w o 0 0 0 g 0 (σ.1 0 31) (σ.1 0 32) := by
    obtain ⟨a1, a2, a3, a4, a5, a6⟩ := h
    exact ⟨by simpa [gI] using a1, by simpa [gI] using a2, by simpa [gI] using a3, by simpa [gI] using a4, (by rw [show nz 0 = (0 : Int32) from rfl]; simpa [gI] using a5), by simp [gI]; rfl, by simp [gI], by simpa [gI] using a6, by simp [gI]; rfl, by simp [gI], by simp [gI]⟩
  obtain ⟨σ4, a1, h4, F4, b12, b13, b14, -⟩ := tOpenE (-1) h3 (by omega)
  rw [a1, bd_s]
  have FF : tEF o 0 g 0 σ σ4 := (((tEF_I (by omega)).tq (tEF_I (by omega))).tq (tEF_I (by omega))).tq (F4 o 0 g)
  have C4 := tCo_F C FF
  have hnl := nbr_le (n := n) (tx := tx) (i := i)
  have hSH : tSH B tk n tx own ov nm nF σ4 0 i w o 0 0 g 0 FU 0 0 := ⟨by unfold FU; omega, hi, hwg, fun q => by omega, C4, h4, Or.inl rfl, Nat.zero_le _, hg, Nat.zero_le _, Nat.zero_le _, by omega, Or.inl ⟨rfl, rfl, rfl, b13, b14⟩, Or.inl rfl⟩
  have hr := (tEall (n := n) (tx := tx) hB DE).1 _ _ _ _ _ _ _ _ _ _ _ _ (Or.inl rfl) (by unfold DE; omega) hSH
  rcases hq : pSum n tx own i w with e | q
  · rw [show (pE n tx own DE).1 0 0 i w = .error e from hq] at hr
    obtain ⟨σ', r1, r2, r3, r4⟩ := hr
    exact Or.inl ⟨e, rfl, σ', r1, r2, FF.tq r3, r4⟩
  · rw [show (pE n tx own DE).1 0 0 i w = .ok q from hq] at hr
    obtain ⟨f', σ', g', cm', E, Q, r1, r2, r3, r4, r5, r6, r7, r8, r9, r10, r11, r12, r13, r14, r15, r16, r17, r18, r19⟩ := hr
    obtain ⟨⟨f1, f2, f3, f4, f5⟩, f6, f7, f8⟩ := (pE_facts (n := n) (tx := tx) own DE).1 _ _ _ _ _ (Or.inl rfl) hi (show (pE n tx own DE).1 0 0 i w = .ok q from hq)
    have hlen : E.length + Q.length = q.2.2.2.2.length := by
      have := congrArg List.length r11
      simp only [List.length_map, List.length_append, List.length_reverse] at this
      omega
    have hnd := nbr_diffA (n := n) (tx := tx) (i := i) (j := q.1) (by omega)
    have hnot : ¬ opG cm' (pk n tx q.1) := fun x => r6 ⟨rfl, x⟩
    have C' := tCo_F C4 r7
    have hff : 3 ≤ f' := by unfold FU at r2; omega
    obtain ⟨f', rfl⟩ : ∃ e, f' = e + 1 := ⟨f' - 1, by omega⟩
    have hnm : ∀ x, x < Q.length → mkB (σ'.1 4 x) = false := by
      intro x hx
      have := r9 x Q[x] (by simp [hx])
      rw [Nat.zero_add] at this
      rw [this]; exact op_nomk (r10 _ (List.getElem_mem hx)).2
    have r3' := r3
    rw [Nat.zero_add] at r3'
    have hhas := tHas0 r3'.pl (by omega) hnm
    rw [r1, rE_n, tLook C'.1 r3.at f2, f7, stI_self r3.at, bd_s, tNoteN _ r3, bd_s, r3.cmp, if_neg (show ¬ (lvC (pk n tx q.1) = 2 ∨ lvC (pk n tx q.1) = 1 ∨ (lvC (pk n tx q.1) = 0 ∧ cm' = 0)) from hnot)]
    unfold fX11_readE_105 fX11_readE_136
    rw [hhas, bd_s, if_pos rfl, hhas, bd_s, if_pos rfl]
    obtain ⟨f', rfl⟩ : ∃ e, f' = e + 1 := ⟨f' - 1, by omega⟩
    rw [rE_g]
    obtain ⟨σ5, s1, F5, s3, s4, s5⟩ := tSettle (x := 0) (Or.inl rfl) (p0 := 0) Q.length Q FU (o + E.length) σ' rfl (by unfold FU; omega) r3.pl (by omega) r3.od (by omega) r9 (fun x hx => by unfold stl; simp [(r10 x hx).2]) (Or.inl rfl)
    rw [show fX11_settle 0 σ' = some ((), σ5) from s1, bd_s]
    have hl0 := (Prn_of f4).2.1
    rw [par_le hl0] at r15
    have k := F5.2.2.1
    have hsm : gSm g g' σ' σ5 := fun a x a1 a2 x1 x2 => F5.2.1 a x (by omega) (by omega) (by omega)
    refine Or.inr ⟨q, rfl, σ5, g', rfl, ⟨(k _ (by decide) (by decide)).trans r3.at, (k _ (by decide) (by decide)).trans r3.wr, (k _ (by decide) (by decide)).trans r3.fa, ?_, s4, (k _ (by decide) (by decide)).trans r3.gr⟩, FF.tr (r7.tr F5.E (by omega) (Nat.le_refl _) (Nat.le_refl _) (Nat.le_refl _)) (Nat.le_refl _) (Nat.le_refl _) (Nat.le_refl _) (Nat.le_refl _), ?_, r12, r13, r14.sm hsm, r15.sm hsm⟩
    · rw [s3]; congr 1; omega
    · rw [r11]
      exact tOA_app (tOA_F (p0 := 0) (g0 := 0) (m0 := 0) r8 F5.E (Nat.le_refl _)) s5
end
