set_option maxRecDepth 100000
/-! ===== THE COMPONENT READS STATEMENTS: what changes, code, primitives ===== -/
def cSF (g : Prop) (p cb s : Nat) (σ σ' : cS) : Prop := σ'.2 = σ.2 ∧ (∀ o j, o ≠ 3 → o ≠ 4 → o ≠ 5 → o ≠ 6 → o ≠ 7 → o ≠ 8 → o ≠ 9 → o ≠ 10 → o ≠ 11 → o ≠ 12 → o ≠ 13 → o ≠ 14 → o ≠ 15 → o ≠ 20 → σ'.1 o j = σ.1 o j) ∧ (∀ j, j ≠ 3 → j ≠ 5 → j ≠ 7 → σ'.1 3 j = σ.1 3 j) ∧ (∀ j, j ≠ 6 → σ'.1 4 j = σ.1 4 j) ∧ (∀ j, j ≠ 3 → j ≠ 9 → j ≠ 11 → j ≠ 18 → σ'.1 6 j = σ.1 6 j) ∧ (∀ o j, o = 7 ∨ o = 8 ∨ o = 9 → j < p → σ'.1 o j = σ.1 o j) ∧ (∀ j, j < s → σ'.1 20 j = σ.1 20 j) ∧ (g → ∀ o j, o = 10 ∨ o = 11 ∨ o = 12 ∨ o = 13 ∨ o = 14 → j < cb → σ'.1 o j = σ.1 o j)
theorem cSF.rf {g : Prop} {p cb s : Nat} {σ : cS} : cSF g p cb s σ σ := ⟨rfl, fun _ _ _ _ _ _ _ _ _ _ _ _ _ _ _ _ => rfl, fun _ _ _ _ => rfl, fun _ _ => rfl, fun _ _ _ _ _ => rfl, fun _ _ _ _ => rfl, fun _ _ => rfl, fun _ _ _ _ _ => rfl⟩
theorem cSF.tr {g g1 g2 : Prop} {p cb s p' cb' s' : Nat} {σ σ1 σ2 : cS} (h : cSF g1 p cb s σ σ1) (h' : cSF g2 p' cb' s' σ1 σ2) (hp : p ≤ p') (hc : cb ≤ cb') (hs : s ≤ s') (hg : g → g1 ∧ g2) : cSF g p cb s σ σ2 := by
  obtain ⟨a1, a2, a3, a4, a5, a6, a7, a8⟩ := h
  obtain ⟨b1, b2, b3, b4, b5, b6, b7, b8⟩ := h'
  refine ⟨b1.trans a1, fun o j c1 c2 c3 c4 c5 c6 c7 c8 c9 c10 c11 c12 c13 c14 => (b2 o j c1 c2 c3 c4 c5 c6 c7 c8 c9 c10 c11 c12 c13 c14).trans (a2 o j c1 c2 c3 c4 c5 c6 c7 c8 c9 c10 c11 c12 c13 c14), fun j c1 c2 c3 => (b3 j c1 c2 c3).trans (a3 j c1 c2 c3), fun j c1 => (b4 j c1).trans (a4 j c1), fun j c1 c2 c3 c4 => (b5 j c1 c2 c3 c4).trans (a5 j c1 c2 c3 c4), fun o j c1 c2 => (b6 o j c1 (by omega)).trans (a6 o j c1 c2), fun j c1 => (b7 j (by omega)).trans (a7 j c1), fun x o j c1 c2 => (b8 (hg x).2 o j c1 (by omega)).trans (a8 (hg x).1 o j c1 c2)⟩
theorem cSF.wk {g g1 : Prop} {p cb s : Nat} {σ σ1 : cS} (h : cSF g1 p cb s σ σ1) (hg : g → g1) : cSF g p cb s σ σ1 := h.tr cSF.rf (Nat.le_refl _) (Nat.le_refl _) (Nat.le_refl _) (fun x => ⟨hg x, x⟩)
/-- the same bounds, the same condition -/
theorem cSF.tq {g : Prop} {p cb s : Nat} {σ σ1 σ2 : cS} (h : cSF g p cb s σ σ1) (h' : cSF g p cb s σ1 σ2) : cSF g p cb s σ σ2 := h.tr h' (Nat.le_refl _) (Nat.le_refl _) (Nat.le_refl _) (fun x => ⟨x, x⟩)
theorem cSF_E {g : Prop} {p cb s : Nat} {σ σ' : cS} (h : cEF p σ σ') : cSF g p cb s σ σ' := by
  obtain ⟨a1, a2, a3, a4, a5, a6⟩ := h
  refine ⟨a1, fun o j c1 c2 c3 c4 c5 c6 c7 c8 c9 c10 c11 c12 c13 c14 => a2 o j c1 c2 c4 c5 c6 c7, fun j c1 c2 c3 => a3 j c1 c2, a4, fun j c1 c2 c3 c4 => a5 j c1, a6, fun j _ => a2 _ _ (by decide) (by decide) (by decide) (by decide) (by decide) (by decide), ?_⟩
  rintro - o j (rfl | rfl | rfl | rfl | rfl) _ <;> exact a2 _ _ (by decide) (by decide) (by decide) (by decide) (by decide) (by decide)
/-- one int is written -/
theorem cSF_I {g : Prop} {p cb s : Nat} {σ : cS} {o j : Nat} {v : Int32} (h : (o = 3 ∧ (j = 3 ∨ j = 5 ∨ j = 7)) ∨ (o = 4 ∧ j = 6) ∨ o = 5 ∨ (o = 6 ∧ (j = 3 ∨ j = 9 ∨ j = 11 ∨ j = 18)) ∨ o = 15 ∨ (o = 20 ∧ s ≤ j) ∨ ((o = 10 ∨ o = 11 ∨ o = 12 ∨ o = 13 ∨ o = 14) ∧ (g → cb ≤ j))) : cSF g p cb s σ (stI σ o j v) := by
  refine ⟨rfl, ?_, ?_, ?_, ?_, ?_, ?_, ?_⟩
  · intro a b c1 c2 c3 c4 c5 c6 c7 c8 c9 c10 c11 c12 c13 c14
    rw [gI, if_neg]
    intro q; subst q
    omega
  · intro b c1 c2 c3
    rw [gI]
    by_cases ho : 3 = o
    · rw [if_pos ho, if_neg (by omega)]
    · rw [if_neg ho]
  · intro b c1
    rw [gI]
    by_cases ho : 4 = o
    · rw [if_pos ho, if_neg (by omega)]
    · rw [if_neg ho]
  · intro b c1 c2 c3 c4
    rw [gI]
    by_cases ho : 6 = o
    · rw [if_pos ho, if_neg (by omega)]
    · rw [if_neg ho]
  · intro a b c1 c2
    rw [gI, if_neg (by omega)]
  · intro b c1
    rw [gI]
    by_cases ho : 20 = o
    · rw [if_pos ho, if_neg (by omega)]
    · rw [if_neg ho]
  · intro hg a b c1 c2
    rw [gI]
    by_cases ho : a = o
    · subst ho
      rw [if_pos rfl, if_neg]
      intro q
      have : cb ≤ j := by
        rcases h with h | h | h | h | h | h | h
        · omega
        · omega
        · omega
        · omega
        · omega
        · omega
        · exact h.2 hg
      omega
    · rw [if_neg ho]
theorem cSF_pt {g : Prop} {p cb : Nat} (x : List Int32) : ∀ {s : Nat} {σ : cS}, cSF g p cb s σ (ptL σ s x) := by
  induction x with
  | nil => intro s σ; exact cSF.rf
  | cons a x ih =>
    intro s σ
    have h1 : cSF g p cb s σ (stI σ 6 18 (nz (s + 1))) := cSF_I (by omega)
    have h2 : cSF g p cb s (stI σ 6 18 (nz (s + 1))) (stI (stI σ 6 18 (nz (s + 1))) 20 s a) := cSF_I (Or.inr (Or.inr (Or.inr (Or.inr (Or.inr (Or.inl ⟨rfl, Nat.le_refl _⟩))))))
    exact (h1.tq h2).tr (ih (s := s + 1)) (Nat.le_refl _) (Nat.le_refl _) (by omega) (fun x => ⟨x, x⟩)
theorem cES_of {σ σ' : cS} {n : Nat} {tx : Nat → Int32} {own : Int32} {i p : Nat} {w : Option Nat} (h : cES σ n tx own i w p) (h2 : σ'.2 = σ.2) (h3 : ∀ j, j = 3 ∨ j = 4 ∨ j = 5 ∨ j = 6 → σ'.1 3 j = σ.1 3 j) (h1 : ∀ k, σ'.1 1 k = σ.1 1 k) (h6 : σ'.1 6 3 = σ.1 6 3) : cES σ' n tx own i w p := by
  obtain ⟨⟨a1, a2, a3⟩, b1, b2, b3, b4, b5, b6, b7, b8⟩ := h
  refine ⟨⟨by rw [h3 4 (by omega)]; exact a1, a2, fun k hk => by rw [h1]; exact a3 k hk⟩, by rw [h3 3 (by omega)]; exact b1, b2, by rw [h3 5 (by omega)]; exact b3, b4, by rw [h3 6 (by omega)]; exact b5, by rw [h2]; exact b6, by rw [h6]; exact b7, b8⟩
/-- the reader of a model: st statements, cb codes, s bytes printed, the choices ch -/
def cMS (σ : cS) (n : Nat) (tx : Nat → Int32) (i : Nat) (w : Option Nat) (p st cb s : Nat) (ch : List Int32) : Prop :=
  cES σ n tx (-1) i w p ∧ σ.1 3 7 = nz st ∧ (∃ x, x ≤ 96 ∧ σ.1 6 9 = nz x ∧ (st ≤ 40 → x = cb)) ∧ cb ≤ 2 * st ∧ σ.1 6 11 = nz ch.length ∧ ch.length ≤ 3 ∧ (∀ k, k < ch.length → σ.1 15 k = ch.getD k 0) ∧ σ.1 6 18 = nz s
section
variable {σ : cS} {n : Nat} {tx : Nat → Int32} {i p st cb s : Nat} {w : Option Nat} {ch : List Int32}
theorem cMS.E (h : cMS σ n tx i w p st cb s ch) : cES σ n tx (-1) i w p := h.1
theorem cMS.hst (h : cMS σ n tx i w p st cb s ch) : σ.1 3 7 = nz st := h.2.1
theorem cMS.hcb (h : cMS σ n tx i w p st cb s ch) : ∃ x, x ≤ 96 ∧ σ.1 6 9 = nz x ∧ (st ≤ 40 → x = cb) := h.2.2.1
theorem cMS.hcs (h : cMS σ n tx i w p st cb s ch) : cb ≤ 2 * st := h.2.2.2.1
theorem cMS.hcc (h : cMS σ n tx i w p st cb s ch) : σ.1 6 11 = nz ch.length := h.2.2.2.2.1
theorem cMS.hc3 (h : cMS σ n tx i w p st cb s ch) : ch.length ≤ 3 := h.2.2.2.2.2.1
theorem cMS.hch (h : cMS σ n tx i w p st cb s ch) : ∀ k, k < ch.length → σ.1 15 k = ch.getD k 0 := h.2.2.2.2.2.2.1
theorem cMS.hs (h : cMS σ n tx i w p st cb s ch) : σ.1 6 18 = nz s := h.2.2.2.2.2.2.2
theorem cMS_of {σ' : cS} {i' p' : Nat} {w' : Option Nat} (h : cMS σ n tx i w p st cb s ch) (hE : cES σ' n tx (-1) i' w' p') (h1 : σ'.1 3 7 = σ.1 3 7) (h2 : ∀ j, j = 9 ∨ j = 11 ∨ j = 18 → σ'.1 6 j = σ.1 6 j) (h3 : ∀ k, σ'.1 15 k = σ.1 15 k) : cMS σ' n tx i' w' p' st cb s ch := by
  refine ⟨hE, h1.trans h.hst, ?_, h.hcs, (h2 11 (by omega)).trans h.hcc, h.hc3, fun k hk => (h3 k).trans (h.hch k hk), (h2 18 (by omega)).trans h.hs⟩
  rw [h2 9 (by omega)]; exact h.hcb
theorem cMS_E {σ' : cS} {i' p' : Nat} {w' : Option Nat} (h : cMS σ n tx i w p st cb s ch) (hF : cEF p σ σ') (hE : cES σ' n tx (-1) i' w' p') : cMS σ' n tx i' w' p' st cb s ch := by
  refine cMS_of h hE (hF.2.2.1 _ (by decide) (by decide)) ?_ (fun k => hF.2.1 _ _ (by decide) (by decide) (by decide) (by decide) (by decide) (by decide))
  intro j hj
  exact hF.2.2.2.2.1 _ (by omega)
theorem cMS.go {j : Nat} (h : cMS σ n tx i w p st cb s ch) (hj : i ≤ j) (hn : j ≤ n) : cMS (stI σ 3 3 (nz j)) n tx j w p st cb s ch := cMS_E h cEF_at (h.E.go hj hn)
theorem cMS.wr {w' : Option Nat} (h : cMS σ n tx i w p st cb s ch) (hw : wG n w') : cMS (stI σ 3 5 (ow w')) n tx i w' p st cb s ch := cMS_E h cEF_w (h.E.wr hw)
theorem cMS.pt (h : cMS σ n tx i w p st cb s ch) (x : List Int32) : cMS (ptL σ s x) n tx i w p st cb (s + x.length) ch := by
  refine ⟨cES_of h.E (ptL_2 _ _ _) (fun j _ => ptL_o _ _ _ _ _ (by decide) (fun q => absurd q.1 (by decide))) (fun k => ptL_o _ _ _ _ _ (by decide) (fun q => absurd q.1 (by decide))) (ptL_o _ _ _ _ _ (by decide) (fun q => absurd q.2 (by decide))), ?_, ?_, h.hcs, ?_, h.hc3, fun k hk => ?_, ptL_s _ _ _ h.hs⟩
  · rw [ptL_o _ _ _ _ _ (by decide) (fun q => absurd q.1 (by decide))]; exact h.hst
  · rw [ptL_o _ _ _ _ _ (by decide) (fun q => absurd q.2 (by decide))]; exact h.hcb
  · rw [ptL_o _ _ _ _ _ (by decide) (fun q => absurd q.2 (by decide))]; exact h.hcc
  · rw [ptL_o _ _ _ _ _ (by decide) (fun q => absurd q.1 (by decide))]; exact h.hch k hk
/-- a write that the reader's state doesn't see -/
theorem cMS.oth {o j : Nat} {v : Int32} (h : cMS σ n tx i w p st cb s ch) (ho : o = 4 ∨ o = 5 ∨ o = 10 ∨ o = 11 ∨ o = 12 ∨ o = 13 ∨ o = 14) : cMS (stI σ o j v) n tx i w p st cb s ch := by
  have key : ∀ a b, a ≠ o → (stI σ o j v).1 a b = σ.1 a b := fun a b q => by rw [gI, if_neg q]
  refine cMS_of h (cES_of h.E rfl (fun j _ => key _ _ (by omega)) (fun k => key _ _ (by omega)) (key _ _ (by omega))) (key _ _ (by omega)) (fun _ _ => key _ _ (by omega)) (fun _ => key _ _ (by omega))
theorem cMS.stm (h : cMS σ n tx i w p st cb s ch) : cMS (stI σ 3 7 (nz (st + 1))) n tx i w p (st + 1) cb s ch := by
  have hE : cES (stI σ 3 7 (nz (st + 1))) n tx (-1) i w p := by
    refine cES_of h.E rfl ?_ ?_ ?_
    · intro j hj; rw [gI, if_pos rfl, if_neg (by omega)]
    · intro k; simp [gI]
    · simp [gI]
  refine ⟨hE, by simp [gI], ?_, by have := h.hcs; omega, by simpa [gI] using h.hcc, h.hc3, fun k hk => by simpa [gI] using h.hch k hk, by simpa [gI] using h.hs⟩
  obtain ⟨x, x1, x2, x3⟩ := h.hcb
  exact ⟨x, x1, by simpa [gI] using x2, fun q => x3 (by omega)⟩
end
def stAdd (σ : cS) (k : Nat) (wh v : Int32) : cS := stI (stI (stI (stI (stI σ 6 9 (nz k)) 10 k wh) 11 k v) 14 k 0) 6 9 (nz (k + 1))
theorem cAdd {σ : cS} {x : Nat} {wh v : Int32} (hx : x ≤ 96) (h : σ.1 6 9 = nz x) (hw : lo7 wh) (hv : lo7 v) : fX3_add 6 wh v σ = some (nz (if x = 96 then 0 else x), stAdd σ (if x = 96 then 0 else x) wh v) := by
  have key : ∀ k, k < 96 → fX3_add_18 6 wh v (nz k) σ = some (nz k, stAdd σ k wh v) := by
    intro k hk
    unfold fX3_add_18
    rw [show vp_nar .byte wh.toInt8.toInt32 = wh by rw [vp_nar_byte]; show sb (sb wh) = wh; rw [hw.sb, hw.sb], show vp_nar .byte v.toInt8.toInt32 = v by rw [vp_nar_byte]; show sb (sb v) = v; rw [hv.sb, hv.sb]]
    simp only [wI, gI, Nat.reduceAdd, Nat.reduceEqDiff, if_true, if_false, reduceIte]
    simp only [ck_n hk (show 96 < 2147483648 by decide), nz_tn (show k < 2147483648 by omega), nz_s]
    rfl
  unfold fX3_add
  rw [h, show (96 : Int32) = nz 96 from rfl]
  by_cases hq : x = 96
  · rw [if_pos (by rw [hq]), if_pos hq]
    exact key 0 (by omega)
  · rw [if_neg (by rw [nz_inj (by omega) (by omega)]; exact hq), if_neg hq]
    exact key x (by omega)
section
variable {σ : cS} {n : Nat} {tx : Nat → Int32} {i p st cb s : Nat} {w : Option Nat} {ch : List Int32}
/-- code is added: its place k is cb while the text has at most 40 statements -/
theorem cMS.add {wh v : Int32} (h : cMS σ n tx i w p st cb s ch) (hw : lo7 wh) (hv : lo7 v) (h2 : cb + 1 ≤ 2 * st) : ∃ k, k < 96 ∧ (st ≤ 40 → k = cb) ∧ fX3_add 6 wh v σ = some (nz k, stAdd σ k wh v) ∧ cMS (stAdd σ k wh v) n tx i w p st (cb + 1) s ch ∧ cSF (st ≤ 40) p cb s σ (stAdd σ k wh v) ∧ (stAdd σ k wh v).1 10 k = wh ∧ (stAdd σ k wh v).1 11 k = v ∧ (stAdd σ k wh v).1 14 k = 0 := by
  obtain ⟨x, x1, x2, x3⟩ := h.hcb
  refine ⟨if x = 96 then 0 else x, by split <;> omega, ?_, cAdd x1 x2 hw hv, ?_, ?_, ?_, ?_, ?_⟩
  · intro q
    have := x3 q
    rw [if_neg (by omega)]; exact this
  · have hk : (if x = 96 then 0 else x) < 96 := by split <;> omega
    have hq : st ≤ 40 → (if x = 96 then 0 else x) + 1 = cb + 1 := by
      intro q
      have := x3 q
      rw [if_neg (by omega)]; omega
    generalize (if x = 96 then 0 else x) = k at hk hq
    refine ⟨cES_of h.E rfl ?_ ?_ ?_, by simpa [stAdd, gI] using h.hst, ⟨k + 1, by omega, by simp [stAdd, gI], hq⟩, h2, by simpa [stAdd, gI] using h.hcc, h.hc3, fun k hk => by simpa [stAdd, gI] using h.hch k hk, by simpa [stAdd, gI] using h.hs⟩
    · intro j hj; simp [stAdd, gI]
    · intro k; simp [stAdd, gI]
    · simp [stAdd, gI]
  · have hq : st ≤ 40 → cb ≤ (if x = 96 then 0 else x) := by
      intro q
      have := x3 q
      rw [if_neg (by omega)]; omega
    generalize (if x = 96 then 0 else x) = k at hq
    unfold stAdd
    exact ((((cSF_I (by omega)).tq (cSF_I (Or.inr (Or.inr (Or.inr (Or.inr (Or.inr (Or.inr ⟨by omega, hq⟩)))))))).tq (cSF_I (Or.inr (Or.inr (Or.inr (Or.inr (Or.inr (Or.inr ⟨by omega, hq⟩)))))))).tq (cSF_I (Or.inr (Or.inr (Or.inr (Or.inr (Or.inr (Or.inr ⟨by omega, hq⟩)))))))).tq (cSF_I (by omega))
  · simp [stAdd, gI]
  · simp [stAdd, gI]
  · simp [stAdd, gI]
end
/-- the code c stands at k, its sum's parts from p on, in the text at o -/
def cCd1 (σ : cS) (o k p : Nat) (c : Cd) : Prop :=
  σ.1 (o + 4) k = c.1 ∧ σ.1 (o + 5) k = c.2.1 ∧ ((c.1 = 0 ∨ c.1 = 3 ∨ c.1 = 4) → σ.1 (o + 6) k = nz p ∧ σ.1 (o + 7) k = nz (p + c.2.2.1.length - 1) ∧ cPA σ o p (bld p c.2.2.1 []).1) ∧ (c.1 = 1 → σ.1 (o + 6) k = c.2.2.2.1 ∧ σ.1 (o + 7) k = c.2.2.2.2.1) ∧ (c.1 = 2 → σ.1 (o + 6) k = c.2.2.2.1) ∧ ((c.1 = 1 ∨ c.1 = 4 ∨ c.1 = 5) → σ.1 (o + 8) k = c.2.2.2.2.2)
def cCd (σ : cS) (o : Nat) : Nat → Nat → List Cd → Prop
  | _, _, [] => True
  | k, p, c :: C => cCd1 σ o k p c ∧ cCd σ o (k + 1) (p + c.2.2.1.length) C
theorem cCd_app {σ : cS} {o : Nat} (C : List Cd) : ∀ {k p : Nat} {D : List Cd}, cCd σ o k p C → cCd σ o (k + C.length) (p + psz C) D → cCd σ o k p (C ++ D) := by
  induction C with
  | nil => intro k p D _ h; simpa [psz] using h
  | cons c C ih =>
    intro k p D h h'
    refine ⟨h.1, ih h.2 ?_⟩
    simp only [List.length_cons, psz] at h'
    rwa [show k + 1 + C.length = k + (C.length + 1) by omega, show p + c.2.2.1.length + psz C = p + (c.2.2.1.length + psz C) by omega]
theorem cPA_S {g : Prop} {p p' cb s : Nat} {σ σ' : cS} {E : List Pt} (h : cPA σ 6 p E) (hf : cSF g p' cb s σ σ') (hp : p + E.length ≤ p') : cPA σ' 6 p E := by
  intro k e hk
  have hl := (List.getElem?_eq_some_iff.mp hk).1
  have := h k e hk
  rw [hf.2.2.2.2.2.1 _ _ (Or.inl rfl) (by omega), hf.2.2.2.2.2.1 _ _ (Or.inr (Or.inl rfl)) (by omega), hf.2.2.2.2.2.1 _ _ (Or.inr (Or.inr rfl)) (by omega)]
  exact this
theorem cCd1_S {g : Prop} {k p p' cb s : Nat} {σ σ' : cS} {c : Cd} (h : cCd1 σ 6 k p c) (hf : cSF g p' cb s σ σ') (hg : g) (hk : k < cb) (hp : p + c.2.2.1.length ≤ p') : cCd1 σ' 6 k p c := by
  have hc : ∀ o, o = 10 ∨ o = 11 ∨ o = 12 ∨ o = 13 ∨ o = 14 → σ'.1 o k = σ.1 o k := fun o ho => hf.2.2.2.2.2.2.2 hg o k ho hk
  obtain ⟨h1, h2, h3, h4, h5, h6⟩ := h
  refine ⟨(hc _ (by omega)).trans h1, (hc _ (by omega)).trans h2, fun q => ?_, fun q => ?_, fun q => (hc _ (by omega)).trans (h5 q), fun q => (hc _ (by omega)).trans (h6 q)⟩
  · obtain ⟨a1, a2, a3⟩ := h3 q
    exact ⟨(hc _ (by omega)).trans a1, (hc _ (by omega)).trans a2, cPA_S a3 hf (by rw [bld_len]; exact hp)⟩
  · exact ⟨(hc _ (by omega)).trans (h4 q).1, (hc _ (by omega)).trans (h4 q).2⟩
theorem cCd_S {g : Prop} {p' cb s : Nat} {σ σ' : cS} (hf : cSF g p' cb s σ σ') (hg : g) (C : List Cd) : ∀ {k p : Nat}, cCd σ 6 k p C → k + C.length ≤ cb → p + psz C ≤ p' → cCd σ' 6 k p C := by
  induction C with
  | nil => intro k p _ _ _; trivial
  | cons c C ih =>
    intro k p h hk hp
    simp only [List.length_cons, psz] at hk hp
    exact ⟨cCd1_S h.1 hf hg (by omega) (by omega), ih h.2 (by omega) (by omega)⟩
/-- the bytes r are printed from s on -/
def cPr (σ : cS) (s : Nat) (r : List Int32) : Prop := ∀ k, k < r.length → σ.1 20 (s + k) = r.getD k 0
theorem cPr_pt {σ : cS} {s : Nat} {r : List Int32} : cPr (ptL σ s r) s r := by
  intro k hk
  rw [ptL_b, if_pos (by omega), show s + k - s = k by omega]
theorem cPr_S {g : Prop} {p cb s s' : Nat} {σ σ' : cS} {r : List Int32} (h : cPr σ s r) (hf : cSF g p cb s' σ σ') (hs : s + r.length ≤ s') : cPr σ' s r := by
  intro k hk
  rw [hf.2.2.2.2.2.2.1 _ (by omega)]
  exact h k hk
theorem cPr_app {σ : cS} {s : Nat} {r t : List Int32} (h : cPr σ s r) (h' : cPr σ (s + r.length) t) : cPr σ s (r ++ t) := by
  intro k hk
  by_cases hl : k < r.length
  · rw [h k hl]; simp [List.getD_eq_getElem?_getD, List.getElem?_append_left hl]
  · have := h' (k - r.length) (by rw [List.length_append] at hk; omega)
    rw [show s + r.length + (k - r.length) = s + k by omega] at this
    rw [this]; simp [List.getD_eq_getElem?_getD, List.getElem?_append_right (Nat.not_lt.mp hl)]
