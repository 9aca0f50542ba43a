set_option maxRecDepth 100000
/-! ===== THE TWIN READS SUMS AS THE GRAMMAR SAYS: the pieces ===== -/
def trS (ov : Int32) (nm : Nat → Int32) (nF : Nat) (y : Sy) : Int32 × Int32 := if y.1 = 0 then (1, y.2) else if y.1 = 1 then (if ov < 0 then 2 else 3, y.2) else if y.1 = 2 then (5, ow (fr1 nm (y.2 - 65) nF 0)) else if y.1 = 91 then (4, 0) else (y.1, 0)
def tCo (σ : cS) (tk n : Nat) (tx : Nat → Int32) (own ov : Int32) (nm : Nat → Int32) (nF : Nat) : Prop := tTx σ tk n tx ∧ σ.1 0 18 = ov ∧ ((own = -1 ∧ ov = -1) ∨ ∃ a, a < 6 ∧ own = nz (97 + a) ∧ ov = nz a) ∧ σ.1 15 = nm ∧ tRs σ nF
theorem tF0 {o0 p0 g0 m0 j : Nat} {σ σ' : cS} (h : tEF o0 p0 g0 m0 σ σ') (hj : j = 5 ∨ j = 18 ∨ j = 19 ∨ j = 37) : σ'.1 0 j = σ.1 0 j := h.2.2.1 j (by omega) (by omega) (by omega) (by omega) (by omega) (by omega) (by omega) (by omega) (by omega) (by omega) (by omega) (by omega) (by omega)
theorem tRs_F {o0 p0 g0 m0 nF : Nat} {σ σ' : cS} (h : tRs σ nF) (hf : tEF o0 p0 g0 m0 σ σ') : tRs σ' nF := by
  refine ⟨h.1, ?_⟩
  rw [tF0 hf (by omega), tF0 hf (by omega)]; exact h.2
theorem tCo_F {o0 p0 g0 m0 : Nat} {σ σ' : cS} {tk n : Nat} {tx : Nat → Int32} {own ov : Int32} {nm : Nat → Int32} {nF : Nat} (h : tCo σ tk n tx own ov nm nF) (hf : tEF o0 p0 g0 m0 σ σ') : tCo σ' tk n tx own ov nm nF := by
  obtain ⟨h1, h2, h3, h4, h5⟩ := h
  refine ⟨tTx_F h1 hf, (tF0 hf (by omega)).trans h2, h3, ?_, tRs_F h5 hf⟩
  rw [← h4]; funext j; exact hf.2.1 15 j (by decide) (by omega)
theorem rE_w (f : Nat) (σ : cS) : fX11_readE_26 (f + 1) 1 1 1 σ = bd (fX11_readOperand σ) fun r σ' => fX11_readE_26 f r (σ'.1 0 33) 1 σ' := by
  conv => lhs; unfold fX11_readE_26
  rw [if_neg (by decide), if_neg (by decide), if_neg (by decide)]
theorem rE_0 (f : Nat) (x y : Int32) (σ : cS) : fX11_readE_26 (f + 1) 0 x y σ = some (0, σ) := by
  conv => lhs; unfold fX11_readE_26
  rw [if_pos rfl, if_pos rfl, ck_t (by decide)]
theorem rE_g (f : Nat) (x : Int32) (σ : cS) : fX11_readE_26 (f + 1) 1 x 0 σ = bd (fX11_settle 0 σ) fun _ σ' => some (1, σ') := by
  conv => lhs; unfold fX11_readE_26
  rw [if_neg (by decide), if_pos rfl, if_neg (by decide)]
  congr 1
theorem rE_n (f : Nat) (σ : cS) : fX11_readE_26 (f + 1) 1 0 1 σ = bd (fX11_look σ) fun c σ5 => bd (fX11_noteBehind c σ5) fun _ σ7 => if lvC c = 2 ∨ lvC c = 1 ∨ (lvC c = 0 ∧ σ7.1 0 20 = 0) then bd (fX11_readSign c σ7) fun _ σ9 => fX11_readE_26 f 1 1 1 σ9 else fX11_readE_105 (fX11_readE_26 f) 1 0 1 c σ7 := by
  conv => lhs; unfold fX11_readE_26
  rw [if_neg (by decide), if_neg (by decide), if_pos rfl]
  congr 1; funext c σ5
  congr 1; funext _ σ7
  rw [tTim, bd_s, i10, tPlu, bd_s, i10, tCom, bd_s, i10]
  rcases lvC_in c with e | e | e | e <;> rw [e]
  · rw [if_neg (by decide), if_neg (by decide), if_neg (by decide), if_neg (by rintro (q | q | q); exact absurd q (by decide); exact absurd q (by decide); exact absurd q.1 (by decide))]
  · rw [if_neg (by decide), if_neg (by decide), if_pos rfl]
    by_cases h : σ7.1 0 20 = 0
    · rw [if_pos h, if_pos (Or.inr (Or.inr ⟨rfl, h⟩))]
    · rw [if_neg h, if_neg (by rintro (q | q | q); exact absurd q (by decide); exact absurd q (by decide); exact h q.2)]
  · rw [if_neg (by decide), if_pos rfl, if_pos (Or.inr (Or.inl rfl))]
  · rw [if_pos rfl, if_pos (Or.inl rfl)]
/-- whether a sign goes on with a sum -/
def opG (cm c : Int32) : Prop := lvC c = 2 ∨ lvC c = 1 ∨ (lvC c = 0 ∧ cm = 0)
section
variable {tk n : Nat} {tx : Nat → Int32}
/-- the sign behind is looked at, and noted -/
theorem tNorm0 {σ : cS} {i : Nat} {w : Option Nat} {o p d : Nat} {cm : Int32} {g m : Nat} {ls : Int32} (f : Nat) (T : tTx σ tk n tx) (h : tE σ i w o p d cm g m ls (-1)) (hi : i ≤ n) : fX11_readE_26 (f + 1) 1 0 1 σ = fX11_readE_26 (f + 1) 1 0 1 (stI σ 0 6 (nz (sk n tx i))) := by
  have h1 := h.go (sk n tx i)
  rw [rE_n, rE_n, tLook T h.at hi, bd_s, tLook (T.at _) h1.at (sk_le hi), bd_s, sk_sk, pk_sk, stI_stI]
theorem tNorm1 {σ : cS} {i : Nat} {w : Option Nat} {o p d : Nat} {cm : Int32} {g m : Nat} {ls : Int32} {x : Nat} (f : Nat) (T : tTx σ tk n tx) (h : tE σ i w o p d cm g m ls (nz x)) (hi : i ≤ n) (hx : x < 600) : fX11_readE_26 (f + 1) 1 0 1 σ = fX11_readE_26 (f + 1) 1 0 1 (stI (stI (stI σ 0 6 (nz (sk n tx i))) 10 x (bhd cm (pk n tx i))) 0 32 (-1)) := by
  have h1 := h.go (sk n tx i)
  have h2 := (h1.arr (a := 10) (b := x) (v := bhd cm (pk n tx i)) (by decide)).sJc (-1)
  have T2 : tTx (stI (stI (stI σ 0 6 (nz (sk n tx i))) 10 x (bhd cm (pk n tx i))) 0 32 (-1)) tk n tx := tTx_F (o0 := 0) (p0 := 0) (g0 := 0) (m0 := 0) T (((tEF_I (by omega)).tq (tEF_I (by omega))).tq (tEF_I (by omega)))
  rw [rE_n, rE_n, tLook T h.at hi, bd_s, tNoteB _ h1 hx, bd_s, tLook T2 h2.at (sk_le hi), bd_s, sk_sk, pk_sk, stI_self h2.at, tNoteN _ h2, bd_s]
theorem nd_le3 (b c : Int32) : nd b c ≤ 3 := by
  unfold nd
  split
  · decide
  · split
    · decide
    · split
      · split <;> decide
      · split
        · decide
        · split <;> decide
theorem par3 (x : Int32) (hx : x ≤ 3) (r : List Int32) : par 3 x r = r := par_le hx
theorem DA0 {σ : cS} {D : Nat → Bool} {a i j : Nat} (h : DA tx σ D a a i j) : ∀ k, i ≤ k → k < j → D k = bl (tx k) := by
  intro k h1 h2
  rw [h k h1 h2]
  have : gOb σ a a k = false := by
    cases hg : gOb σ a a k with
    | false => rfl
    | true => obtain ⟨x, x1, x2, -⟩ := gOb_iff.mp hg; omega
  rw [this, Bool.or_false]
/-- a number, a variable is put, what turned it is done -/
theorem tLeaf {σ : cS} {i : Nat} {w : Option Nat} {o p k d : Nat} {cm : Int32} {g m : Nat} {ls : Int32} (a b : Int32) (h : tE σ i w o (p + k) d cm g m ls (-1)) (h33 : σ.1 0 33 = 0) (hk : k ≤ d) (hd : d ≤ 1000) (hp : p + k ≤ 1000) (ho : o + k < 12000) (hb : ∀ x, x < k → σ.1 4 (p + x) = 33) (hbot : p = 0 ∨ σ.1 4 (p - 1) ≠ 33) :
    ∃ σ', (bd (fX11_put a b σ) fun _ σ34 => bd (fX11_atomEnds σ34) fun _ σ36 => some ((1 : Int32), σ36)) = some (1, σ') ∧ σ'.1 0 33 = 0 ∧ tE σ' i w (o + 1 + k) p (d - k) cm g m 0 (-1) ∧ (∀ x y z, tEF o x y z σ σ') ∧ tOA σ' o ((a, b) :: List.replicate k (33, 0)) := by
  rw [tPut h.od (by omega), bd_s]
  have h1 := h.put a b
  have e4 : ∀ y, (stO σ o a b).1 4 y = σ.1 4 y := fun y => by simp [stO, gI]
  obtain ⟨σ', a1, a2, a3, a4, a5⟩ := tAtomE k FU (o + 1) d ls _ (by unfold FU; omega) hk h1 (by omega) (by omega) (by omega) (fun x hx => (e4 _).trans (hb x hx)) (by rw [e4]; exact hbot)
  rw [show fX11_atomEnds (stO σ o a b) = some ((), σ') from a1, bd_s]
  refine ⟨σ', rfl, ?_, a2, fun x y z => (tEF_O (Nat.le_refl _)).tr (a3 x y z) (by omega) (Nat.le_refl _) (Nat.le_refl _) (Nat.le_refl _), ?_⟩
  · rw [a5]; simpa [stO, gI] using h33
  · exact tOA_app (E := [(a, b)]) (tOA_F tOA_one (a3 0 0 0) (by simp)) a4
theorem tOpen40 {σ : cS} {i : Nat} {w : Option Nat} {o p d : Nat} {cm : Int32} {g m : Nat} {ls : Int32} {i0 pl : Nat} (h : tE σ i w o p d cm g (m + 1) ls (-1)) (hcm : cm = 0 ∨ cm = 1) (hp : p < 1000) (hg : g < 600) (hm : m < 1000) (hW : dW d w i0) (hi : i0 ≤ pl) (hwg : wG n w) (hn : n ≤ 600) (hpl : pl ≤ 1000) (hd : d ≤ 1000) :
    ∃ σ', fX11_openBracket 40 (nz pl) σ = some ((), σ') ∧ tE σ' i (ntb (decide (8 ≤ d)) w pl) o (p + 1) (d + 1) 0 (g + 1) (m + 1 + 1) 0 (-1) ∧ (∀ a, tEF a p g m σ σ') ∧ σ'.1 0 33 = σ.1 0 33 ∧ σ'.1 4 p = 40 ∧ σ'.1 6 p = cm ∧ σ'.1 7 g = nz pl ∧ σ'.1 9 g = ls ∧ σ'.1 12 (m + 1) = nz g ∧ σ'.1 13 (m + 1) = 3 ∧ σ'.1 14 (m + 1) = -1 ∧ σ'.1 12 m = σ.1 12 m ∧ σ'.1 13 m = σ.1 13 m ∧ σ'.1 14 m = (if ls = 0 then nz g else -1) := by
  unfold fX11_openBracket
  rw [if_pos rfl]
  have h1 := h.arr (a := 7) (b := g) (v := nz pl) (by decide)
  have h2 := h1.arr (a := 9) (b := g) (v := ls) (by decide)
  have h3 := h2.arr (a := 10) (b := g) (v := 0) (by decide)
  have h4 := h3.sGr (g + 1)
  rw [h.gr, ck_n hg (by omega), nz_tn (by omega), wI_e, h1.lst, ck_n hg (by omega), wI_e, ck_n hg (by omega), wI_e, wI_e, h3.gr, nz_s, h4.lst, h4.om, nz_ps, ck_n (by omega) (by omega), nz_tn (by omega), wI_e]
  have key : ∀ v : Int32, v = (if ls = 0 then nz g else -1) → ∃ σ', (bd (fX11_pushMark 40 0 (nz pl) (stI (stI (stI (stI (stI σ 7 g (nz pl)) 9 g ls) 10 g 0) 0 26 (nz (g + 1))) 14 m v)) fun _ σ15 => bd (fX11_openE (nz g) σ15) fun _ σ17 => some ((), σ17)) = some ((), σ') ∧ tE σ' i (ntb (decide (8 ≤ d)) w pl) o (p + 1) (d + 1) 0 (g + 1) (m + 1 + 1) 0 (-1) ∧ (∀ a, tEF a p g m σ σ') ∧ σ'.1 0 33 = σ.1 0 33 ∧ σ'.1 4 p = 40 ∧ σ'.1 6 p = cm ∧ σ'.1 7 g = nz pl ∧ σ'.1 9 g = ls ∧ σ'.1 12 (m + 1) = nz g ∧ σ'.1 13 (m + 1) = 3 ∧ σ'.1 14 (m + 1) = -1 ∧ σ'.1 12 m = σ.1 12 m ∧ σ'.1 13 m = σ.1 13 m ∧ σ'.1 14 m = (if ls = 0 then nz g else -1) := by
    intro v hv
    have h5 := h4.arr (a := 14) (b := m) (v := v) (by decide)
    have F5 : ∀ a, tEF a p g m σ (stI (stI (stI (stI (stI σ 7 g (nz pl)) 9 g ls) 10 g 0) 0 26 (nz (g + 1))) 14 m v) := fun a => ((((tEF_I (by omega)).tq (tEF_I (by omega))).tq (tEF_I (by omega))).tq (tEF_I (by omega))).tq (tEF_I (by omega))
    have e33 : (stI (stI (stI (stI (stI σ 7 g (nz pl)) 9 g ls) 10 g 0) 0 26 (nz (g + 1))) 14 m v).1 0 33 = σ.1 0 33 := by simp [gI]
    have e7 : (stI (stI (stI (stI (stI σ 7 g (nz pl)) 9 g ls) 10 g 0) 0 26 (nz (g + 1))) 14 m v).1 7 g = nz pl := by simp [gI]
    have e9 : (stI (stI (stI (stI (stI σ 7 g (nz pl)) 9 g ls) 10 g 0) 0 26 (nz (g + 1))) 14 m v).1 9 g = ls := by simp [gI]
    have e12 : (stI (stI (stI (stI (stI σ 7 g (nz pl)) 9 g ls) 10 g 0) 0 26 (nz (g + 1))) 14 m v).1 12 m = σ.1 12 m := by simp [gI]
    have e13 : (stI (stI (stI (stI (stI σ 7 g (nz pl)) 9 g ls) 10 g 0) 0 26 (nz (g + 1))) 14 m v).1 13 m = σ.1 13 m := by simp [gI]
    have e14 : (stI (stI (stI (stI (stI σ 7 g (nz pl)) 9 g ls) 10 g 0) 0 26 (nz (g + 1))) 14 m v).1 14 m = v := by simp [gI]
    generalize stI (stI (stI (stI (stI σ 7 g (nz pl)) 9 g ls) 10 g 0) 0 26 (nz (g + 1))) 14 m v = σ5 at h5 F5 e33 e7 e9 e12 e13 e14 ⊢
    obtain ⟨σ6, b1, b2, b3, b4, b5, b6, b7⟩ := tPushM 40 0 h5 hcm (by omega) hW hi hwg hn hpl hd
    rw [b1, bd_s]
    obtain ⟨σ7, c1, c2, c3, c4, c5, c6, c7⟩ := tOpenE (nz g) b2 (by omega)
    rw [c1, bd_s]
    refine ⟨σ7, rfl, c2, fun a => ((F5 a).tq (b3 a g m)).tr (c3 a p g) (Nat.le_refl _) (Nat.le_refl _) (Nat.le_refl _) (by omega), ?_, ?_, ?_, ?_, ?_, c4, c5, c6, ?_, ?_, ?_⟩
    · rw [c7, b7, e33]
    · rw [(c3 0 (p + 1) 0).2.2.2.2.1 4 p (by omega) (by omega), b4]
    · rw [(c3 0 (p + 1) 0).2.2.2.2.1 6 p (by omega) (by omega), b6]
    · rw [(c3 0 0 (g + 1)).2.2.2.2.2.1 7 g (by omega) (by omega) (by omega), (b3 0 (g + 1) 0).2.2.2.2.2.1 7 g (by omega) (by omega) (by omega), e7]
    · rw [(c3 0 0 (g + 1)).2.2.2.2.2.1 9 g (by omega) (by omega) (by omega), (b3 0 (g + 1) 0).2.2.2.2.2.1 9 g (by omega) (by omega) (by omega), e9]
    · rw [(c3 0 0 0).2.2.2.2.2.2 12 m (by omega) (by omega), (b3 0 0 (m + 1)).2.2.2.2.2.2 12 m (by omega) (by omega), e12]
    · rw [(c3 0 0 0).2.2.2.2.2.2 13 m (by omega) (by omega), (b3 0 0 (m + 1)).2.2.2.2.2.2 13 m (by omega) (by omega), e13]
    · rw [(c3 0 0 0).2.2.2.2.2.2 14 m (by omega) (by omega), (b3 0 0 (m + 1)).2.2.2.2.2.2 14 m (by omega) (by omega), e14, hv]
  by_cases hl : ls = 0
  · rw [if_pos hl]
    exact key _ (by rw [if_pos hl])
  · rw [if_neg hl, ck_n (by omega) (by omega), wI_e]
    exact key _ (by rw [if_neg hl])
/-- other brackets: [ and a name's ( -/
theorem tOpenO {σ : cS} {i : Nat} {w : Option Nat} {o p d : Nat} {cm : Int32} {g m : Nat} {ls : Int32} {i0 pl : Nat} (mk nm : Int32) (h : tE σ i w o p d cm g (m + 1) ls (-1)) (hcm : cm = 0 ∨ cm = 1) (hp : p < 1000) (hm : m < 1000) (hW : dW d w i0) (hi : i0 ≤ pl) (hwg : wG n w) (hn : n ≤ 600) (hpl : pl ≤ 1000) (hd : d ≤ 1000) (j : Nat) :
    ∃ σ1, fX11_pushMark mk nm (nz pl) σ = some ((), σ1) ∧ σ1.1 0 6 = nz i ∧ ∃ σ', fX11_openE (-1) (stI σ1 0 6 (nz j)) = some ((), σ') ∧ tE σ' j (ntb (decide (8 ≤ d)) w pl) o (p + 1) (d + 1) 0 g (m + 1 + 1) 0 (-1) ∧ (∀ a c, tEF a p c (m + 1) σ σ') ∧ σ'.1 0 33 = σ.1 0 33 ∧ σ'.1 4 p = mk ∧ σ'.1 5 p = nm ∧ σ'.1 6 p = cm ∧ σ'.1 12 (m + 1) = -1 ∧ σ'.1 13 (m + 1) = 3 ∧ σ'.1 14 (m + 1) = -1 := by
  obtain ⟨σ6, b1, b2, b3, b4, b5, b6, b7⟩ := tPushM mk nm h hcm (by omega) hW hi hwg hn hpl hd
  refine ⟨σ6, b1, b2.at, ?_⟩
  obtain ⟨σ7, c1, c2, c3, c4, c5, c6, c7⟩ := tOpenE (-1) (b2.go j) (by omega)
  refine ⟨σ7, c1, c2, fun a c => ((b3 a c (m + 1)).tq (tEF_I (by omega))).tq (c3 a p c), ?_, ?_, ?_, ?_, c4, c5, c6⟩
  · rw [c7, ← b7]; simp [gI]
  · rw [(c3 0 (p + 1) 0).2.2.2.2.1 4 p (by omega) (by omega), gI, if_neg (by decide), b4]
  · rw [(c3 0 (p + 1) 0).2.2.2.2.1 5 p (by omega) (by omega), gI, if_neg (by decide), b5]
  · rw [(c3 0 (p + 1) 0).2.2.2.2.1 6 p (by omega) (by omega), gI, if_neg (by decide), b6]
end
