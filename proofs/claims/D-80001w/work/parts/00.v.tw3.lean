set_option maxRecDepth 100000
section
variable {σ : cS} {i : Nat} {w : Option Nat} {o p d : Nat} {cm : Int32} {g m : Nat} {ls jc : Int32}
theorem tE.at (h : tE σ i w o p d cm g m ls jc) : σ.1 0 6 = nz i := h.1
theorem tE.wr (h : tE σ i w o p d cm g m ls jc) : σ.1 0 7 = -1 := h.2.1
theorem tE.fa (h : tE σ i w o p d cm g m ls jc) : σ.1 0 8 = ow w := h.2.2.1
theorem tE.od (h : tE σ i w o p d cm g m ls jc) : σ.1 0 11 = nz o := h.2.2.2.1
theorem tE.pl (h : tE σ i w o p d cm g m ls jc) : σ.1 0 16 = nz p := h.2.2.2.2.1
theorem tE.dp (h : tE σ i w o p d cm g m ls jc) : σ.1 0 17 = nz d := h.2.2.2.2.2.1
theorem tE.cmp (h : tE σ i w o p d cm g m ls jc) : σ.1 0 20 = cm := h.2.2.2.2.2.2.1
theorem tE.gr (h : tE σ i w o p d cm g m ls jc) : σ.1 0 26 = nz g := h.2.2.2.2.2.2.2.1
theorem tE.om (h : tE σ i w o p d cm g m ls jc) : σ.1 0 30 = nz m := h.2.2.2.2.2.2.2.2.1
theorem tE.lst (h : tE σ i w o p d cm g m ls jc) : σ.1 0 31 = ls := h.2.2.2.2.2.2.2.2.2.1
theorem tE.jst (h : tE σ i w o p d cm g m ls jc) : σ.1 0 32 = jc := h.2.2.2.2.2.2.2.2.2.2
theorem tE.go (h : tE σ i w o p d cm g m ls jc) (j : Nat) : tE (stI σ 0 6 (nz j)) j w o p d cm g m ls jc := by
  obtain ⟨a1, a2, a3, a4, a5, a6, a7, a8, a9, a10, a11⟩ := h
  exact ⟨by simp [gI], by simpa [gI] using a2, by simpa [gI] using a3, by simpa [gI] using a4, by simpa [gI] using a5, by simpa [gI] using a6, by simpa [gI] using a7, by simpa [gI] using a8, by simpa [gI] using a9, by simpa [gI] using a10, by simpa [gI] using a11⟩
theorem tE.arr {a b : Nat} {v : Int32} (h : tE σ i w o p d cm g m ls jc) (ha : a ≠ 0) : tE (stI σ a b v) i w o p d cm g m ls jc := by
  have k : ∀ j, (stI σ a b v).1 0 j = σ.1 0 j := fun j => by rw [gI, if_neg (fun q => ha q.symm)]
  obtain ⟨a1, a2, a3, a4, a5, a6, a7, a8, a9, a10, a11⟩ := h
  exact ⟨(k _).trans a1, (k _).trans a2, (k _).trans a3, (k _).trans a4, (k _).trans a5, (k _).trans a6, (k _).trans a7, (k _).trans a8, (k _).trans a9, (k _).trans a10, (k _).trans a11⟩
theorem tE.oth {j : Nat} {v : Int32} (h : tE σ i w o p d cm g m ls jc) (hj : j = 12 ∨ j = 33) : tE (stI σ 0 j v) i w o p d cm g m ls jc := by
  have k : ∀ x, x ≠ 12 → x ≠ 33 → (stI σ 0 j v).1 0 x = σ.1 0 x := fun x h1 h2 => by rw [gI, if_pos rfl, if_neg (by omega)]
  obtain ⟨a1, a2, a3, a4, a5, a6, a7, a8, a9, a10, a11⟩ := h
  exact ⟨(k _ (by decide) (by decide)).trans a1, (k _ (by decide) (by decide)).trans a2, (k _ (by decide) (by decide)).trans a3, (k _ (by decide) (by decide)).trans a4, (k _ (by decide) (by decide)).trans a5, (k _ (by decide) (by decide)).trans a6, (k _ (by decide) (by decide)).trans a7, (k _ (by decide) (by decide)).trans a8, (k _ (by decide) (by decide)).trans a9, (k _ (by decide) (by decide)).trans a10, (k _ (by decide) (by decide)).trans a11⟩
/-- one of the numbers is written -/
theorem tE.set {j : Nat} {v : Int32} (h : tE σ i w o p d cm g m ls jc) {i' : Nat} {w' : Option Nat} {o' p' d' : Nat} {cm' : Int32} {g' m' : Nat} {ls' jc' : Int32}
    (h1 : (if 6 = j then v else nz i) = nz i') (h2 : (if 7 = j then v else -1) = -1) (h3 : (if 8 = j then v else ow w) = ow w') (h4 : (if 11 = j then v else nz o) = nz o') (h5 : (if 16 = j then v else nz p) = nz p') (h6 : (if 17 = j then v else nz d) = nz d') (h7 : (if 20 = j then v else cm) = cm') (h8 : (if 26 = j then v else nz g) = nz g') (h9 : (if 30 = j then v else nz m) = nz m') (h10 : (if 31 = j then v else ls) = ls') (h11 : (if 32 = j then v else jc) = jc') : tE (stI σ 0 j v) i' w' o' p' d' cm' g' m' ls' jc' := by
  have k : ∀ x y, σ.1 0 x = y → (stI σ 0 j v).1 0 x = if x = j then v else y := fun x y q => by rw [gI, if_pos rfl, q]
  obtain ⟨a1, a2, a3, a4, a5, a6, a7, a8, a9, a10, a11⟩ := h
  exact ⟨(k _ _ a1).trans h1, (k _ _ a2).trans h2, (k _ _ a3).trans h3, (k _ _ a4).trans h4, (k _ _ a5).trans h5, (k _ _ a6).trans h6, (k _ _ a7).trans h7, (k _ _ a8).trans h8, (k _ _ a9).trans h9, (k _ _ a10).trans h10, (k _ _ a11).trans h11⟩
theorem tE.sFa (h : tE σ i w o p d cm g m ls jc) (w' : Option Nat) : tE (stI σ 0 8 (ow w')) i w' o p d cm g m ls jc := h.set rfl rfl rfl rfl rfl rfl rfl rfl rfl rfl rfl
theorem tE.sOd (h : tE σ i w o p d cm g m ls jc) (o' : Nat) : tE (stI σ 0 11 (nz o')) i w o' p d cm g m ls jc := h.set rfl rfl rfl rfl rfl rfl rfl rfl rfl rfl rfl
theorem tE.sPl (h : tE σ i w o p d cm g m ls jc) (p' : Nat) : tE (stI σ 0 16 (nz p')) i w o p' d cm g m ls jc := h.set rfl rfl rfl rfl rfl rfl rfl rfl rfl rfl rfl
theorem tE.sDp (h : tE σ i w o p d cm g m ls jc) (d' : Nat) : tE (stI σ 0 17 (nz d')) i w o p d' cm g m ls jc := h.set rfl rfl rfl rfl rfl rfl rfl rfl rfl rfl rfl
theorem tE.sCm (h : tE σ i w o p d cm g m ls jc) (c : Int32) : tE (stI σ 0 20 c) i w o p d c g m ls jc := h.set rfl rfl rfl rfl rfl rfl rfl rfl rfl rfl rfl
theorem tE.sGr (h : tE σ i w o p d cm g m ls jc) (g' : Nat) : tE (stI σ 0 26 (nz g')) i w o p d cm g' m ls jc := h.set rfl rfl rfl rfl rfl rfl rfl rfl rfl rfl rfl
theorem tE.sOm (h : tE σ i w o p d cm g m ls jc) (m' : Nat) : tE (stI σ 0 30 (nz m')) i w o p d cm g m' ls jc := h.set rfl rfl rfl rfl rfl rfl rfl rfl rfl rfl rfl
theorem tE.sLs (h : tE σ i w o p d cm g m ls jc) (c : Int32) : tE (stI σ 0 31 c) i w o p d cm g m c jc := h.set rfl rfl rfl rfl rfl rfl rfl rfl rfl rfl rfl
theorem tE.sJc (h : tE σ i w o p d cm g m ls jc) (c : Int32) : tE (stI σ 0 32 c) i w o p d cm g m ls c := h.set rfl rfl rfl rfl rfl rfl rfl rfl rfl rfl rfl
theorem tE.put (h : tE σ i w o p d cm g m ls jc) (a b : Int32) : tE (stO σ o a b) i w (o + 1) p d cm g m ls jc := ((h.arr (by decide)).arr (by decide)).sOd _
end
theorem tAtomE {i : Nat} {w : Option Nat} {cm : Int32} {g m : Nat} {jc : Int32} {p0 : Nat} : ∀ (k f o d : Nat) (ls : Int32) (σ : cS), k < f → k ≤ d → tE σ i w o (p0 + k) d cm g m ls jc → p0 + k ≤ 1200 → o + k ≤ 12000 → d ≤ 100000 → (∀ x, x < k → σ.1 4 (p0 + x) = 33) → (p0 = 0 ∨ σ.1 4 (p0 - 1) ≠ 33) →
    ∃ σ', fX11_atomEnds_0 f σ = some ((), σ') ∧ tE σ' i w (o + k) p0 (d - k) cm g m 0 jc ∧ (∀ a b c, tEF o a b c σ σ') ∧ tOA σ' o (List.replicate k (33, 0)) ∧ σ'.1 0 33 = σ.1 0 33 := by
  intro k
  induction k with
  | zero =>
    intro f o d ls σ hf hd h hp ho hd2 h33 hb
    obtain ⟨f, rfl⟩ : ∃ e, f = e + 1 := ⟨f - 1, by omega⟩
    refine ⟨stI σ 0 31 0, ?_, h.sLs 0, fun a b c => tEF_I (by omega), by simpa using tOA_nil, by simp [gI]⟩
    unfold fX11_atomEnds_0
    rw [h.pl]
    by_cases h0 : p0 = 0
    · rw [if_pos (by rw [h0]; decide), wI_e]
    · have hb : σ.1 4 (p0 - 1) ≠ 33 := by
        rcases hb with q | q
        · exact absurd q h0
        · exact q
      rw [if_neg (by rw [nz_le0 (by omega)]; omega), nz_p (by omega), ck_n (by omega) (by omega), nz_tn (by omega), Nat.add_zero, if_neg hb, wI_e]
  | succ k ih =>
    intro f o d ls σ hf hd h hp ho hd2 h33 hb
    obtain ⟨f, rfl⟩ : ∃ e, f = e + 1 := ⟨f - 1, by omega⟩
    unfold fX11_atomEnds_0
    have hc : σ.1 4 (p0 + k) = 33 := h33 k (by omega)
    rw [h.pl, if_neg (by rw [nz_le0 (by omega)]; omega), show p0 + (k + 1) = p0 + k + 1 from rfl, nz_ps, ck_n (by omega) (by omega), nz_tn (by omega), if_pos hc, tPop h.od (by omega) (by rw [h.pl]; rfl) (by omega) hc, bd_s, wI_e]
    have h1 := (h.sPl (p0 + k)).put 33 0
    rw [h1.dp, nz_p (by omega)]
    have h2 := h1.sDp (d - 1)
    have hF : ∀ a b c, tEF o a b c σ (stI (stO (stI σ 0 16 (nz (p0 + k))) o 33 0) 0 17 (nz (d - 1))) := fun a b c => ((tEF_I (by omega)).tq (tEF_O (Nat.le_refl _))).tq (tEF_I (by omega))
    obtain ⟨σ', k1, k2, k3, k4, k5⟩ := ih f (o + 1) (d - 1) ls _ (by omega) (by omega) h2 (by omega) (by omega) (by omega) (fun x hx => by rw [(hF (p0 + k + 1) 0 0).2.2.2.2.1 4 _ (Or.inl rfl) (by omega)]; exact h33 x (by omega)) (by
      rcases hb with q | q
      · exact Or.inl q
      · refine Or.inr ?_
        rw [(hF (p0 + k + 1) 0 0).2.2.2.2.1 4 _ (Or.inl rfl) (by omega)]; exact q)
    refine ⟨σ', k1, ?_, fun a b c => (hF a b c).tr (k3 a b c) (by omega) (Nat.le_refl _) (Nat.le_refl _) (Nat.le_refl _), ?_, by rw [k5]; simp [stO, gI]⟩
    · rw [show o + (k + 1) = o + 1 + k by omega, show d - (k + 1) = d - 1 - k by omega]; exact k2
    · rw [List.replicate_succ]
      refine tOA_app (E := [(33, 0)]) ?_ k4
      have e1 : tOA (stI (stO (stI σ 0 16 (nz (p0 + k))) o 33 0) 0 17 (nz (d - 1))) o [(33, 0)] := tOA_F (o0 := o + 1) (p0 := 0) (g0 := 0) (m0 := 0) tOA_one (tEF_I (by omega)) (by simp)
      exact tOA_F e1 (k3 0 0 0) (by simp)
theorem tHasM {σ : cS} {p : Nat} (hp : σ.1 0 16 = nz p) (hp2 : p ≤ 1200) : ∀ (f x : Nat) (b : Bool), x ≤ p → p - x < f → fX11_hasMark_4 f (if b = true then 1 else 0) (nz x) σ = some (if (b || (List.range' x (p - x)).any (fun k => mkB (σ.1 4 k))) = true then 1 else 0, σ) := by
  intro f
  induction f with
  | zero => intro x b _ h; omega
  | succ f ih =>
    intro x b hx hf
    unfold fX11_hasMark_4
    rw [hp]
    by_cases hlt : x < p
    · obtain ⟨r, hr⟩ : ∃ r, p - x = r + 1 := ⟨p - x - 1, by omega⟩
      rw [if_neg (by rw [nz_le (by omega) (by omega)]; omega), ck_n (by omega) (by omega), nz_tn (by omega), tMrk, bd_s, i10, i10, nz_s, hr, List.range'_succ, List.any_cons]
      have e1 := ih (x + 1) true (by omega) (by omega)
      have e0 := ih (x + 1) false (by omega) (by omega)
      rw [show p - (x + 1) = r by omega] at e1 e0
      rw [if_pos rfl] at e1
      rw [if_neg (by decide)] at e0
      cases b with
      | true => rw [if_pos rfl, e1]; simp
      | false =>
        rw [if_neg (by decide)]
        by_cases hm : mkB (σ.1 4 x) = true
        · rw [if_pos hm, e1]; simp [hm]
        · have hm' : mkB (σ.1 4 x) = false := by simpa using hm
          rw [if_neg hm, e0, hm']; simp only [Bool.false_or]
    · rw [if_pos (by rw [nz_le (by omega) (by omega)]; omega), show p - x = 0 by omega]
      cases b <;> rfl
theorem tHas {σ : cS} {p : Nat} (hp : σ.1 0 16 = nz p) (hp2 : p ≤ 1200) : fX11_hasMark σ = some (if (List.range p).any (fun k => mkB (σ.1 4 k)) = true then 1 else 0, σ) := by
  have := tHasM hp hp2 FU 0 false (by omega) (by unfold FU; omega)
  rw [Nat.sub_zero] at this
  rw [if_neg (by decide), Bool.false_or, ← List.range_eq_range'] at this
  exact this
theorem tHas1 {σ : cS} {p x : Nat} (hp : σ.1 0 16 = nz p) (hp2 : p ≤ 1200) (hx : x < p) (hm : mkB (σ.1 4 x) = true) : fX11_hasMark σ = some (1, σ) := by
  rw [tHas hp hp2, if_pos]
  exact List.any_eq_true.mpr ⟨x, List.mem_range.mpr hx, hm⟩
theorem tHas0 {σ : cS} {p : Nat} (hp : σ.1 0 16 = nz p) (hp2 : p ≤ 1200) (hm : ∀ x, x < p → mkB (σ.1 4 x) = false) : fX11_hasMark σ = some (0, σ) := by
  rw [tHas hp hp2, if_neg]
  intro q
  obtain ⟨x, h1, h2⟩ := List.any_eq_true.mp q
  rw [hm x (List.mem_range.mp h1)] at h2
  cases h2
/-- the sign behind a bracket, if it goes on with it -/
def bhd (cm c : Int32) : Int32 := if lvC c = 2 ∨ lvC c = 1 ∨ (lvC c = 0 ∧ cm = 0) then c else 0
theorem tNoteB {σ : cS} {i : Nat} {w : Option Nat} {o p d : Nat} {cm : Int32} {g m : Nat} {ls : Int32} {x : Nat} (c : Int32) (h : tE σ i w o p d cm g m ls (nz x)) (hx : x < 600) : fX11_noteBehind c σ = some ((), stI (stI σ 10 x (bhd cm c)) 0 32 (-1)) := by
  unfold fX11_noteBehind bhd
  rw [h.jst, if_neg (nz_ge0 (by omega)), tTim, bd_s, i10, tPlu, bd_s, i10, tCom, bd_s, i10, h.cmp, ck_n hx (by omega), ck_n hx (by omega), nz_tn (by omega)]
  simp only [wI_e]
  rcases lvC_in c with e | e | e | e <;> rw [e]
  · rfl
  · by_cases hc : cm = 0
    · simp [hc]
    · simp [hc]
  · rfl
  · rfl
theorem tNoteN {σ : cS} {i : Nat} {w : Option Nat} {o p d : Nat} {cm : Int32} {g m : Nat} {ls : Int32} (c : Int32) (h : tE σ i w o p d cm g m ls (-1)) : fX11_noteBehind c σ = some ((), σ) := by
  unfold fX11_noteBehind
  rw [h.jst, if_pos (by decide)]
theorem tOpenE {σ : cS} {i : Nat} {w : Option Nat} {o p d : Nat} {cm : Int32} {g m : Nat} {ls jc : Int32} (gr : Int32) (h : tE σ i w o p d cm g m ls jc) (hm : m < 1200) : ∃ σ', fX11_openE gr σ = some ((), σ') ∧ tE σ' i w o p d cm g (m + 1) 0 (-1) ∧ (∀ a b c, tEF a b c m σ σ') ∧ σ'.1 12 m = gr ∧ σ'.1 13 m = 3 ∧ σ'.1 14 m = -1 ∧ σ'.1 0 33 = σ.1 0 33 := by
  refine ⟨stI (stI (stI (stI (stI (stI σ 12 m gr) 13 m 3) 14 m (-1)) 0 30 (nz (m + 1))) 0 31 0) 0 32 (-1), ?_, ((((((h.arr (by decide)).arr (by decide)).arr (by decide)).sOm _).sLs _).sJc _), fun a b c => ?_, by simp [gI], by simp [gI], by simp [gI], by simp [gI]⟩
  · unfold fX11_openE
    have h1 := h.arr (a := 12) (b := m) (v := gr) (by decide)
    have h2 := h1.arr (a := 13) (b := m) (v := 3) (by decide)
    have h3 := h2.arr (a := 14) (b := m) (v := -1) (by decide)
    rw [h.om, ck_n hm (by omega), nz_tn (by omega), wI_e, h1.om, ck_n hm (by omega), nz_tn (by omega), wI_e, h2.om, ck_n hm (by omega), nz_tn (by omega), wI_e, wI_e, h3.om, nz_s]
    rfl
  · exact (((((tEF_I (by omega)).tq (tEF_I (by omega))).tq (tEF_I (by omega))).tq (tEF_I (by omega))).tq (tEF_I (by omega))).tq (tEF_I (by omega))
/-- deeper than 9: a fault is noted already, ahead of it -/
def dW (dep : Nat) (w : Option Nat) (i : Nat) : Prop := 9 ≤ dep → ∃ f, w = some f ∧ f ≤ i
theorem nt_le {w : Option Nat} {p : Nat} : ∃ f, nt w p = some f ∧ f ≤ p := by
  unfold nt
  cases w with
  | none => exact ⟨p, rfl, Nat.le_refl _⟩
  | some q =>
    by_cases h : p < q
    · exact ⟨p, by simp [h], Nat.le_refl _⟩
    · exact ⟨q, by simp [h], by omega⟩
theorem dW_go {dep i pl : Nat} {w : Option Nat} (h : dW dep w i) (hi : i ≤ pl) : (if dep + 1 = 9 then nt w pl else w) = ntb (decide (8 ≤ dep)) w pl ∧ dW (dep + 1) (ntb (decide (8 ≤ dep)) w pl) pl := by
  by_cases h8 : dep = 8
  · subst h8
    refine ⟨by simp [ntb], fun _ => ?_⟩
    simp only [ntb, Nat.le_refl, decide_true, if_true]
    exact nt_le
  · by_cases h9 : 9 ≤ dep
    · obtain ⟨f, rfl, hf⟩ := h h9
      have e : nt (some f) pl = some f := by simp [nt]; intro q; omega
      have e2 : ntb (decide (8 ≤ dep)) (some f) pl = some f := by unfold ntb; rw [if_pos (by simp; omega)]; exact e
      rw [e2, if_neg (by omega)]
      exact ⟨rfl, fun _ => ⟨f, rfl, by omega⟩⟩
    · have e2 : ntb (decide (8 ≤ dep)) w pl = w := by unfold ntb; rw [if_neg (by simp; omega)]
      rw [e2, if_neg (by omega)]
      exact ⟨rfl, fun q => by omega⟩
theorem dW_mono {dep i j : Nat} {w : Option Nat} (h : dW dep w i) (hj : i ≤ j) : dW dep w j := fun q => by
  obtain ⟨f, h1, h2⟩ := h q
  exact ⟨f, h1, by omega⟩
theorem tGoD {σ : cS} {i : Nat} {w : Option Nat} {o p d : Nat} {cm : Int32} {g m n : Nat} {ls jc : Int32} {i0 pl : Nat} (h : tE σ i w o p d cm g m ls jc) (hW : dW d w i0) (hi : i0 ≤ pl) (hg : wG n w) (hn : n ≤ 600) (hpl : pl ≤ 1000) (hd : d ≤ 1000) : ∃ σ', fX11_goDeeper (nz pl) σ = some ((), σ') ∧ tE σ' i (ntb (decide (8 ≤ d)) w pl) o p (d + 1) cm g m ls jc ∧ (∀ a b c e, tEF a b c e σ σ') ∧ (∀ x y, x ≠ 0 → σ'.1 x y = σ.1 x y) ∧ σ'.1 0 33 = σ.1 0 33 := by
  unfold fX11_goDeeper
  rw [h.dp, nz_s, wI_e]
  have h1 := h.sDp (d + 1)
  rw [h1.dp, show (9 : Int32) = nz 9 from rfl]
  have hgo := (dW_go hW hi).1
  by_cases h9 : d + 1 = 9
  · rw [if_pos (by rw [h9])]
    rw [if_pos h9] at hgo
    rw [tBlame h1.fa hg hn hpl, bd_s, hgo]
    refine ⟨_, rfl, h1.sFa _, fun a b c e => (tEF_I (by omega)).tq (tEF_I (by omega)), fun x y hx => ?_, by simp [gI]⟩
    simp [gI, hx]
  · rw [if_neg (by rw [nz_inj (by omega) (by omega)]; exact h9)]
    rw [if_neg h9] at hgo
    rw [← hgo]
    exact ⟨_, rfl, h1, fun a b c e => tEF_I (by omega), fun x y hx => by simp [gI, hx], by simp [gI]⟩
theorem tPushM {σ : cS} {i : Nat} {w : Option Nat} {o p d : Nat} {cm : Int32} {g m n : Nat} {ls jc : Int32} {i0 pl : Nat} (mk nm : Int32) (h : tE σ i w o p d cm g m ls jc) (hcm : cm = 0 ∨ cm = 1) (hp : p < 1200) (hW : dW d w i0) (hi : i0 ≤ pl) (hg : wG n w) (hn : n ≤ 600) (hpl : pl ≤ 1000) (hd : d ≤ 1000) :
    ∃ σ', fX11_pushMark mk nm (nz pl) σ = some ((), σ') ∧ tE σ' i (ntb (decide (8 ≤ d)) w pl) o (p + 1) (d + 1) 0 g m ls jc ∧ (∀ a c e, tEF a p c e σ σ') ∧ σ'.1 4 p = mk ∧ σ'.1 5 p = nm ∧ σ'.1 6 p = cm ∧ σ'.1 0 33 = σ.1 0 33 := by
  unfold fX11_pushMark
  have h1 := h.arr (a := 4) (b := p) (v := mk) (by decide)
  have h2 := h1.arr (a := 5) (b := p) (v := nm) (by decide)
  have ecm : vp_nar .boolean cm = cm := by rcases hcm with rfl | rfl <;> rfl
  have h3 := h2.arr (a := 6) (b := p) (v := cm) (by decide)
  rw [h.pl, ck_n hp (by omega), nz_tn (by omega), wI_e, h1.pl, ck_n hp (by omega), nz_tn (by omega), wI_e, h2.pl, ck_n hp (by omega), nz_tn (by omega), h2.cmp, ecm, wI_e, wI_e, h3.pl, nz_s, wI_e]
  have h5 := (h3.sPl (p + 1)).sCm 0
  obtain ⟨σ', k1, k2, k3, k4, k5⟩ := tGoD h5 hW hi hg hn hpl hd
  rw [k1, bd_s]
  refine ⟨σ', rfl, k2, fun a c e => ((((((tEF_I (by omega)).tq (tEF_I (by omega))).tq (tEF_I (by omega))).tq (tEF_I (by omega))).tq (tEF_I (by omega))).tq (k3 a p c e)), ?_, ?_, ?_, by rw [k5]; simp [gI]⟩
  · rw [k4 _ _ (by decide)]; simp [gI]
  · rw [k4 _ _ (by decide)]; simp [gI]
  · rw [k4 _ _ (by decide)]; simp [gI]
theorem tLower {σ : cS} {i : Nat} {w : Option Nat} {o p d : Nat} {cm : Int32} {g m : Nat} {ls jc : Int32} (l : Int32) (h : tE σ i w o p d cm g (m + 1) ls jc) (hm : m < 1200) : ∃ σ', fX11_lower l σ = some ((), σ') ∧ tE σ' i w o p d cm g (m + 1) ls jc ∧ (∀ a b c, tEF a b c m σ σ') ∧ σ'.1 13 m = (if σ.1 13 m ≤ l then σ.1 13 m else l) ∧ (∀ x y, x ≠ 13 → σ'.1 x y = σ.1 x y) := by
  unfold fX11_lower
  rw [h.om, nz_ps, ck_n hm (by omega), nz_tn (by omega)]
  by_cases hl : σ.1 13 m ≤ l
  · rw [if_pos hl, if_pos hl]
    exact ⟨σ, rfl, h, fun a b c => tEF.rf, rfl, fun _ _ _ => rfl⟩
  · rw [if_neg hl, if_neg hl, ck_n hm (by omega), wI_e]
    refine ⟨_, rfl, h.arr (by decide), fun a b c => tEF_I (by omega), by simp [gI], fun x y hx => by simp [gI, hx]⟩
