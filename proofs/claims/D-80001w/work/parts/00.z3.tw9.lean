set_option maxRecDepth 100000
section
variable {n : Nat} {tx : Nat → Int32}
theorem DA.sub {σ : cS} {D : Nat → Bool} {a b i j i' j' : Nat} (h : DA tx σ D a b i j) (h1 : i ≤ i') (h2 : j' ≤ j) : DA tx σ D a b i' j' := fun k k1 k2 => h k (by omega) (by omega)
theorem PC_num {σ : cS} {g i : Nat} (hlt : sk n tx i < n) (hd : isI (tx (sk n tx i)) 48 57 = true) : PC n tx σ g g i (sk n tx (pNm n tx (sk n tx i)).1) (pNm n tx (sk n tx i)).2.1 := by
  intro D hD
  have h0 := DA0 hD
  have hsg := sk_ge (n := n) (tx := tx) i
  have hg := pNm_gt (n := n) (tx := tx) (sk n tx i)
  have hsg2 := sk_ge (n := n) (tx := tx) (pNm n tx (sk n tx i)).1
  refine ⟨true, ?_⟩
  rw [out_sk (DA_sk hD (by omega)), out_n hlt (by rw [h0 _ hsg (by omega)]; exact dig_nb _ hd) hd, out_sk (i := (pNm n tx (sk n tx i)).1) (fun k k1 k2 => by rw [h0 k (by omega) k2]; exact (sk_blank k1 k2).2)]
/-- a sign that is kept, and what comes behind it -/
theorem PC_pre {σ : cS} {g g' i j : Nat} {c : Int32} {L : List Int32} (hlt : sk n tx i < n) (hn : n ≤ 600) (hc : tx (sk n tx i) = c) (hd : isI c 48 57 = false) (hb : bl c = false) (hj : sk n tx i + 1 ≤ j) (hj2 : j ≤ n) (hG : GI σ g g' (sk n tx i + 1) j) (hP : PC n tx σ g g' (sk n tx i + 1) j L) : PC n tx σ g g' i j (c :: L) := by
  intro D hD
  have hsg := sk_ge (n := n) (tx := tx) i
  obtain ⟨f, e⟩ := hP D (hD.sub (by omega) (Nat.le_refl _))
  refine ⟨f, ?_⟩
  have hDs : D (sk n tx i) = false := by rw [hD _ hsg (by omega), gOb_out hG (by omega) (Or.inl (by omega)) (by omega), hc, hb]; rfl
  rw [out_sk (DA_sk hD (by omega)), out_c hlt hDs (by rw [hc]; exact hd), hc, e]
  rfl
theorem PC_post {σ : cS} {g g' i v : Nat} {c : Int32} {L : List Int32} (hlt : v < n) (hn : n ≤ 600) (hiv : i ≤ v) (hc : tx v = c) (hd : isI c 48 57 = false) (hb : bl c = false) (hG : GI σ g g' i v) (hP : PC n tx σ g g' i v L) : PC n tx σ g g' i (sk n tx (v + 1)) (L ++ [c]) := by
  intro D hD
  have hsg := sk_ge (n := n) (tx := tx) (v + 1)
  have hsl := sk_le (n := n) (tx := tx) (i := v + 1) (by omega)
  obtain ⟨f, e⟩ := hP D (hD.sub (Nat.le_refl _) (by omega))
  refine ⟨false, ?_⟩
  have hDs : D v = false := by rw [hD _ hiv (by omega), gOb_out hG (by omega) (Or.inr (Nat.le_refl _)) (by omega), hc, hb]; rfl
  rw [e, out_c hlt hDs (by rw [hc]; exact hd), hc, out_sk (i := v + 1) (fun k k1 k2 => by rw [hD k (by omega) k2, (sk_blank k1 k2).2]; rfl), List.append_assoc]
  rfl
/-- a group: its brackets go, or stay -/
theorem PC_par {σ : cS} {g g' i v : Nat} {β bh lev : Int32} {pr : List Int32} (hlt : sk n tx i < n) (hn : n ≤ 600) (hg : g < g') (huv : sk n tx i + 1 ≤ v) (hv : v < n) (hu : tx (sk n tx i) = 40) (hvc : tx v = 41) (h7 : σ.1 7 g = nz (sk n tx i)) (h8 : σ.1 8 g = nz v) (h9 : σ.1 9 g = β) (h10 : σ.1 10 g = bh) (h11 : σ.1 11 g = lev)
    (hG : GI σ (g + 1) g' (sk n tx i + 1) v) (hP : PC n tx σ (g + 1) g' (sk n tx i + 1) v pr) : PC n tx σ g g' i (sk n tx (v + 1)) (par lev (nd β bh) pr) := by
  intro D hD
  have hsg := sk_ge (n := n) (tx := tx) i
  have hsg2 := sk_ge (n := n) (tx := tx) (v + 1)
  have hsl2 := sk_le (n := n) (tx := tx) (i := v + 1) (by omega)
  have h1 : ∀ k, gOb σ g (g + 1) k = (decide (nd β bh ≤ lev) && (decide (nz (sk n tx i) = nz k) || decide (nz v = nz k))) := by
    intro k
    unfold gOb
    rw [show g + 1 - g = 1 by omega]
    simp [List.range', h7, h8, h9, h10, h11]
  have hDin : DA tx σ D (g + 1) g' (sk n tx i + 1) v := by
    intro k k1 k2
    rw [hD k (by omega) (by omega), gOb_app (b := g + 1) (by omega) (by omega), h1]
    have e1 : decide (nz (sk n tx i) = nz k) = false := decide_eq_false (by rw [nz_inj (by omega) (by omega)]; omega)
    have e2 : decide (nz v = nz k) = false := decide_eq_false (by rw [nz_inj (by omega) (by omega)]; omega)
    rw [e1, e2]; simp
  obtain ⟨f, e⟩ := hP D hDin
  have hDu : D (sk n tx i) = decide (nd β bh ≤ lev) := by
    rw [hD _ hsg (by omega), gOb_app (b := g + 1) (by omega) (by omega), h1, gOb_out hG (by omega) (Or.inl (by omega)) (by omega), hu]
    rw [decide_eq_true rfl, show bl 40 = false by decide]
    simp
  have hDv : D v = decide (nd β bh ≤ lev) := by
    rw [hD _ (by omega) (by omega), gOb_app (b := g + 1) (by omega) (by omega), h1, gOb_out hG (by omega) (Or.inr (Nat.le_refl _)) (by omega), hvc]
    rw [decide_eq_true (p := nz v = nz v) rfl, show bl 41 = false by decide]
    simp
  have hbl : ∀ k, v + 1 ≤ k → k < sk n tx (v + 1) → D k = true := fun k k1 k2 => by rw [hD k (by omega) k2, (sk_blank k1 k2).2]; rfl
  unfold par
  by_cases hnd : nd β bh ≤ lev
  · rw [if_pos hnd]
    rw [decide_eq_true hnd] at hDu hDv
    refine ⟨f, ?_⟩
    rw [out_sk (DA_sk hD (by omega)), out_D hlt hDu, e, out_D hv hDv, out_sk (i := v + 1) hbl]
  · rw [if_neg hnd]
    rw [decide_eq_false hnd] at hDu hDv
    refine ⟨false, ?_⟩
    rw [out_sk (DA_sk hD (by omega)), out_c hlt hDu (by rw [hu]; decide), hu, e, out_c hv hDv (by rw [hvc]; decide), hvc, out_sk (i := v + 1) hbl]
    simp
end
section
variable {tk n : Nat} {tx : Nat → Int32} {own ov : Int32} {nm : Nat → Int32} {nF B : Nat}
theorem nz_le_of {a x : Nat} (h : nz a = nz x) (ha : a < 2147483648) : a ≤ x := by
  by_cases hx : x < 2147483648
  · rw [nz_inj ha hx] at h; omega
  · omega
/-- where an atom begins, k times turned -/
def tAH (B tk n : Nat) (tx : Nat → Int32) (own ov : Int32) (nm : Nat → Int32) (nF : Nat) (σ : cS) (i : Nat) (w : Option Nat) (o p k dep g m f : Nat) (cm β : Int32) : Prop :=
  nbr n tx i + 2 ≤ f ∧ i ≤ n ∧ wG n w ∧ dW dep w i ∧ tCo σ tk n tx own ov nm nF ∧ tE σ i w o (p + k) dep cm g (m + 1) β (-1) ∧ (cm = 0 ∨ cm = 1) ∧ p + k ≤ i ∧ g ≤ i ∧ m ≤ i ∧ dep ≤ i ∧ k ≤ dep ∧ o + (p + k) ≤ B + 3 * i ∧ (∀ x, x < k → σ.1 4 (p + x) = 33) ∧ (p = 0 ∨ σ.1 4 (p - 1) ≠ 33) ∧ (0 < k → β = 33)
/-- where a bracket was opened -/
def tIH (B tk n : Nat) (tx : Nat → Int32) (own ov : Int32) (nm : Nat → Int32) (nF : Nat) (σ : cS) (mk gr : Int32) (i : Nat) (w : Option Nat) (o p k dep g m f : Nat) (cm : Int32) : Prop :=
  nbr n tx i + 2 ≤ f ∧ i ≤ n ∧ 1 ≤ i ∧ wG n (ntb (decide (8 ≤ dep)) w (i - 1)) ∧ dW (dep + 1) (ntb (decide (8 ≤ dep)) w (i - 1)) i ∧ tCo σ tk n tx own ov nm nF ∧ tE σ i (ntb (decide (8 ≤ dep)) w (i - 1)) o (p + k + 1) (dep + 1) 0 g (m + 1 + 1) 0 (-1) ∧ p + k + 1 ≤ i ∧ g ≤ i ∧ m + 1 ≤ i ∧ dep + 1 ≤ i ∧ k ≤ dep ∧ o + (p + k + 1) ≤ B + 3 * i ∧ (mk = 40 ∨ mk = 91 ∨ mk = 78) ∧ σ.1 4 (p + k) = mk ∧ σ.1 6 (p + k) = cm ∧ (cm = 0 ∨ cm = 1) ∧ (∀ x, x < k → σ.1 4 (p + x) = 33) ∧ (p = 0 ∨ σ.1 4 (p - 1) ≠ 33) ∧ σ.1 12 (m + 1) = gr ∧ σ.1 13 (m + 1) = 3 ∧ σ.1 14 (m + 1) = -1 ∧ (gr = -1 ∨ ∃ x, x < g ∧ gr = nz x)
theorem tAtom (hB : B ≤ 9000) {N : Nat} {A : Nat → Nat → Option Nat → ER} {I : Nat → Int32 → Nat → Option Nat → ER}
    (fA : ∀ dep i w q, i ≤ n → A dep i w = .ok q → GFa n tx i w q) (fI : ∀ dep cl i w q, cl ≠ -1 → 1 ≤ i → i ≤ n → I dep cl i w = .ok q → GF n tx i w q ∧ q.2.2.2.1.length + 1 + nbr n tx q.1 ≤ nbr n tx i)
    (hA : ∀ σ i w o p k dep g m f cm β, tAH B tk n tx own ov nm nF σ i w o p k dep g m f cm β → nbr n tx i < N → tAR n tx ov nm nF σ i o p k dep g m f cm β (fX11_readE_26 f 1 1 1 σ) (A dep i w))
    (hI : ∀ σ mk gr i w o p k dep g m f cm cl, cl = (if mk = 91 then 93 else 41) → nbr n tx i < N → tIH B tk n tx own ov nm nF σ mk gr i w o p k dep g m f cm → tIR n tx ov nm nF σ mk gr i o p k dep g m f cm cl (fX11_readE_26 f 1 1 1 σ) (I dep cl i w))
    {σ : cS} {i : Nat} {w : Option Nat} {o p k dep g m f : Nat} {cm β : Int32} (hN : nbr n tx i ≤ N) (H : tAH B tk n tx own ov nm nF σ i w o p k dep g m f cm β) :
    tAR n tx ov nm nF σ i o p k dep g m f cm β (fX11_readE_26 f 1 1 1 σ) (pAt n tx own A I dep i w) := by
  obtain ⟨hf, hi, hwg, hW, C, h, hcm, hpk, hgi, hmi, hdi, hkd, ho, h33, hbot, hβ⟩ := H
  have hn6 : n ≤ 600 := C.1.2.2.2.2.2.1
  have hsg := sk_ge (n := n) (tx := tx) i
  have hsl := sk_le (n := n) (tx := tx) hi
  have hns := nbr_sk (n := n) (tx := tx) i
  obtain ⟨f, rfl⟩ : ∃ e, f = e + 1 := ⟨f - 1, by omega⟩
  rw [rE_w]
  unfold fX11_readOperand pAt
  rw [tLook C.1 h.at hi, bd_s, wI_e, tFig, bd_s, i10]
  have h1 := (h.go (sk n tx i))
  have h3 := h1.oth (j := 33) (v := 0) (Or.inr rfl)
  have e33 : (stI (stI σ 0 6 (nz (sk n tx i))) 0 33 0).1 0 33 = 0 := by simp [gI]
  have F3 : ∀ a b c e, tEF a b c e σ (stI (stI σ 0 6 (nz (sk n tx i))) 0 33 0) := fun a b c e => (tEF_I (by omega)).tq (tEF_I (by omega))
  have g3 : ∀ x y, x ≠ 0 → (stI (stI σ 0 6 (nz (sk n tx i))) 0 33 0).1 x y = σ.1 x y := fun x y hx => by simp [gI, hx]
  rw [h1.at]
  by_cases c1 : isI (pk n tx i) 48 57 = true
  · -- a number
    rw [if_pos c1, if_pos c1]
    obtain ⟨a, ha, ea⟩ := isI_dig c1
    obtain ⟨hlt, etx⟩ := pkc_ne (n := n) (tx := tx) (i := i) (by rw [ea]; exact nz_m1 (by omega))
    have htk := nbr_tk hlt
    have hd1 : isI (tx (sk n tx i)) 48 57 = true := by rw [etx]; exact c1
    obtain ⟨g1, g2, ⟨b, hb, eb1, eb2⟩, g4, g5⟩ := pNm_facts (tx := tx) hlt hd1 dig_nb
    have C3 := tCo_F C (F3 0 0 0 0)
    generalize stI (stI σ 0 6 (nz (sk n tx i))) 0 33 0 = σ3 at h3 e33 F3 g3 C3 ⊢
    rw [tTakeN C3.1 h3.at hsl (by rw [pk_sk]; exact c1), bd_s, sk_sk]
    have h4 := (h3.go (pNm n tx (sk n tx i)).1).oth (j := 12) (v := (pNm n tx (sk n tx i)).2.2) (Or.inl rfl)
    have F4 : ∀ a b c e, tEF a b c e σ (stI (stI σ3 0 6 (nz (pNm n tx (sk n tx i)).1)) 0 12 (pNm n tx (sk n tx i)).2.2) := fun a b c e => ((F3 a b c e).tq (tEF_I (by omega))).tq (tEF_I (by omega))
    have g4' : ∀ x y, x ≠ 0 → (stI (stI σ3 0 6 (nz (pNm n tx (sk n tx i)).1)) 0 12 (pNm n tx (sk n tx i)).2.2).1 x y = σ.1 x y := fun x y hx => by rw [← g3 x y hx]; simp [gI, hx]
    have e33' : (stI (stI σ3 0 6 (nz (pNm n tx (sk n tx i)).1)) 0 12 (pNm n tx (sk n tx i)).2.2).1 0 33 = 0 := by simpa [gI] using e33
    have e12 : (stI (stI σ3 0 6 (nz (pNm n tx (sk n tx i)).1)) 0 12 (pNm n tx (sk n tx i)).2.2).1 0 12 = (pNm n tx (sk n tx i)).2.2 := by simp [gI]
    rw [e12]
    generalize stI (stI σ3 0 6 (nz (pNm n tx (sk n tx i)).1)) 0 12 (pNm n tx (sk n tx i)).2.2 = σ4 at h4 F4 g4' e33' ⊢
    obtain ⟨σ5, a1, a2, h5, F5, O5⟩ := tLeaf 1 (pNm n tx (sk n tx i)).2.2 h4 e33' hkd (by omega) (by omega) (by omega) (fun x hx => (g4' _ _ (by decide)).trans (h33 x hx)) (by rw [g4' _ _ (by decide)]; exact hbot)
    rw [a1, bd_s, a2]
    have FF : ∀ b c e, tEF o b c e σ σ5 := fun b c e => (F4 o b c e).tq (F5 b c e)
    have C5 := tCo_F C (FF 0 0 0)
    have hgt := pNm_gt (n := n) (tx := tx) (sk n tx i)
    obtain ⟨f, rfl⟩ : ∃ e, f = e + 1 := ⟨f - 1, by omega⟩
    rw [tNorm0 f C5.1 h5 g2]
    have kk : ∀ y, 11 ≤ y → y ≤ 14 → (stI σ5 0 6 (nz (sk n tx (pNm n tx (sk n tx i)).1))).1 y m = σ.1 y m := by
      intro y y1 y2
      rw [gI, if_neg (by omega)]
      by_cases y11 : y = 11
      · exact (FF 0 (m + 1) 0).2.2.2.2.2.1 y m (by omega) (by omega) (by omega)
      · exact (FF 0 0 (m + 1)).2.2.2.2.2.2 y m (by omega) (by omega)
    refine ⟨f + 1, _, g, rfl, ?_, ?_, ?_, (FF p g m).tq (tEF_I (by omega)), Nat.le_refl _, by simp only; omega, GI_nil, ?_, kk 12 (by omega) (by omega), kk 13 (by omega) (by omega), fun q => Or.inr ⟨(kk 14 (by omega) (by omega)).trans q, fun _ => rfl⟩, fun q => by unfold alR at q ⊢; rw [kk 14 (by omega) (by omega)]; exact q⟩
    · simp only; omega
    · exact h5.go _
    · refine tOA_F (o0 := o + 1 + k) (p0 := 0) (g0 := 0) (m0 := 0) ?_ (tEF_I (by omega)) (by simp; omega)
      simpa [trS] using O5
    · simp only
      rw [par3 _ (nd_le3 _ _)]
      exact PC_num hlt hd1
  · rw [if_neg c1, if_neg c1, tVar, bd_s, i10]
    by_cases c2 : isI (pk n tx i) 97 102 = true
    · -- a variable
      rw [if_pos c2, if_pos c2]
      obtain ⟨a, ha1, ha2, ea⟩ := isI_lo7 (a := 97) (b := 102) c2 (by omega) (by omega)
      obtain ⟨hlt, etx⟩ := pkc_ne (n := n) (tx := tx) (i := i) (by rw [ea]; exact nz_m1 (by omega))
      have htk := nbr_tk hlt
      have C3 := tCo_F C (F3 0 0 0 0)
      generalize stI (stI σ 0 6 (nz (sk n tx i))) 0 33 0 = σ3 at h3 e33 F3 g3 C3 ⊢
      rw [wI_e, h3.at, nz_s]
      have h4 := h3.go (sk n tx i + 1)
      have F4 : ∀ a b c e, tEF a b c e σ (stI σ3 0 6 (nz (sk n tx i + 1))) := fun a b c e => (F3 a b c e).tq (tEF_I (by omega))
      have g4 : ∀ x y, x ≠ 0 → (stI σ3 0 6 (nz (sk n tx i + 1))).1 x y = σ.1 x y := fun x y hx => by rw [← g3 x y hx]; simp [gI, hx]
      have e33' : (stI σ3 0 6 (nz (sk n tx i + 1))).1 0 33 = 0 := by simpa [gI] using e33
      have C4 := tCo_F C (F4 0 0 0 0)
      generalize stI σ3 0 6 (nz (sk n tx i + 1)) = σ4 at h4 F4 g4 e33' C4 ⊢
      rw [C4.2.1]
      have e97 : pk n tx i - 97 = nz (a - 97) := by rw [ea]; exact nz_sub (b := 97) ha1
      -- what is noted, and then the order
      have fin : ∀ (σ5 : cS) (w' : Option Nat), tE σ5 (sk n tx i + 1) w' o (p + k) dep cm g (m + 1) β (-1) → (∀ a b c e, tEF a b c e σ σ5) → (∀ x y, x ≠ 0 → σ5.1 x y = σ.1 x y) → σ5.1 0 33 = 0 → tCo σ5 tk n tx own ov nm nF →
          tAR n tx ov nm nF σ i o p k dep g m (f + 1) cm β (bd (fX11_readOperand_82 (pk n tx i) σ5) fun r σ' => fX11_readE_26 f r (σ'.1 0 33) 1 σ') (.ok (sk n tx i + 1, w', 3, [pk n tx i], [(1, pk n tx i - 97)])) := by
        intro σ5 w' h5 F5 g5 e5 C5
        unfold fX11_readOperand_82
        rw [C5.2.1]
        have fin2 : ∀ od : Int32, od = (if ov < 0 then 2 else 3) → tAR n tx ov nm nF σ i o p k dep g m (f + 1) cm β (bd (bd (fX11_put od (pk n tx i - 97) σ5) fun _ σ1 => bd (fX11_atomEnds σ1) fun _ σ3 => some (1, σ3)) fun r σ' => fX11_readE_26 f r (σ'.1 0 33) 1 σ') (.ok (sk n tx i + 1, w', 3, [pk n tx i], [(1, pk n tx i - 97)])) := by
          intro od hod
          obtain ⟨σ6, a1, a2, h6, F6, O6⟩ := tLeaf od (pk n tx i - 97) h5 e5 hkd (by omega) (by omega) (by omega) (fun x hx => (g5 _ _ (by decide)).trans (h33 x hx)) (by rw [g5 _ _ (by decide)]; exact hbot)
          rw [a1, bd_s, a2]
          have FF : ∀ b c e, tEF o b c e σ σ6 := fun b c e => (F5 o b c e).tq (F6 b c e)
          have C6 := tCo_F C (FF 0 0 0)
          obtain ⟨f, rfl⟩ : ∃ e, f = e + 1 := ⟨f - 1, by omega⟩
          rw [tNorm0 f C6.1 h6 (by omega)]
          have kk : ∀ y, 11 ≤ y → y ≤ 14 → (stI σ6 0 6 (nz (sk n tx (sk n tx i + 1)))).1 y m = σ.1 y m := by
            intro y y1 y2
            rw [gI, if_neg (by omega)]
            by_cases y11 : y = 11
            · exact (FF 0 (m + 1) 0).2.2.2.2.2.1 y m (by omega) (by omega) (by omega)
            · exact (FF 0 0 (m + 1)).2.2.2.2.2.2 y m (by omega) (by omega)
          refine ⟨f + 1, _, g, rfl, ?_, ?_, ?_, (FF p g m).tq (tEF_I (by omega)), Nat.le_refl _, by simp only; omega, GI_nil, ?_, kk 12 (by omega) (by omega), kk 13 (by omega) (by omega), fun q => Or.inr ⟨(kk 14 (by omega) (by omega)).trans q, fun _ => rfl⟩, fun q => by unfold alR at q ⊢; rw [kk 14 (by omega) (by omega)]; exact q⟩
          · simp only; omega
          · exact h6.go _
          · refine tOA_F (o0 := o + 1 + k) (p0 := 0) (g0 := 0) (m0 := 0) ?_ (tEF_I (by omega)) (by simp; omega)
            rw [hod] at O6
            simpa [trS] using O6
          · simp only
            rw [par3 _ (nd_le3 _ _)]
            have hsg2 := sk_ge (n := n) (tx := tx) (sk n tx i + 1)
            have hsl2 := sk_le (n := n) (tx := tx) (i := sk n tx i + 1) (by omega)
            have hcd : isI (pk n tx i) 48 57 = false := by simpa using c1
            have hcb : bl (pk n tx i) = false := by
              have := sk_stop (n := n) (tx := tx) i
              rw [← etx]
              cases hx : bl (tx (sk n tx i)) with
              | false => rfl
              | true => exact absurd ⟨hlt, hx⟩ this
            refine PC_pre hlt hn6 etx hcd hcb (by omega) hsl2 GI_nil ?_
            intro D hD
            refine ⟨false, ?_⟩
            rw [List.nil_append]
            exact out_sk (DA_sk hD (Nat.le_refl _))
        by_cases hov : ov < 0
        · rw [if_pos hov]
          exact fin2 2 (by rw [if_pos hov])
        · rw [if_neg hov]
          exact fin2 3 (by rw [if_neg hov])
      rcases C.2.2.1 with ⟨o1, o2⟩ | ⟨x, x1, o1, o2⟩
      · rw [o2, if_pos (by decide)]
        have hnb : ntb (!(decide (own = -1) || decide (own = pk n tx i))) w (sk n tx i) = w := by simp [o1, ntb]
        rw [hnb, ← o2]
        exact fin σ4 w h4 F4 g4 e33' C4
      · rw [o2, if_neg (nz_ge0 (by omega)), e97]
        by_cases hax : a - 97 = x
        · rw [if_pos (by rw [hax])]
          have hnb : ntb (!(decide (own = -1) || decide (own = pk n tx i))) w (sk n tx i) = w := by
            have : own = pk n tx i := by rw [o1, ea]; congr 1; omega
            simp [this, ntb]
          rw [hnb, ← e97, ← o2]
          exact fin σ4 w h4 F4 g4 e33' C4
        · rw [if_neg (by rw [nz_inj (by omega) (by omega)]; exact hax)]
          have hnb : ntb (!(decide (own = -1) || decide (own = pk n tx i))) w (sk n tx i) = nt w (sk n tx i) := by
            have q1 : own ≠ -1 := by rw [o1]; exact nz_m1 (by omega)
            have q2 : own ≠ pk n tx i := by rw [o1, ea]; intro q; rw [nz_inj (by omega) (by omega)] at q; omega
            simp [q1, q2, ntb]
          rw [hnb, tBlame h4.fa hwg hn6 (by omega), bd_s, ← e97, ← o2]
          refine fin _ _ (h4.sFa _) (fun a b c e => (F4 a b c e).tq (tEF_I (by omega))) (fun x y hx => by rw [← g4 x y hx]; simp [gI, hx]) (by simpa [gI] using e33') (tCo_F C4 (o0 := 0) (p0 := 0) (g0 := 0) (m0 := 0) (tEF_I (by omega)))
    · rw [if_neg c2, if_neg c2, wI_e]
      have h8 := h3.oth (j := 33) (v := 1) (Or.inr rfl)
      have e8 : (stI (stI (stI σ 0 6 (nz (sk n tx i))) 0 33 0) 0 33 1).1 0 33 = 1 := by simp [gI]
      have F8 : ∀ a b c e, tEF a b c e σ (stI (stI (stI σ 0 6 (nz (sk n tx i))) 0 33 0) 0 33 1) := fun a b c e => (F3 a b c e).tq (tEF_I (by omega))
      have g8 : ∀ x y, x ≠ 0 → (stI (stI (stI σ 0 6 (nz (sk n tx i))) 0 33 0) 0 33 1).1 x y = σ.1 x y := fun x y hx => by rw [← g3 x y hx]; simp [gI, hx]
      have C8 := tCo_F C (F8 0 0 0 0)
      generalize stI (stI (stI σ 0 6 (nz (sk n tx i))) 0 33 0) 0 33 1 = σ8 at h8 e8 F8 g8 C8 ⊢
      have hWgo := dW_go hW hsg
      by_cases c3 : pk n tx i = 33
      · -- turned
        obtain ⟨hlt, etx⟩ := pkc_lt c3 (by decide)
        have htk := nbr_tk hlt
        rw [if_pos c3, if_neg (by rw [c3]; decide), if_neg (by rw [c3]; decide), if_neg (by rw [c3]; decide), if_pos c3]
        rw [wI_e, h8.at, nz_s]
        have h9 := h8.go (sk n tx i + 1)
        rw [h9.pl, ck_n (by omega) (by omega), nz_tn (by omega), wI_e]
        have h10 := h9.arr (a := 4) (b := p + k) (v := 33) (by decide)
        rw [wI_e, h10.pl, nz_s]
        have h11 := h10.sPl (p + k + 1)
        obtain ⟨σ12, a1, h12, F12, g12, e12⟩ := tGoD h11 hW hsg hwg hn6 (by omega) (by omega)
        rw [a1, bd_s, wI_e, bd_s]
        have h13 := h12.sLs 33
        have e13 : (stI σ12 0 31 33).1 0 33 = 1 := by
          rw [gI, if_pos rfl, if_neg (by decide), e12]; simpa [gI] using e8
        rw [e13]
        have F13 : ∀ c e, tEF o (p + k) c e σ (stI σ12 0 31 33) := fun c e => (((((F8 o (p + k) c e).tq (tEF_I (by omega))).tq (tEF_I (by omega))).tq (tEF_I (by omega))).tq (F12 o (p + k) c e)).tq (tEF_I (by omega))
        have g13 : ∀ x y, x ≠ 0 → (stI σ12 0 31 33).1 x y = if x = 4 ∧ y = p + k then 33 else σ.1 x y := by
          intro x y hx
          rw [gI, if_neg hx, g12 x y hx, gI, if_neg hx, gI]
          by_cases hx4 : x = 4
          · by_cases hy : y = p + k
            · rw [if_pos hx4, if_pos hy, if_pos ⟨hx4, hy⟩]
            · rw [if_pos hx4, if_neg hy, if_neg (fun q => hy q.2), gI, if_neg hx, g8 x y hx]
          · rw [if_neg hx4, if_neg (fun q => hx4 q.1), gI, if_neg hx, g8 x y hx]
        have C13 := tCo_F C (F13 0 0)
        generalize stI σ12 0 31 33 = σ13 at h13 F13 g13 C13 ⊢
        have hAH : tAH B tk n tx own ov nm nF σ13 (sk n tx i + 1) (ntb (decide (8 ≤ dep)) w (sk n tx i)) o p (k + 1) (dep + 1) g m f cm 33 := by
          refine ⟨by omega, by omega, wG_ntb hwg hlt, dW_mono hWgo.2 (by omega), C13, h13, hcm, by omega, by omega, by omega, by omega, by omega, by omega, ?_, ?_, fun _ => rfl⟩
          · intro x hx
            rw [g13 _ _ (by decide)]
            by_cases hxk : x = k
            · rw [if_pos ⟨rfl, by omega⟩]
            · rw [if_neg (by omega)]; exact h33 x (by omega)
          · rcases hbot with q | q
            · exact Or.inl q
            · by_cases hp0 : p = 0
              · exact Or.inl hp0
              · refine Or.inr ?_
                rw [g13 _ _ (by decide), if_neg (by omega)]; exact q
        have hr := hA _ _ _ _ _ _ _ _ _ _ _ _ hAH (by omega)
        rcases hq : A (dep + 1) (sk n tx i + 1) (ntb (decide (8 ≤ dep)) w (sk n tx i)) with e | q
        · rw [hq] at hr
          obtain ⟨σ', r1, r2, r3, r4⟩ := hr
          exact ⟨σ', r1, r2, ((F13 g m).wk (Nat.le_refl _) (by omega) (Nat.le_refl _) (Nat.le_refl _)).tq r3, r4⟩
        · rw [hq] at hr
          obtain ⟨f', σ', g', r1, r2, r3, r4, r5, r6, r7, r8, r9, r10, r11, r12, r13⟩ := hr
          obtain ⟨⟨f1, f2, f3, f4, f5⟩, f6⟩ := fA _ _ _ _ (by omega) hq
          have hsg2 := sk_ge (n := n) (tx := tx) q.1
          have hsl2 := sk_le (n := n) (tx := tx) f2
          have k13 : ∀ y, 11 ≤ y → y ≤ 14 → σ13.1 y m = σ.1 y m := fun y y1 y2 => by rw [g13 y m (by omega), if_neg (by omega)]
          refine ⟨f', σ', g', r1, ?_, ?_, ?_, ((F13 g m).wk (Nat.le_refl _) (by omega) (Nat.le_refl _) (Nat.le_refl _)).tq r5, r6, r7, r8.wk (by omega) (Nat.le_refl _), ?_, r10.trans (k13 12 (by omega) (by omega)), r11.trans (k13 13 (by omega) (by omega)), ?_, ?_⟩
          · simp only; omega
          · simp only [List.length_append, List.length_cons, List.length_nil]
            rw [show o + (q.2.2.2.2.length + (0 + 1)) + k = o + q.2.2.2.2.length + (k + 1) by omega, show dep - k = dep + 1 - (k + 1) by omega]
            exact r3
          · simp only [List.map_append, List.map_cons, List.map_nil, List.append_assoc]
            rw [List.replicate_succ] at r4
            exact r4
          · simp only
            rw [par3 _ (nd_le3 _ _)]
            have hnd : nd 33 (bhd cm (pk n tx q.1)) = 3 := by unfold nd; rw [if_pos (Or.inr rfl)]
            rw [hnd] at r9
            exact PC_pre hlt hn6 (by rw [etx]) (by decide) (by decide) (by omega) hsl2 (r8.wk (Nat.le_refl _) hsg2) r9
          · intro q14
            refine Or.inr ⟨?_, fun _ => rfl⟩
            rcases r12 ((k13 14 (by omega) (by omega)).trans q14) with ⟨x, -⟩ | ⟨x, -⟩
            · exact absurd x (by decide)
            · exact x
          · intro q14
            refine r13 ?_
            unfold alR at q14 ⊢
            rw [k13 14 (by omega) (by omega)]; exact q14
      · rw [if_neg c3]
        by_cases c4 : pk n tx i = 40
        · -- a bracket that may go
          obtain ⟨hlt, etx⟩ := pkc_lt c4 (by decide)
          have htk := nbr_tk hlt
          rw [if_pos c4, if_neg (by rw [c4]; decide), if_pos c4]
          unfold fX11_readOperand_175
          rw [wI_e, h8.at, nz_s, c4]
          have h9 := h8.go (sk n tx i + 1)
          obtain ⟨σ2, a1, h2, F2, e2, b4, b6, b7, b9, b12, b13, b14, bm12, bm13, bm14⟩ := tOpen40 h9 hcm (by omega) (by omega) (by omega) hW hsg hwg hn6 (pl := sk n tx i) (by omega) (by omega)
          rw [a1, bd_s, bd_s]
          have e33 : σ2.1 0 33 = 1 := by rw [e2]; simpa [gI] using e8
          rw [e33]
          have G9 : ∀ x y, x ≠ 0 → (stI σ8 0 6 (nz (sk n tx i + 1))).1 x y = σ.1 x y := fun x y hx => by rw [← g8 x y hx]; simp [gI, hx]
          have FF2 : tEF o (p + k) g m σ σ2 := ((F8 o (p + k) g m).tq (tEF_I (by omega))).tq (F2 o)
          have C2 := tCo_F C FF2
          rw [G9 _ _ (by decide)] at bm12 bm13
          have hIH : tIH B tk n tx own ov nm nF σ2 40 (nz g) (sk n tx i + 1) w o p k dep (g + 1) m f cm := by
            refine ⟨by omega, by omega, by omega, ?_, ?_, C2, ?_, by omega, by omega, by omega, by omega, hkd, by omega, Or.inl rfl, b4, b6, hcm, ?_, ?_, b12, b13, b14, Or.inr ⟨g, by omega, rfl⟩⟩
            · rw [Nat.add_sub_cancel]; exact wG_ntb hwg hlt
            · rw [Nat.add_sub_cancel]; exact dW_mono hWgo.2 (by omega)
            · rw [Nat.add_sub_cancel]; exact h2
            · intro x hx; rw [FF2.2.2.2.2.1 4 _ (Or.inl rfl) (by omega)]; exact h33 x hx
            · rcases hbot with q | q
              · exact Or.inl q
              · by_cases hp0 : p = 0
                · exact Or.inl hp0
                · exact Or.inr (by rw [FF2.2.2.2.2.1 4 _ (Or.inl rfl) (by omega)]; exact q)
          have hr := hI σ2 40 (nz g) (sk n tx i + 1) w o p k dep (g + 1) m f cm 41 (by decide) (by omega) hIH
          rcases hq : I dep 41 (sk n tx i + 1) w with e | q
          · rw [hq] at hr
            obtain ⟨σ', r1, r2, r3, r4⟩ := hr
            exact ⟨σ', r1, r2, (FF2.wk (Nat.le_refl _) (by omega) (Nat.le_refl _) (Nat.le_refl _)).tr r3 (Nat.le_refl _) (Nat.le_refl _) (by omega) (Nat.le_refl _), r4⟩
          · rw [hq] at hr
            obtain ⟨f', σ', g', r1, r2, r3, r4, r5, r6, r7, r8, r9, r10, r11, r12, r13⟩ := hr
            obtain ⟨⟨f1, f2, f3, f4, f5⟩, f6⟩ := fI _ _ _ _ _ (by decide) (by omega) (by omega) hq
            obtain ⟨t8, t11, t7, t9⟩ := r10 g rfl (by omega)
            have hsg2 := sk_ge (n := n) (tx := tx) q.1
            have hsl2 := sk_le (n := n) (tx := tx) f2
            have F5 : tEF o p g (m + 1) σ2 σ' := r5 g (by omega) (fun x hx => nz_le_of hx (by omega))
            have C' := tCo_F C2 F5
            obtain ⟨f', rfl⟩ : ∃ e, f' = e + 1 := ⟨f' - 1, by omega⟩
            rw [r1, tNorm1 f' C'.1 r3 f2 (by omega)]
            have h5 := ((r3.go (sk n tx q.1)).arr (a := 10) (b := g) (v := bhd cm (pk n tx q.1)) (by decide)).sJc (-1)
            have F6 : ∀ a b e, tEF a b g e σ' (stI (stI (stI σ' 0 6 (nz (sk n tx q.1))) 10 g (bhd cm (pk n tx q.1))) 0 32 (-1)) := fun a b e => ((tEF_I (by omega)).tq (tEF_I (by omega))).tq (tEF_I (by omega))
            have G6 : ∀ x y, x ≠ 0 → ¬ (x = 10 ∧ y = g) → (stI (stI (stI σ' 0 6 (nz (sk n tx q.1))) 10 g (bhd cm (pk n tx q.1))) 0 32 (-1)).1 x y = σ'.1 x y := by
              intro x y hx hn
              rw [gI, if_neg hx, gI]
              by_cases hx10 : x = 10
              · rw [if_pos hx10, if_neg (fun q => hn ⟨hx10, q⟩), gI, if_neg hx]
              · rw [if_neg hx10, gI, if_neg hx]
            have G10 : (stI (stI (stI σ' 0 6 (nz (sk n tx q.1))) 10 g (bhd cm (pk n tx q.1))) 0 32 (-1)).1 10 g = bhd cm (pk n tx q.1) := by simp [gI]
            generalize stI (stI (stI σ' 0 6 (nz (sk n tx q.1))) 10 g (bhd cm (pk n tx q.1))) 0 32 (-1) = σ6 at h5 F6 G6 G10 ⊢
            have hsm : gSm (g + 1) g' σ' σ6 := fun a x a1 a2 x1 x2 => G6 a x (by omega) (by omega)
            have kk : ∀ y, 12 ≤ y → y ≤ 14 → σ6.1 y m = σ2.1 y m := fun y y1 y2 => (G6 y m (by omega) (by omega)).trans (F5.2.2.2.2.2.2 y m (by omega) (by omega))
            have q7 : σ6.1 7 g = nz (sk n tx i) := (G6 _ _ (by decide) (by omega)).trans (t7.trans b7)
            have q8 : σ6.1 8 g = nz (q.1 - 1) := (G6 _ _ (by decide) (by omega)).trans t8
            refine ⟨f' + 1, σ6, g', rfl, ?_, ?_, ?_, ?_, by omega, by omega, ?_, ?_, (kk 12 (by omega) (by omega)).trans bm12, (kk 13 (by omega) (by omega)).trans bm13, ?_, ?_⟩
            · omega
            · have : (mkO 40 (ow (fr1 nm (σ2.1 5 (p + k)) nF 0))).length = 0 := by simp [mkO]
              rw [this, Nat.add_zero] at h5
              exact h5
            · have : mkO 40 (ow (fr1 nm (σ2.1 5 (p + k)) nF 0)) = [] := by simp [mkO]
              rw [this, List.nil_append] at r4
              intro x e hx
              rw [G6 _ _ (by decide) (by omega), G6 _ _ (by decide) (by omega)]
              exact r4 x e hx
            · exact ((FF2.wk (Nat.le_refl _) (by omega) (Nat.le_refl _) (Nat.le_refl _)).tr F5 (Nat.le_refl _) (Nat.le_refl _) (Nat.le_refl _) (by omega)).tq (F6 o p m)
            · intro x x1 x2
              by_cases hx : x = g
              · subst hx
                exact ⟨sk n tx i, q.1 - 1, q7, q8, by omega, by omega, by omega, by omega⟩
              · obtain ⟨u, v, u1, u2, u3, u4, u5, u6⟩ := (r8.sm hsm) x (by omega) x2
                exact ⟨u, v, u1, u2, by omega, by omega, by omega, by omega⟩
            · have hpp := PC_par (i := i) (v := q.1 - 1) (β := β) (bh := bhd cm (pk n tx q.1)) (lev := q.2.2.1) (pr := q.2.2.2.1) hlt hn6 (by omega) (by omega) (by omega) etx r13 q7 q8 ((G6 _ _ (by decide) (by omega)).trans (t9.trans b9)) G10 ((G6 _ _ (by decide) (by omega)).trans t11) (r8.sm hsm) (r9.sm hsm)
              rw [show q.1 - 1 + 1 = q.1 by omega] at hpp
              exact hpp
            · intro _
              by_cases hb0 : β = 0
              · refine Or.inl ⟨hb0, g, by omega, ?_, (G6 _ _ (by decide) (by omega)).trans t11⟩
                rw [kk 14 (by omega) (by omega), bm14, if_pos hb0]
              · refine Or.inr ⟨?_, fun q => absurd q hb0⟩
                rw [kk 14 (by omega) (by omega), bm14, if_neg hb0]
            · intro _
              unfold alR
              rw [kk 14 (by omega) (by omega), bm14]
              by_cases hb0 : β = 0
              · rw [if_pos hb0]; exact Or.inr ⟨g, by omega, rfl⟩
              · rw [if_neg hb0]; exact Or.inl rfl
        · rw [if_neg c4]
          -- brackets that stay: what comes behind them
          have stay : ∀ (σ2 : cS) (mk nmv : Int32) (u : Nat) (y : Sy) (pre : List Int32), (mk = 91 ∨ mk = 78) → u < n → tx u = 40 ∨ tx u = 91 → sk n tx i ≤ u → tE σ2 (u + 1) (ntb (decide (8 ≤ dep)) w u) o (p + k + 1) (dep + 1) 0 g (m + 1 + 1) 0 (-1) → nbr n tx (u + 1) + 3 ≤ f + 1 → tEF o (p + k) g (m + 1) σ σ2 → σ2.1 4 (p + k) = mk → σ2.1 5 (p + k) = nmv → σ2.1 6 (p + k) = cm → σ2.1 12 (m + 1) = -1 → σ2.1 13 (m + 1) = 3 → σ2.1 14 (m + 1) = -1 → mkO mk (ow (fr1 nm nmv nF 0)) = [trS ov nm nF y] → f + nbr n tx (u + 1) + 1 ≤ f + nbr n tx i →
              (∀ (σ' : cS) (g' j : Nat) (L : List Int32), u + 1 ≤ j → j ≤ n → GI σ' g g' (u + 1) j → PC n tx σ' g g' (u + 1) j L → PC n tx σ' g g' i j (pre ++ L)) →
              tAR n tx ov nm nF σ i o p k dep g m (f + 1) cm β (fX11_readE_26 f 1 1 1 σ2) (eb (I dep (if mk = 91 then 93 else 41) (u + 1) w) fun q => .ok (q.1, q.2.1, 3, pre ++ (q.2.2.2.1 ++ [if mk = 91 then 93 else 41]), q.2.2.2.2 ++ [y])) := by
            intro σ2 mk nmv u y pre hmk hu htu hsu h2 hfu FF2 b4 b5 b6 b12 b13 b14 hmo hnf hpre
            have hnbi := nbr_le (n := n) (tx := tx) (i := i)
            have hue := nbr_diff (n := n) (tx := tx) (i := u) (j := u + 1) (by omega)
            have hWu := dW_go hW (show i ≤ u by omega)
            have C2 := tCo_F C FF2
            have hcl : (if mk = 91 then (93 : Int32) else 41) ≠ -1 := by split <;> decide
            have hIH : tIH B tk n tx own ov nm nF σ2 mk (-1) (u + 1) w o p k dep g m f cm := by
              refine ⟨by omega, by omega, by omega, ?_, ?_, C2, ?_, by omega, by omega, by omega, by omega, hkd, by omega, Or.inr hmk, b4, b6, hcm, ?_, ?_, b12, b13, b14, Or.inl rfl⟩
              · rw [Nat.add_sub_cancel]; exact wG_ntb hwg hu
              · rw [Nat.add_sub_cancel]; exact dW_mono hWu.2 (by omega)
              · rw [Nat.add_sub_cancel]; exact h2
              · intro x hx; rw [FF2.2.2.2.2.1 4 _ (Or.inl rfl) (by omega)]; exact h33 x hx
              · rcases hbot with q | q
                · exact Or.inl q
                · by_cases hp0 : p = 0
                  · exact Or.inl hp0
                  · exact Or.inr (by rw [FF2.2.2.2.2.1 4 _ (Or.inl rfl) (by omega)]; exact q)
            have hr := hI σ2 mk (-1) (u + 1) w o p k dep g m f cm _ rfl (by omega) hIH
            rcases hq : I dep (if mk = 91 then 93 else 41) (u + 1) w with e | q
            · rw [hq] at hr
              obtain ⟨σ', r1, r2, r3, r4⟩ := hr
              exact ⟨σ', r1, r2, (FF2.wk (Nat.le_refl _) (by omega) (Nat.le_refl _) (by omega)).tq r3, r4⟩
            · rw [hq] at hr
              obtain ⟨f', σ', g', r1, r2, r3, r4, r5, r6, r7, r8, r9, r10, r11, r12, r13⟩ := hr
              obtain ⟨⟨f1, f2, f3, f4, f5⟩, f6⟩ := fI _ _ _ _ _ hcl (by omega) (by omega) hq
              have hsg2 := sk_ge (n := n) (tx := tx) q.1
              have hsl2 := sk_le (n := n) (tx := tx) f2
              have F5 : tEF o p g (m + 1) σ2 σ' := r5 g (Nat.le_refl _) (fun x hx => by
                by_cases hx2 : x < 2147483648
                · exact absurd hx.symm (nz_m1 hx2)
                · omega)
              have C' := tCo_F C2 F5
              rw [b5, hmo] at r3 r4
              obtain ⟨f', rfl⟩ : ∃ e, f' = e + 1 := ⟨f' - 1, by omega⟩
              rw [r1, tNorm0 f' C'.1 r3 f2]
              simp only [eb]
              have F6 : ∀ a b c e, tEF a b c e σ' (stI σ' 0 6 (nz (sk n tx q.1))) := fun a b c e => tEF_I (by omega)
              have kk : ∀ z, 12 ≤ z → z ≤ 14 → (stI σ' 0 6 (nz (sk n tx q.1))).1 z m = σ.1 z m := by
                intro z z1 z2
                rw [gI, if_neg (by omega), F5.2.2.2.2.2.2 z m (by omega) (by omega), FF2.2.2.2.2.2.2 z m (by omega) (by omega)]
              have hG6 := r8.sm (gSm_F (F6 0 0 g' 0) (Nat.le_refl _))
              have hP6 := r9.sm (gSm_F (F6 0 0 g' 0) (Nat.le_refl _))
              have hcd : isI (if mk = 91 then (93 : Int32) else 41) 48 57 = false := by split <;> decide
              have hcb : bl (if mk = 91 then (93 : Int32) else 41) = false := by split <;> decide
              have hpo := PC_post (v := q.1 - 1) (by omega) hn6 (by omega) r13 hcd hcb hG6 hP6
              rw [show q.1 - 1 + 1 = q.1 by omega] at hpo
              refine ⟨f' + 1, _, g', rfl, ?_, ?_, ?_, ((FF2.wk (Nat.le_refl _) (by omega) (Nat.le_refl _) (by omega)).tr F5 (Nat.le_refl _) (Nat.le_refl _) (Nat.le_refl _) (by omega)).tq (F6 o p g m), r6, by omega, ?_, ?_, kk 12 (by omega) (by omega), kk 13 (by omega) (by omega), ?_, ?_⟩
              · simp only; omega
              · simp only [List.length_append, List.length_cons, List.length_nil]
                rw [show o + (q.2.2.2.2.length + (0 + 1)) + k = o + q.2.2.2.2.length + 1 + k by omega]
                exact r3.go _
              · simp only [List.map_append, List.map_cons, List.map_nil, List.append_assoc]
                refine tOA_F (o0 := 20000) (p0 := 0) (g0 := 0) (m0 := 0) r4 (F6 20000 0 0 0) ?_
                simp; omega
              · exact hG6.wk (by omega) (by omega)
              · simp only
                rw [par3 _ (nd_le3 _ _)]
                exact hpre _ _ _ _ (by omega) hsl2 (hG6.wk (Nat.le_refl _) (by omega)) hpo
              · intro q14
                exact Or.inr ⟨(kk 14 (by omega) (by omega)).trans q14, fun _ => rfl⟩
              · intro q14
                unfold alR at q14 ⊢
                rw [kk 14 (by omega) (by omega)]
                rcases q14 with q14 | ⟨y, y1, y2⟩
                · exact Or.inl q14
                · exact Or.inr ⟨y, by omega, y2⟩
          by_cases c5 : pk n tx i = 91
          · obtain ⟨hlt, etx⟩ := pkc_lt c5 (by decide)
            have htk := nbr_tk hlt
            rw [if_pos c5, if_neg (by rw [c5]; decide), if_neg c4, if_pos c5]
            unfold fX11_readOperand_175 fX11_openBracket
            rw [wI_e, h8.at, nz_s, if_neg c4, c5]
            have h9 := h8.go (sk n tx i + 1)
            obtain ⟨σ1, a1, a2, σ2, a3, h2, F2, e2, b4, b5, b6, b12, b13, b14⟩ := tOpenO 91 0 h9 hcm (by omega) (by omega) hW hsg hwg hn6 (pl := sk n tx i) (by omega) (by omega) (sk n tx i + 1)
            rw [stI_self a2] at a3
            rw [a1, bd_s, a3, bd_s, bd_s, bd_s]
            have e33 : σ2.1 0 33 = 1 := by rw [e2]; simpa [gI] using e8
            rw [e33]
            have := stay σ2 91 0 (sk n tx i) (91, 0) [91] (Or.inl rfl) hlt (Or.inr etx) (Nat.le_refl _) h2 (by omega) (((F8 o (p + k) g (m + 1)).tq (tEF_I (by omega))).tq (F2 o g)) b4 b5 b6 b12 b13 b14 (by simp [mkO, trS]) (by omega) (fun σ' g' j L j1 j2 hG hP => PC_pre hlt hn6 etx (by decide) (by decide) j1 j2 hG hP)
            simpa using this
          · rw [if_neg c5, tNam, bd_s, i10]
            by_cases c6 : isI (pk n tx i) 65 90 = true
            · rw [if_pos c6, if_pos c6]
              obtain ⟨a, ha1, ha2, ea⟩ := isI_lo7 (a := 65) (b := 90) c6 (by omega) (by omega)
              obtain ⟨hlt, etx⟩ := pkc_ne (n := n) (tx := tx) (i := i) (by rw [ea]; exact nz_m1 (by omega))
              have htk := nbr_tk hlt
              rw [wI_e, h8.at, nz_s]
              have h9 := h8.go (sk n tx i + 1)
              have C9 := tCo_F C8 (o0 := 0) (p0 := 0) (g0 := 0) (m0 := 0) (tEF_I (o := 0) (j := 6) (v := nz (sk n tx i + 1)) (by omega))
              rw [tLook C9.1 h9.at (by omega), bd_s]
              have h10 := h9.go (sk n tx (sk n tx i + 1))
              have F10 : ∀ a b c e, tEF a b c e σ (stI (stI σ8 0 6 (nz (sk n tx i + 1))) 0 6 (nz (sk n tx (sk n tx i + 1)))) := fun a b c e => ((F8 a b c e).tq (tEF_I (by omega))).tq (tEF_I (by omega))
              have e10 : (stI (stI σ8 0 6 (nz (sk n tx i + 1))) 0 6 (nz (sk n tx (sk n tx i + 1)))).1 0 33 = 1 := by simpa [gI] using e8
              have hsg3 := sk_ge (n := n) (tx := tx) (sk n tx i + 1)
              generalize stI (stI σ8 0 6 (nz (sk n tx i + 1))) 0 6 (nz (sk n tx (sk n tx i + 1))) = σ10 at h10 F10 e10 ⊢
              by_cases c7 : pk n tx (sk n tx i + 1) = 40
              · obtain ⟨hlt2, etx2⟩ := pkc_lt c7 (by decide)
                have htk2 := nbr_tk hlt2
                rw [if_pos c7, if_pos c7, h10.at]
                obtain ⟨σ1, a1, a2, σ2, a3, h2, F2, e2, b4, b5, b6, b12, b13, b14⟩ := tOpenO 78 (pk n tx i - 65) h10 hcm (by omega) (by omega) hW (show i ≤ sk n tx (sk n tx i + 1) by omega) hwg hn6 (by omega) (by omega) (sk n tx (sk n tx i + 1) + 1)
                rw [a1, bd_s, wI_e, a2, nz_s, a3, bd_s, bd_s]
                have e33 : σ2.1 0 33 = 1 := by rw [e2]; exact e10
                rw [e33]
                have hcd : isI (pk n tx i) 48 57 = false := by simpa using c1
                have hcb : bl (pk n tx i) = false := by
                  have := sk_stop (n := n) (tx := tx) i
                  rw [← etx]
                  cases hx : bl (tx (sk n tx i)) with
                  | false => rfl
                  | true => exact absurd ⟨hlt, hx⟩ this
                have := stay σ2 78 (pk n tx i - 65) (sk n tx (sk n tx i + 1)) (2, pk n tx i) [pk n tx i, 40] (Or.inr rfl) hlt2 (Or.inl etx2) (by omega) h2 (by omega) ((F10 o (p + k) g (m + 1)).tq (F2 o g)) b4 b5 b6 b12 b13 b14 (by simp [mkO, trS]) (by omega) (fun σ' g' j L j1 j2 hG hP => PC_pre (L := 40 :: L) hlt hn6 etx hcd hcb (by omega) j2 (hG.wk (by omega) (Nat.le_refl _)) (PC_pre hlt2 hn6 etx2 (by decide) (by decide) j1 j2 hG hP))
                simpa using this
              · obtain ⟨f, rfl⟩ : ∃ e, f = e + 1 := ⟨f - 1, by omega⟩
                rw [if_neg c7, if_neg c7, tStops h10.wr h10.at, bd_s, ck_t (by decide), bd_s, rE_0]
                exact ⟨_, rfl, ⟨by simp [gI], by simpa [gI] using h10.at⟩, (F10 o p g m).tq (tEF_I (by omega)), o, by omega, by simpa [gI] using h10.od⟩
            · obtain ⟨f, rfl⟩ : ∃ e, f = e + 1 := ⟨f - 1, by omega⟩
              rw [if_neg c6, if_neg c6, if_neg c4, if_neg c5, if_neg c3, tStops h8.wr h8.at, bd_s, ck_t (by decide), bd_s, rE_0]
              exact ⟨_, rfl, ⟨by simp [gI], by simpa [gI] using h8.at⟩, (F8 o p g m).tq (tEF_I (by omega)), o, by omega, by simpa [gI] using h8.od⟩
/-- the twin reads sums, atoms and brackets as the grammar says -/
theorem tEall (hB : B ≤ 9000) : ∀ d,
    (∀ σ L i w o p dep g m f cm β, lvL L → 3 * nbr n tx i + 2 ≤ d → tSH B tk n tx own ov nm nF σ L i w o p dep g m f cm β → tSR n tx ov nm nF σ L i o p dep g m f cm (fX11_readE_26 f 1 1 1 σ) ((pE n tx own d).1 L dep i w)) ∧
    (∀ σ i w o p k dep g m f cm β, 3 * nbr n tx i + 1 ≤ d → tAH B tk n tx own ov nm nF σ i w o p k dep g m f cm β → tAR n tx ov nm nF σ i o p k dep g m f cm β (fX11_readE_26 f 1 1 1 σ) ((pE n tx own d).2.1 dep i w)) ∧
    (∀ σ mk gr i w o p k dep g m f cm cl, cl = (if mk = 91 then 93 else 41) → 3 * nbr n tx i + 3 ≤ d → tIH B tk n tx own ov nm nF σ mk gr i w o p k dep g m f cm → tIR n tx ov nm nF σ mk gr i o p k dep g m f cm cl (fX11_readE_26 f 1 1 1 σ) ((pE n tx own d).2.2 dep cl i w)) := by
  intro d
  induction d with
  | zero => exact ⟨fun _ _ _ _ _ _ _ _ _ _ _ _ _ h => (by omega), fun _ _ _ _ _ _ _ _ _ _ _ _ h => (by omega), fun _ _ _ _ _ _ _ _ _ _ _ _ _ _ _ h => (by omega)⟩
  | succ d ih =>
    obtain ⟨ihS, ihA, ihI⟩ := ih
    obtain ⟨fS, fA, fI⟩ := pE_facts (n := n) (tx := tx) own d
    obtain ⟨mS, mA, mI⟩ := pE_m (n := n) (tx := tx) own d
    refine ⟨?_, ?_, ?_⟩
    · intro σ L i w o p dep g m f cm β hL hd H
      show tSR n tx ov nm nF σ L i o p dep g m f cm (fX11_readE_26 f 1 1 1 σ) (pSm n tx (pE n tx own d).1 (pE n tx own d).2.1 L dep i w)
      obtain ⟨a1, a2, a3, a4, a5, a6, a7, a8, a9, a10, a11, a12, a13, a14⟩ := H
      have hn6 : n ≤ 600 := a5.1.2.2.2.2.2.1
      have hnbi := nbr_le (n := n) (tx := tx) (i := i)
      unfold pSm
      have hAH : tAH B tk n tx own ov nm nF σ i w o p 0 dep g m f cm β := ⟨a1, a2, a3, a4, a5, a6, a7, a8, a9, a10, a11, Nat.zero_le _, a12, fun x hx => absurd hx (Nat.not_lt_zero _), by
        rcases a14 with q | q
        · exact Or.inl q
        · exact Or.inr q.1, fun q => absurd q (Nat.lt_irrefl _)⟩
      have hr := ihA _ _ _ _ _ _ _ _ _ _ _ _ (by omega) hAH
      rcases hq : (pE n tx own d).2.1 dep i w with e | q
      · rw [hq] at hr
        obtain ⟨σ', r1, r2, r3, r4⟩ := hr
        exact ⟨σ', r1, r2, r3, r4⟩
      · rw [hq] at hr
        obtain ⟨f', σ', g', r1, r2, r3, r4, r5, r6, r7, r8, r9, r10, r11, r12, r13⟩ := hr
        obtain ⟨⟨f1, f2, f3, f4, f5⟩, f6⟩ := fA _ _ _ _ a2 hq
        have hp0 := f4.cl.1
        have hwm := mA _ _ _ _ hq
        have hsg2 := sk_ge (n := n) (tx := tx) q.1
        have hnd := nbr_diff (n := n) (tx := tx) (i := i) (j := q.1) (by omega)
        have hβL : (L = 0 ∧ β = 0 ∧ cm = 0) ∨ (L = 1 ∧ lvC β = 0 ∧ cm = 1) ∨ (L = 2 ∧ lvC β = 1) ∨ (L = 3 ∧ lvC β = 2) := by
          rcases a13 with ⟨x1, x2, x3, -⟩ | ⟨x1, x2, x3, -⟩ | ⟨x1, x2, -⟩ | ⟨x1, x2, -⟩
          · exact Or.inl ⟨x1, x2, x3⟩
          · exact Or.inr (Or.inl ⟨x1, x2, x3⟩)
          · exact Or.inr (Or.inr (Or.inl ⟨x1, x2⟩))
          · exact Or.inr (Or.inr (Or.inr ⟨x1, x2⟩))
        rw [nd_lv hβL] at r9
        rw [Nat.add_zero, Nat.sub_zero] at r3
        rw [List.replicate_zero, List.append_nil] at r4
        simp only [eb]
        rw [r1]
        have hlE : (q.2.2.2.2.map (trS ov nm nF)).length = q.2.2.2.2.length := by simp
        refine tLp hB hL a11 (fun L dep i w q a b c => fS L dep i w q a b c) (fun L dep i w q a => mS L dep i w q a) (fun L i' w σ f o p g m cm β h1 h2 h3 => ihS _ _ _ _ _ _ _ _ _ _ _ _ h1 (by omega) h2) a10 a8 a14 FU q.1 q.2.1 _ _ _ σ' f' g' cm (q.2.2.2.2.map (trS ov nm nF)) [] (by unfold FU; omega) (by omega) (by omega) f2 (by omega) f3 f4 (f5 a3) (dW_m a4 hwm (by omega)) (tCo_F a5 r5) ?_ ?_ ?_ ?_ a7 (fun _ => rfl) ?_ ?_ r5 r4 (fun k c hk => by simp at hk) (fun c hc => by simp at hc) (by simp) r6 (r8.wk (Nat.le_refl _) hsg2) r9 r10 ?_ r13 ?_ r2
        · rw [hlE]; exact r3
        · simp; omega
        · omega
        · rw [hlE]; simp; omega
        · intro x
          rcases a13 with ⟨x1, x2, x3, -⟩ | ⟨x1, -⟩ | ⟨x1, -⟩ | ⟨x1, -⟩
          · exact x3
          · rw [x] at x1; exact absurd x1 (by decide)
          · rw [x] at x1; exact absurd x1 (by decide)
          · rw [x] at x1; exact absurd x1 (by decide)
        · intro x
          rcases a13 with ⟨x1, -⟩ | ⟨x1, x2, x3, -⟩ | ⟨x1, -⟩ | ⟨x1, -⟩
          · rw [x] at x1; exact absurd x1 (by decide)
          · exact x3
          · rw [x] at x1; exact absurd x1 (by decide)
          · rw [x] at x1; exact absurd x1 (by decide)
        · intro x
          refine ⟨r11, ?_⟩
          rcases a13 with ⟨x1, -⟩ | ⟨x1, -, -, x4⟩ | ⟨x1, -, x4⟩ | ⟨x1, -, x4⟩
          · rw [x1] at x; exact absurd x (by decide)
          · rw [x1]; exact x4
          · rw [x1]; exact x4
          · rw [x1]; exact x4
        · intro x
          rcases a13 with ⟨x1, x2, x3, x4, x5⟩ | ⟨x1, -⟩ | ⟨x1, -⟩ | ⟨x1, -⟩
          · refine ⟨?_, ?_⟩
            · unfold elv
              rw [r11, x4]
              rcases r12 x5 with ⟨-, y, y1, y2, y3⟩ | ⟨y1, y2⟩
              · rw [if_neg (by rw [y2]; rintro (z | z); exact absurd z (by decide); exact nz_ge0 (by omega) z), y2, nz_tn (by omega), y3]
              · rw [if_pos (Or.inr (by rw [y1]; decide)), y2 x2]
            · rw [r11, x4]
              rcases lvC_in (pk n tx q.1) with e | e | e | e <;> rw [e] <;> decide
          · rw [x] at x1; exact absurd x1 (by decide)
          · rw [x] at x1; exact absurd x1 (by decide)
          · rw [x] at x1; exact absurd x1 (by decide)
    · intro σ i w o p k dep g m f cm β hd H
      exact tAtom (N := nbr n tx i) hB fA fI (fun σ i' w o p k dep g m f cm β h1 h2 => ihA _ _ _ _ _ _ _ _ _ _ _ _ (by omega) h1) (fun σ mk gr i' w o p k dep g m f cm cl h1 h2 h3 => ihI _ _ _ _ _ _ _ _ _ _ _ _ _ _ h1 (by omega) h3) (Nat.le_refl _) H
    · intro σ mk gr i w o p k dep g m f cm cl hcl hd H
      obtain ⟨a1, a2, a3, a4, a5, a6, a7, a8, a9, a10, a11, a12, a13, a14, a15, a16, a17, a18, a19, a20, a21, a22, a23⟩ := H
      refine tIn (N := nbr n tx i) hB (fun dep i w q h1 h2 => fS 0 dep i w q (Or.inl rfl) h1 h2) ?_ hcl (Nat.le_refl _) a1 a2 a3 a4 a5 a6 a7 a8 a9 a10 a11 a12 a13 a14 a15 a16 a17 a18 a19 a20 a21 a22 a23
      intro dep i' w σ f o p g m b0 b1 b2 b3 b4 b5 b6 b7 b8 b9 b10 b11 b12 b13 b14
      exact ihS _ _ _ _ _ _ _ _ _ _ _ _ (Or.inl rfl) (by omega) ⟨b1, b2, b3, b4, b5, b6, Or.inl rfl, b7, b8, b9, b10, b11, Or.inl ⟨rfl, rfl, rfl, b12, b13⟩, b14⟩
end
