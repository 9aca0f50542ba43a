set_option maxRecDepth 100000
/-! ===== THE TWIN READS SUMS AS THE GRAMMAR SAYS ===== -/
/-- what stands alone in an open bracket: none, or one of the groups so far -/
def alR (σ : cS) (g m : Nat) : Prop := σ.1 14 m = -1 ∨ ∃ y, y < g ∧ σ.1 14 m = nz y
def elv (σ : cS) (m : Nat) : Int32 := if σ.1 13 m < 3 ∨ σ.1 14 m < 0 then σ.1 13 m else σ.1 11 (σ.1 14 m).toNatClampNeg
section
variable {tk n : Nat} {tx : Nat → Int32} {own ov : Int32} {nm : Nat → Int32} {nF : Nat}
def tAR (n : Nat) (tx : Nat → Int32) (ov : Int32) (nm : Nat → Int32) (nF : Nat) (σ : cS) (i o p k dep g m f : Nat) (cm β : Int32) (x : Option (Int32 × cS)) (r : ER) : Prop := match r with
  | .error e => ∃ σ', x = some (0, σ') ∧ (σ'.1 0 7 = nz e ∧ σ'.1 0 6 = nz e) ∧ tEF o p g m σ σ' ∧ ∃ o', o' ≤ 10800 ∧ σ'.1 0 11 = nz o'
  | .ok q => ∃ f' σ' g', x = fX11_readE_26 f' 1 0 1 σ' ∧ f + nbr n tx q.1 ≤ f' + nbr n tx i ∧ tE σ' (sk n tx q.1) q.2.1 (o + q.2.2.2.2.length + k) p (dep - k) cm g' (m + 1) 0 (-1) ∧ tOA σ' o (q.2.2.2.2.map (trS ov nm nF) ++ List.replicate k (33, 0)) ∧ tEF o p g m σ σ' ∧ g ≤ g' ∧ g' ≤ q.1 ∧ GI σ' g g' i q.1 ∧ PC n tx σ' g g' i (sk n tx q.1) (par q.2.2.1 (nd β (bhd cm (pk n tx q.1))) q.2.2.2.1) ∧ σ'.1 12 m = σ.1 12 m ∧ σ'.1 13 m = σ.1 13 m ∧ (σ.1 14 m = -1 → (β = 0 ∧ ∃ y, y < g' ∧ σ'.1 14 m = nz y ∧ σ'.1 11 y = q.2.2.1) ∨ (σ'.1 14 m = -1 ∧ (β = 0 → q.2.2.1 = 3))) ∧ (alR σ g m → alR σ' g' m)
def tSR (n : Nat) (tx : Nat → Int32) (ov : Int32) (nm : Nat → Int32) (nF : Nat) (σ : cS) (L : Int32) (i o p dep g m f : Nat) (cm : Int32) (x : Option (Int32 × cS)) (r : ER) : Prop := match r with
  | .error e => ∃ σ', x = some (0, σ') ∧ (σ'.1 0 7 = nz e ∧ σ'.1 0 6 = nz e) ∧ tEF o p g m σ σ' ∧ ∃ o', o' ≤ 10800 ∧ σ'.1 0 11 = nz o'
  | .ok q => ∃ f' σ' g' cm' E Q, x = fX11_readE_26 f' 1 0 1 σ' ∧ f + nbr n tx q.1 ≤ f' + nbr n tx i ∧ tE σ' q.1 q.2.1 (o + E.length) (p + Q.length) dep cm' g' (m + 1) 0 (-1) ∧ (cm' = 0 ∨ cm' = 1) ∧ (1 ≤ L → cm' = cm) ∧ ¬ (L = 0 ∧ opG cm' (pk n tx q.1)) ∧ tEF o p g m σ σ' ∧ tOA σ' o E ∧ tPQ σ' p Q ∧ (∀ c ∈ Q, L ≤ lvC c ∧ 0 ≤ lvC c) ∧ q.2.2.2.2.map (trS ov nm nF) = E ++ Q.reverse.map opO ∧ g ≤ g' ∧ g' ≤ q.1 ∧ GI σ' g g' i q.1 ∧ PC n tx σ' g g' i q.1 (par q.2.2.1 L q.2.2.2.1) ∧ σ'.1 12 m = σ.1 12 m ∧ (1 ≤ L → σ'.1 13 m = σ.1 13 m) ∧ (alR σ g m → alR σ' g' m) ∧ (L = 0 → elv σ' m = q.2.2.1)
def tIR (n : Nat) (tx : Nat → Int32) (ov : Int32) (nm : Nat → Int32) (nF : Nat) (σ : cS) (mk gr : Int32) (i o p k dep g m f : Nat) (cm cl : Int32) (x : Option (Int32 × cS)) (r : ER) : Prop := match r with
  | .error e => ∃ σ', x = some (0, σ') ∧ (σ'.1 0 7 = nz e ∧ σ'.1 0 6 = nz e) ∧ tEF o p g m σ σ' ∧ ∃ o', o' ≤ 10800 ∧ σ'.1 0 11 = nz o'
  | .ok q => ∃ f' σ' g', x = fX11_readE_26 f' 1 0 1 σ' ∧ f + nbr n tx q.1 ≤ f' + nbr n tx i ∧ tE σ' q.1 q.2.1 (o + q.2.2.2.2.length + (mkO mk (ow (fr1 nm (σ.1 5 (p + k)) nF 0))).length + k) p (dep - k) cm g' (m + 1) 0 gr ∧ tOA σ' o (q.2.2.2.2.map (trS ov nm nF) ++ (mkO mk (ow (fr1 nm (σ.1 5 (p + k)) nF 0)) ++ List.replicate k (33, 0))) ∧ (∀ b, b ≤ g → (∀ x, gr = nz x → b ≤ x) → tEF o p b (m + 1) σ σ') ∧ g ≤ g' ∧ g' < q.1 ∧ GI σ' g g' i (q.1 - 1) ∧ PC n tx σ' g g' i (q.1 - 1) q.2.2.2.1 ∧ (∀ x, gr = nz x → x < 600 → σ'.1 8 x = nz (q.1 - 1) ∧ σ'.1 11 x = q.2.2.1 ∧ σ'.1 7 x = σ.1 7 x ∧ σ'.1 9 x = σ.1 9 x) ∧ q.1 ≤ n ∧ i < q.1 ∧ tx (q.1 - 1) = cl
theorem nbr_diffA {n : Nat} {tx : Nat → Int32} {i j : Nat} (h : i ≤ j) : nbr n tx i ≤ nbr n tx j + (j - i) := by
  obtain ⟨k, rfl⟩ : ∃ k, j = i + k := ⟨j - i, by omega⟩
  induction k with
  | zero => simp
  | succ k ih =>
    have ih := ih (by omega)
    by_cases hk : i + k < n
    · have := nbr_s (tx := tx) hk
      have h2 : nbr n tx (i + k) ≤ 1 + nbr n tx (i + k + 1) := by rw [this]; split <;> omega
      rw [show i + (k + 1) = i + k + 1 by omega]; omega
    · have := nbr_end (n := n) (tx := tx) (i := i + k) (by omega)
      omega
/-- what stands in brackets, given how a sum is read -/
theorem tIn {R : Int32 → Nat → Nat → Option Nat → ER} {B N : Nat} (hB : B ≤ 9000)
    (hF : ∀ dep i w q, i ≤ n → R 0 dep i w = .ok q → GFs n tx 0 i w q)
    (hS : ∀ dep i w σ f o p g m, nbr n tx i ≤ N → nbr n tx i + 2 ≤ f → i ≤ n → wG n w → dW dep w i → tCo σ tk n tx own ov nm nF → tE σ i w o p dep 0 g (m + 1) 0 (-1) → p ≤ i → g ≤ i → m ≤ i → dep ≤ i → o + p ≤ B + 3 * i → σ.1 13 m = 3 → σ.1 14 m = -1 → (p = 0 ∨ (σ.1 4 (p - 1) ≠ 33 ∧ lvC (σ.1 4 (p - 1)) < 0)) → tSR n tx ov nm nF σ 0 i o p dep g m f 0 (fX11_readE_26 f 1 1 1 σ) (R 0 dep i w))
    {dep i : Nat} {w : Option Nat} {σ : cS} {f o p k g m : Nat} {mk cm gr cl : Int32} (hclm : cl = if mk = 91 then 93 else 41) (hN : nbr n tx i ≤ N) (hf : nbr n tx i + 2 ≤ f) (hi : i ≤ n) (hi1 : 1 ≤ i) (hg : wG n (ntb (decide (8 ≤ dep)) w (i - 1))) (hW : dW (dep + 1) (ntb (decide (8 ≤ dep)) w (i - 1)) i) (C : tCo σ tk n tx own ov nm nF)
    (h : tE σ i (ntb (decide (8 ≤ dep)) w (i - 1)) o (p + k + 1) (dep + 1) 0 g (m + 1 + 1) 0 (-1)) (hp : p + k + 1 ≤ i) (hgi : g ≤ i) (hm : m + 1 ≤ i) (hd : dep + 1 ≤ i) (hkd : k ≤ dep) (ho : o + (p + k + 1) ≤ B + 3 * i)
    (hmk : mk = 40 ∨ mk = 91 ∨ mk = 78) (h4 : σ.1 4 (p + k) = mk) (h6 : σ.1 6 (p + k) = cm) (hcm : cm = 0 ∨ cm = 1) (h33 : ∀ x, x < k → σ.1 4 (p + x) = 33) (hbot : p = 0 ∨ σ.1 4 (p - 1) ≠ 33)
    (h12 : σ.1 12 (m + 1) = gr) (h13 : σ.1 13 (m + 1) = 3) (h14 : σ.1 14 (m + 1) = -1) (hgr : gr = -1 ∨ ∃ x, x < g ∧ gr = nz x) :
    tIR n tx ov nm nF σ mk gr i o p k dep g m f cm cl (fX11_readE_26 f 1 1 1 σ) (pIn n tx R dep cl i w) := by
  have hn6 : n ≤ 600 := C.1.2.2.2.2.2.1
  have hcl : cl ≠ -1 := by rw [hclm]; split <;> decide
  have h93 : cl = 41 ∨ cl = 93 := by rw [hclm]; split
                                     · exact Or.inr rfl
                                     · exact Or.inl rfl
  unfold pIn
  have hr := hS (dep + 1) i _ σ f o (p + k + 1) g (m + 1) hN hf hi hg hW C h hp hgi hm hd ho h13 h14 (Or.inr (by
    rw [show p + k + 1 - 1 = p + k by omega, h4]; rcases hmk with rfl | rfl | rfl <;> exact ⟨by decide, by decide⟩))
  rcases hq : R 0 (dep + 1) i (ntb (decide (8 ≤ dep)) w (i - 1)) with e | q
  · rw [hq] at hr
    obtain ⟨σ', r1, r2, r3, r4⟩ := hr
    exact ⟨σ', r1, r2, r3.wk (Nat.le_refl _) (by omega) (Nat.le_refl _) (by omega), r4⟩
  · rw [hq] at hr
    obtain ⟨f', σ', g', cm', E, Q, r1, r2, r3, r4, r5, r6, r7, r8, r9, r10, r11, r12, r13, r14, r15, r16, r17, r18, r19⟩ := hr
    obtain ⟨⟨f1, f2, f3, f4, f5⟩, f6, f7, f8⟩ := hF _ _ _ _ hi hq
    have hlen : E.length + Q.length = q.2.2.2.2.length := by
      have := congrArg List.length r11
      simp only [List.length_map, List.length_append, List.length_reverse] at this
      omega
    have e18a := r19 rfl
    have e18b := r18 (Or.inl h14)
    have hnot : ¬ opG cm' (pk n tx q.1) := fun x => r6 ⟨rfl, x⟩
    have C' := tCo_F C r7
    obtain ⟨f'', rfl⟩ : ∃ e, f' = e + 1 := ⟨f' - 1, by omega⟩
    have hq1 : q.1 ≤ 600 := by omega
    have hnbi : nbr n tx i ≤ n - i := nbr_le
    simp only [eb]
    rw [r1, rE_n, tLook C'.1 r3.at f2, f7, stI_self r3.at, bd_s, tNoteN _ r3, bd_s, r3.cmp, if_neg (show ¬ (lvC (pk n tx q.1) = 2 ∨ lvC (pk n tx q.1) = 1 ∨ (lvC (pk n tx q.1) = 0 ∧ cm' = 0)) from hnot)]
    have hmb : mkB (σ'.1 4 (p + k)) = true := by
      rw [r7.2.2.2.2.1 4 (p + k) (Or.inl rfl) (by omega), h4]; rcases hmk with rfl | rfl | rfl <;> decide
    have hhas := tHas1 r3.pl (by omega) (show p + k < p + k + 1 + Q.length by omega) hmb
    unfold fX11_readE_105
    rw [hhas, bd_s, if_neg (by decide)]
    have h4' : σ'.1 4 (p + k) = mk := by rw [r7.2.2.2.2.1 4 (p + k) (Or.inl rfl) (by omega), h4]
    have hnm : ∀ x, x < Q.length → mkB (σ'.1 4 (p + k + 1 + x)) = false := by
      intro x hx
      have := r9 x Q[x] (by simp [hx])
      rw [this]; exact op_nomk (r10 _ (List.getElem_mem hx)).2
    by_cases hc : pk n tx q.1 = cl
    · obtain ⟨hlt, etx⟩ := pkc_lt hc hcl
      have htk := nbr_tk hlt
      rw [f7] at hlt etx htk
      rw [if_pos hc]
      obtain ⟨σ2, s1, s2, s3, s4, s5, s6⟩ := tClose (p1 := p) (k := k) (c := pk n tx q.1) (mk := mk) (cm0 := cm) (gr := gr) (nF := nF) r3 (by omega) (by omega) (by omega) (by omega) (by omega) hmk h4' (by rw [hc, hclm]; split <;> rfl) (by rw [r7.2.2.2.2.1 6 (p + k) (Or.inr (Or.inr rfl)) (by omega), h6]) hcm r9 (fun x hx => (r10 x hx).2) (fun x hx => by rw [r7.2.2.2.2.1 4 _ (Or.inl rfl) (by omega)]; exact h33 x hx) (by
        rcases hbot with q1 | q1
        · exact Or.inl q1
        · by_cases hp0 : p = 0
          · exact Or.inl hp0
          · refine Or.inr ?_
            rw [r7.2.2.2.2.1 4 _ (Or.inl rfl) (by omega)]; exact q1) (r16.trans h12) (by
        rcases hgr with q1 | ⟨x, x1, x2⟩
        · exact Or.inl q1
        · exact Or.inr ⟨x, by omega, x2⟩) (by
        rcases e18b with q1 | ⟨y, y1, y2⟩
        · exact Or.inl q1
        · exact Or.inr ⟨y, by omega, y2⟩) C'.2.2.2.2
      have e5 : σ'.1 5 (p + k) = σ.1 5 (p + k) := r7.2.2.2.2.1 5 (p + k) (Or.inr (Or.inl rfl)) (by omega)
      rw [C'.2.2.2.1, e5] at s2 s3
      have hgo : ∀ K : Int32 → Int32 → Int32 → cS → Option (Int32 × cS), (if pk n tx q.1 = 41 then (bd (fX11_close (pk n tx q.1) σ') fun r4 σ3 => K r4 0 1 σ3) else if pk n tx q.1 = 93 then (bd (fX11_close (pk n tx q.1) σ') fun r6 σ5 => K r6 0 1 σ5) else fX11_readE_136 K 1 0 1 σ') = K 1 0 1 σ2 := by
        intro K
        rcases h93 with h | h
        · rw [if_pos (hc.trans h), s1, bd_s]
        · rw [if_neg (by rw [hc, h]; decide), if_pos (hc.trans h), s1, bd_s]
      rw [hgo]
      have hsm : gSm g g' σ' σ2 := by
        intro y x y1 y2 x1 x2
        refine s6 y x y1 y2 ?_
        rcases hgr with q1 | ⟨z, z1, z2⟩
        · rw [q1]; exact fun q2 => nz_m1 (a := x) (by omega) q2.symm
        · rw [z2]; intro q2; rw [nz_inj (by omega) (by omega)] at q2; omega
      have hl0 := (Prn_of f4).2.1
      refine ⟨f'', σ2, g', rfl, ?_, ?_, ?_, ?_, r12, ?_, ?_, ?_, ?_, ?_, ?_, ?_⟩
      · simp only; omega
      · simp only
        rw [show dep + 1 - 1 - k = dep - k by omega, show o + E.length + Q.length = o + q.2.2.2.2.length by omega] at s2
        exact s2
      · simp only
        rw [r11, List.append_assoc]
        exact tOA_app (tOA_F r8 (s4 0 0 0 (fun x _ => Nat.zero_le _)) (Nat.le_refl _)) s3
      · intro b hb hx
        exact (r7.wk (Nat.le_refl _) (by omega) hb (Nat.le_refl _)).tr (s4 p b (m + 1) hx) (by omega) (Nat.le_refl _) (Nat.le_refl _) (Nat.le_refl _)
      · simp only; omega
      · simp only [Nat.add_sub_cancel]; exact r14.sm hsm
      · simp only [Nat.add_sub_cancel]
        rw [par_le hl0] at r15
        exact r15.sm hsm
      · intro x hx hx6
        obtain ⟨t1, t2, t3, t4, t5⟩ := s5 x hx hx6
        have hxg : x < g := by
          rcases hgr with q1 | ⟨z, z1, z2⟩
          · exact absurd (hx.symm.trans q1) (nz_m1 (by omega))
          · rw [z2, nz_inj (by omega) (by omega)] at hx; omega
        refine ⟨by simp only [Nat.add_sub_cancel]; exact t1, t2.trans e18a, t3.trans (r7.2.2.2.2.2.1 7 x (by omega) (by omega) hxg), t4.trans (r7.2.2.2.2.2.1 9 x (by omega) (by omega) hxg)⟩
      · simp only; omega
      · simp only; omega
      · simp only [Nat.add_sub_cancel]; exact etx
    · rw [if_neg hc]
      obtain ⟨f3, rfl⟩ : ∃ e, f'' = e + 1 := ⟨f'' - 1, by omega⟩
      have hst : ∀ K : Int32 → Int32 → Int32 → cS → Option (Int32 × cS), (if pk n tx q.1 = 41 then (bd (fX11_close (pk n tx q.1) σ') fun r4 σ3 => K r4 0 1 σ3) else if pk n tx q.1 = 93 then (bd (fX11_close (pk n tx q.1) σ') fun r6 σ5 => K r6 0 1 σ5) else fX11_readE_136 K 1 0 1 σ') = K 0 0 1 (stI σ' 0 7 (nz q.1)) := by
        intro K
        have hcn : (pk n tx q.1 = 41 ∨ pk n tx q.1 = 93) → fX11_close (pk n tx q.1) σ' = some (0, stI σ' 0 7 (nz q.1)) := by
          intro hx
          unfold fX11_close
          rw [r3.pl, nz_p (by omega), show p + k + 1 + Q.length - 1 = p + k + Q.length by omega, tClose7 h4' (by rcases hmk with rfl | rfl | rfl <;> decide) Q.length FU (by unfold FU; omega) (by omega) hnm, if_neg (by
            intro q0
            apply hc
            rw [hclm]
            split at q0
            · next h => rw [if_pos h]; exact q0
            · next h => rw [if_neg h]; exact q0)]
          exact tCloseN r3
        by_cases c1 : pk n tx q.1 = 41
        · rw [if_pos c1, hcn (Or.inl c1), bd_s]
        · rw [if_neg c1]
          by_cases c2 : pk n tx q.1 = 93
          · rw [if_pos c2, hcn (Or.inr c2), bd_s]
          · rw [if_neg c2]
            unfold fX11_readE_136
            rw [hhas, bd_s, if_neg (by decide), tStops r3.wr r3.at, bd_s]
      rw [hst, rE_0]
      have hnd := nbr_diffA (n := n) (tx := tx) (i := i) (j := q.1) (by omega)
      refine ⟨_, rfl, ⟨by simp [gI], by simpa [gI] using r3.at⟩, ?_, o + E.length, by omega, by simpa [gI] using r3.od⟩
      exact (r7.wk (Nat.le_refl _) (by omega) (Nat.le_refl _) (by omega)).tq (tEF_I (by omega))
end
