set_option maxRecDepth 100000
section
variable {tk n : Nat} {tx : Nat → Int32} {nm : Nat → Int32} {nF B : Nat} {sz : Int32} {a1 : Nat}
/-- the twin reads a statement as the grammar says -/
theorem tStm (hB : B ≤ 9000) : ∀ d, tPS B tk n tx nm nF a1 sz d := by
  intro d
  induction d using Nat.strongRecOn with
  | _ d ih =>
  intro σ i w o g b st nc dm ch cb f H hcb hd h125 hm1
  cases d with
  | zero => omega
  | succ d =>
    have H0 := H
    obtain ⟨b1, b2, b3, b4, b5, b6, b7, b8, b9, b10, b11, b12, b13⟩ := H
    have hn6 : n ≤ 600 := b6.1.2.2.2.2.2.1
    have hsg := sk_ge (n := n) (tx := tx) i
    have hsl := sk_le (n := n) (tx := tx) b2
    have hns := nbr_sk (n := n) (tx := tx) i
    obtain ⟨f, rfl⟩ : ∃ e, f = e + 1 := ⟨f - 1, by omega⟩
    rw [rM_st f b6.1 b7 b2 (by omega) (by omega) h125 hm1]
    show tMR B a1 sz n tx nm nF σ cb i o g b nc dm (f + 1) _ (pSt n tx (pS n tx d).2 b i w st cb ch)
    have M1 := b7.go (sk n tx i)
    have F1 : ∀ x y z t u, tMF x y z t u σ (stI σ 0 6 (nz (sk n tx i))) := fun x y z t u => tMF_I (by omega)
    unfold fX11_readStatement pSt
    rw [tVar, bd_s, i10, M1.B.at]
    have key : pk n tx i = 35 ∨ pk n tx i = 63 ∨ pk n tx i = 64 ∨ isI (pk n tx i) 97 102 = true → ∃ σ4, fX11_readStatement_35 (pk n tx i) (nz (sk n tx i)) (stI σ 0 6 (nz (sk n tx i))) = (bd (fX11_isVar (pk n tx i) σ4) fun r5 σ4 => if r5 = 0 then (bd (fX11_readE σ4) fun r7 σ6 => if r7 = 0 then (some (0, σ6)) else if pk n tx i = 35 then (bd (fX11_put 12 0 σ6) fun _ σ14 => bd (fX11_take 59 σ14) fun r17 σ16 => ck (bz r17) <| some (r17, σ16)) else bd (fX11_put 13 0 σ6) fun _ σ8 => if pk n tx i = 63 then (bd (fX11_openBlock 1 (nz o) ((σ8.1 0 11) - 1) σ8) fun r13 σ12 => ck (bz r13) <| some (r13, σ12)) else bd (fX11_openBlock 3 (nz o) ((σ8.1 0 11) - 1) σ8) fun r11 σ10 => ck (bz r11) <| some (r11, σ10)) else bd (fX11_readVar (pk n tx i - 97) (nz (sk n tx i)) σ4) fun r19 σ18 => ck (bz r19) <| some (r19, σ18)) ∧ tMS σ4 (sk n tx i + 1) (ntb (decide (40 < st + 1)) w (sk n tx i)) (o + 1) g b (st + 1) nc dm ch ∧ (∀ x y z t, tMF o x y z t σ σ4) ∧ tOA σ4 o [(8, 0)] ∧ wG n (ntb (decide (40 < st + 1)) w (sk n tx i)) ∧ sk n tx i < n := by
      intro hk
      have hne : pk n tx i ≠ -1 := by
        rcases hk with h | h | h | h
        · rw [h]; decide
        · rw [h]; decide
        · rw [h]; decide
        · intro q; rw [q] at h; exact absurd h (by decide)
      obtain ⟨hlt, etx⟩ := pkc_ne hne
      obtain ⟨σ4, k1, k2, k3, k4, k5⟩ := tHead (pk n tx i) M1 hn6 hlt (by omega) (by omega) b4
      exact ⟨σ4, k1, k2, fun x y z t => (F1 o x y z t).tq (k3 x y z t), k4, k5, hlt⟩
    by_cases c1 : isI (pk n tx i) 97 102 = true
    · obtain ⟨σ4, k1, k2, k3, k4, k5, hlt⟩ := key (Or.inr (Or.inr (Or.inr c1)))
      rw [if_pos c1, if_pos c1, k1, tVar, bd_s, i10, if_pos c1]
      exact tStV hB H0 c1 k2 k3 k4 k5
    rw [if_neg c1, if_neg c1]
    by_cases c2 : pk n tx i = 35
    · obtain ⟨σ4, k1, k2, k3, k4, k5, hlt⟩ := key (Or.inl c2)
      rw [if_pos c2, if_pos c2, k1, tVar, bd_s, i10, if_neg c1]
      simp only [if_pos c2]
      exact tStQ hB H0 c2 k2 k3 k4 k5
    rw [if_neg c2, if_neg c2]
    have dpos : sk n tx i < n → ∃ e, d = e + 1 := fun hlt => by
      have := nbr_tk hlt
      exact ⟨d - 1, by omega⟩
    by_cases c4 : pk n tx i = 63
    · obtain ⟨σ4, k1, k2, k3, k4, k5, hlt⟩ := key (Or.inr (Or.inl c4))
      obtain ⟨d, rfl⟩ := dpos hlt
      rw [if_pos c4, if_neg (by rw [c4]; decide), if_pos c4, k1, tVar, bd_s, i10, if_neg c1]
      simp only [if_neg c2, if_pos c4]
      refine tTest hB (ih d (by omega)) H0 hcb (by omega) hlt (by rw [c4]; decide) k2 k3 k4 k5 _ ?_
      intro q b' f8 σ8 g8 nc8 E ib rb h1 h2 hT
      have htk := nbr_tk (n := n) (tx := tx) (i := i) hlt
      obtain ⟨f1, f2, f3, f4, f5, f6⟩ := pSum_facts (n := n) (tx := tx) (by omega) h1
      have hp0 := f4.cl.1
      have hG := (pS_facts (n := n) (tx := tx) (d + 1)).2 _ _ _ _ _ _ _ f2 h2
      by_cases c5 : pk n tx b'.1 = 123
      · rw [if_pos c5]
        exact tCloseE hB (ih d (by omega)) H0 hcb c4 (by omega) (by omega) hG (hG.2.2.2.2.2.2.2.1.1 (f5.1 k5)) ((wM_ntb.tr (pSum_m h1)).tr ((pS_m (d + 1)).2 _ _ _ _ _ _ _ h2)) hT c5
      · rw [if_neg c5]
        exact tCloseI hB H0 hcb c4 hG hT c5
    rw [if_neg c4]
    by_cases c3 : pk n tx i = 64
    · obtain ⟨σ4, k1, k2, k3, k4, k5, hlt⟩ := key (Or.inr (Or.inr (Or.inl c3)))
      obtain ⟨d, rfl⟩ := dpos hlt
      rw [if_pos c3, if_pos c3, k1, tVar, bd_s, i10, if_neg c1]
      simp only [if_neg c2, if_neg c4]
      refine tTest hB (ih d (by omega)) H0 hcb (by omega) hlt (by rw [c3]; decide) k2 k3 k4 k5 _ ?_
      intro q b' f8 σ8 g8 nc8 E ib rb h1 h2 hT
      obtain ⟨f1, f2, f3, f4, f5, f6⟩ := pSum_facts (n := n) (tx := tx) (by omega) h1
      have hG := (pS_facts (n := n) (tx := tx) (d + 1)).2 _ _ _ _ _ _ _ f2 h2
      exact tCloseL (d := d) hB H0 hcb c3 hG hT
    · rw [if_neg c3, if_neg c3, if_neg c4, tStops M1.B.wr M1.B.at, bd_s, ck_t (by decide), bd_s]
      obtain ⟨f, rfl⟩ : ∃ e, f = e + 1 := ⟨f - 1, by omega⟩
      exact ⟨f, _, rfl, by simp [gI], (F1 _ _ _ _ _).tq (tMF_I (by omega)), o, by omega, by simpa [gI] using M1.B.od⟩
end
