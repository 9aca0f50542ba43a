set_option maxRecDepth 100000
section
variable {n : Nat} {tx : Nat → Int32}
theorem tn_lit {a : Nat} (h : a < 2147483648) : (nz a).toNatClampNeg = a := nz_tn h
theorem cDr46 {σ : cS} {i p st cb s m : Nat} {w : Option Nat} {ch : List Int32} {v x2 x4 : Int32} {K : Int32 → Int32 → Int32 → cS → Option (Option Unit × cS)} (M : cMS σ n tx i w p st cb s ch) (hm : m < 3) (hs : s + 3 ≤ 600) :
    (∃ e, pNo n tx i = .error e ∧ ∃ σ', fX1_draw_46 v K x2 (nz m) x4 σ = some (none, σ') ∧ (∀ g a b d, cSF g a b d σ σ') ∧ σ'.1 4 6 = nz e) ∨
    (∃ q, pNo n tx i = .ok q ∧ ∃ σ', fX1_draw_46 v K x2 (nz m) x4 σ = K x2 (nz (m + 1)) (x4 + q.2.2) σ' ∧ cMS σ' n tx q.1 w p st cb (s + ((if m = 0 then [] else [32]) ++ q.2.1).length) ch ∧ σ'.1 5 m = q.2.2 ∧ (∀ j, j ≠ m → σ'.1 5 j = σ.1 5 j) ∧ (∀ g, cSF g p cb s σ σ') ∧ cPr σ' s ((if m = 0 then [] else [32]) ++ q.2.1)) := by
  unfold fX1_draw_46
  rcases cNumM M with ⟨e, h1, σ', h2, h3, h4⟩ | ⟨q, h1, h2, M1⟩
  · rw [bdT_en h2]
    exact Or.inl ⟨e, h1, σ', rfl, h3, h4⟩
  · obtain ⟨f1, f2, f3, f4, f5, ⟨a, fa, fb, fc⟩, f10, f11⟩ := pNo_ok h1
    have hl2 : q.2.1.length ≤ 2 := by rw [fc]; unfold pnm; split <;> simp
    rw [bdT_e h2, ck_n hm (by omega), wI_e, nz_tn (by omega)]
    have M2 := M1.oth (o := 5) (j := m) (v := q.2.2) (by omega)
    have F2 : ∀ g, cSF g p cb s σ (stI (stI σ 3 3 (nz q.1)) 5 m q.2.2) := fun g => cAt_S.tq (cSF_I (by omega))
    have e5 : (stI (stI σ 3 3 (nz q.1)) 5 m q.2.2).1 5 m = q.2.2 := by simp [gI]
    have e5' : ∀ j, j ≠ m → (stI (stI σ 3 3 (nz q.1)) 5 m q.2.2).1 5 j = σ.1 5 j := fun j hj => by simp [gI, hj]
    generalize stI (stI σ 3 3 (nz q.1)) 5 m q.2.2 = σ2 at M2 F2 e5 e5' ⊢
    rw [ck_n hm (by omega), e5, nz_s]
    by_cases hm0 : m = 0
    · rw [if_pos (by rw [hm0]; decide), ck_d M2.E.hto, ck_n hm (by omega), fb, cPutN fa M2.hs (by rw [← fc]; omega), bd_s]
      refine Or.inr ⟨q, h1, ptL σ2 s (pnm a), by rw [fb], ?_, ?_, ?_, fun g => (F2 g).tq (cSF_pt _), ?_⟩
      · rw [if_pos hm0, List.nil_append, fc]; exact M2.pt _
      · rw [ptL_o _ _ _ _ _ (by decide) (fun q => absurd q.1 (by decide))]; rw [e5, fb]
      · intro j hj; rw [ptL_o _ _ _ _ _ (by decide) (fun q => absurd q.1 (by decide))]; exact e5' j hj
      · rw [if_pos hm0, List.nil_append, fc]; exact cPr_pt
    · have hlen : (pnm a).length ≤ 2 := by rw [← fc]; exact hl2
      rw [if_neg (by rw [nz_le0 (by omega)]; exact hm0), ck_d M2.E.hto, cPut (show lo7 32 from ⟨32, by decide, rfl⟩) M2.hs (by omega), bd_s]
      have M3 := M2.pt [32]
      have e6 : (ptL σ2 s [32]).1 5 m = nz a := by rw [ptL_o _ _ _ _ _ (by decide) (fun q => absurd q.1 (by decide)), e5, fb]
      rw [ck_d M3.E.hto, ck_n hm (by omega), e6, cPutN fa M3.hs (by simp; omega), bd_s, ← ptL_app]
      refine Or.inr ⟨q, h1, ptL σ2 s ([32] ++ pnm a), rfl, ?_, ?_, ?_, fun g => (F2 g).tq (cSF_pt _), ?_⟩
      · rw [if_neg hm0, fc]; exact M2.pt _
      · rw [ptL_o _ _ _ _ _ (by decide) (fun q => absurd q.1 (by decide))]; exact e5
      · intro j hj; rw [ptL_o _ _ _ _ _ (by decide) (fun q => absurd q.1 (by decide))]; exact e5' j hj
      · rw [if_neg hm0, fc]; exact cPr_pt
theorem cDr112 {σ : cS} {i p st cb s f : Nat} {w : Option Nat} {ch : List Int32} {v : Int32} (M : cMS σ n tx i w p st cb s ch) (hv : lo7 v) (h2 : cb + 1 ≤ 2 * st) (hf : f < n) (bad : Bool) :
    ∃ σ', fX1_draw_112 v (nz f) (if bad = true then 0 else 1) σ = some (some (), σ') ∧ cMS σ' n tx i (ntb bad w f) p st (cb + 1) s ch ∧ cSF (st ≤ 40) p cb s σ σ' ∧ (st ≤ 40 → σ'.1 10 cb = 1 ∧ σ'.1 11 cb = v ∧ σ'.1 12 cb = σ.1 5 0 ∧ σ'.1 13 cb = σ.1 5 1 ∧ σ'.1 14 cb = σ.1 5 2) := by
  have hn6 := M.E.hn6
  unfold fX1_draw_112
  rw [cNote M.E.hw M.E.hg hn6 (by omega), bd_s]
  have M1 := M.wr (wG_ntb (b := bad) (p := f) M.E.hg hf)
  have F1 : cSF (st ≤ 40) p cb s σ (stI σ 3 5 (ow (ntb bad w f))) := cSF_I (by omega)
  have e5 : ∀ j, (stI σ 3 5 (ow (ntb bad w f))).1 5 j = σ.1 5 j := fun j => by simp [gI]
  generalize stI σ 3 5 (ow (ntb bad w f)) = σ1 at M1 F1 e5 ⊢
  obtain ⟨k, k1, k2, k3, M2, F2, k5, k6, k7⟩ := M1.add (wh := 1) (v := v) ⟨1, by decide, rfl⟩ hv h2
  have e5' : ∀ j, (stAdd σ1 k 1 v).1 5 j = σ.1 5 j := fun j => by rw [← e5 j]; simp [stAdd, gI]
  rw [ck_d M1.E.hto, k3, bd_s]
  generalize stAdd σ1 k 1 v = σ2 at M2 F2 k5 k6 k7 e5' ⊢
  have hcb : st ≤ 40 → cb ≤ k := fun x => by have := k2 x; omega
  rw [show ((0 : Int32)).toNatClampNeg = 0 from rfl, show ((1 : Int32)).toNatClampNeg = 1 from rfl, show ((2 : Int32)).toNatClampNeg = 2 from rfl]
  rw [ck_d M2.E.hto, ck_t (show inB 0 3 = true by decide), ck_n k1 (by omega), nz_tn (by omega), wI_e, e5']
  have M3 := M2.oth (o := 12) (j := k) (v := σ.1 5 0) (by omega)
  rw [ck_d M3.E.hto, ck_t (show inB 1 3 = true by decide), ck_n k1 (by omega), wI_e, show (stI σ2 12 k (σ.1 5 0)).1 5 1 = σ.1 5 1 by rw [← e5' 1]; simp [gI]]
  have M4 := M3.oth (o := 13) (j := k) (v := σ.1 5 1) (by omega)
  rw [ck_d M4.E.hto, ck_t (show inB 2 3 = true by decide), ck_n k1 (by omega), wI_e, show (stI (stI σ2 12 k (σ.1 5 0)) 13 k (σ.1 5 1)).1 5 2 = σ.1 5 2 by rw [← e5' 2]; simp [gI]]
  have M5 := M4.oth (o := 14) (j := k) (v := σ.1 5 2) (by omega)
  refine ⟨_, rfl, M5, ?_, fun x => ?_⟩
  · exact ((F1.tq F2).tq (cSF_I (Or.inr (Or.inr (Or.inr (Or.inr (Or.inr (Or.inr ⟨by omega, hcb⟩)))))))).tq ((cSF_I (Or.inr (Or.inr (Or.inr (Or.inr (Or.inr (Or.inr ⟨by omega, hcb⟩))))))).tq (cSF_I (Or.inr (Or.inr (Or.inr (Or.inr (Or.inr (Or.inr ⟨by omega, hcb⟩))))))))
  · have := k2 x
    subst this
    simp [gI, k5, k6]
theorem i32_add0 (a : Int32) : a + 0 = a := Int32.add_zero a
theorem i32_0add (a : Int32) : 0 + a = a := Int32.zero_add a
theorem cDraw {σ : cS} {i p st cb s : Nat} {w : Option Nat} {ch : List Int32} {v : Int32} (M : cMS σ n tx i w p st cb s ch) (hv : lo7 v) (h2 : cb + 1 ≤ 2 * st) (hs : s + 9 ≤ 600) :
    (∃ e, pDr n tx i = .error e ∧ ∃ σ', fX1_draw v σ = some (none, σ') ∧ cSF False p cb s σ σ' ∧ σ'.1 4 6 = nz e) ∨
    (∃ q, pDr n tx i = .ok q ∧ ∃ σ', fX1_draw v σ = some (some (), σ') ∧ cMS σ' n tx q.1 (ntb (!decide (q.2.1.1 + q.2.1.2.1 + q.2.1.2.2 = 16)) w (sk n tx i)) p st (cb + 1) (s + q.2.2.length) ch ∧ cSF (st ≤ 40) p cb s σ σ' ∧ cPr σ' s q.2.2 ∧ (st ≤ 40 → σ'.1 10 cb = 1 ∧ σ'.1 11 cb = v ∧ σ'.1 12 cb = q.2.1.1 ∧ σ'.1 13 cb = q.2.1.2.1 ∧ σ'.1 14 cb = q.2.1.2.2)) := by
  unfold fX1_draw
  obtain ⟨l1, M1⟩ := cLookM M
  rw [l1, bd_s, M1.E.hat, ck_t (show inB 2 3 = true by decide), wI_e, show ((2 : Int32)).toNatClampNeg = 2 from rfl]
  have M2 := M1.oth (o := 5) (j := 2) (v := 0) (by omega)
  have F2 : ∀ g, cSF g p cb s σ (stI (stI σ 3 3 (nz (sk n tx i))) 5 2 0) := fun g => cAt_S.tq (cSF_I (by omega))
  have e2 : (stI (stI σ 3 3 (nz (sk n tx i))) 5 2 0).1 5 2 = 0 := by simp [gI]
  generalize stI (stI σ 3 3 (nz (sk n tx i))) 5 2 0 = σ2 at M2 F2 e2 ⊢
  have epk : pNo n tx (sk n tx i) = pNo n tx i := by unfold pNo; rw [pk_sk, sk_sk]
  rw [show FU = 99996 + 1 + 1 + 1 + 1 from rfl]
  unfold fX1_draw_22
  rw [if_pos (by decide)]
  rcases cDr46 (v := v) (x2 := nz (sk n tx i)) (x4 := 0) (K := fX1_draw_22 v (99996 + 1 + 1 + 1)) M2 (m := 0) (by omega) (by omega) with ⟨e, h1, σ', h3, h4, h5⟩ | ⟨a, h1, σ3, h3, M3, h5, h6, F3, P3⟩
  · rw [epk] at h1
    exact Or.inl ⟨e, by unfold pDr; rw [h1]; rfl, σ', h3, (F2 _).tq (h4 _ _ _ _), h5⟩
  · rw [show (0 : Int32) = nz 0 from rfl] at h3 ⊢
    rw [h3]
    rw [epk] at h1
    simp only [if_true, List.nil_append] at M3 P3
    have g1 := pNo_ok h1
    have hla : a.2.1.length ≤ 2 := by obtain ⟨_, _, _, _, _, ⟨x, x1, x2, x3⟩, _, _⟩ := g1; rw [x3]; unfold pnm; split <;> simp
    unfold fX1_draw_22
    rw [if_pos (by decide)]
    rcases cDr46 (v := v) (x2 := nz (sk n tx i)) (x4 := nz 0 + a.2.2) (K := fX1_draw_22 v (99996 + 1 + 1)) M3 (m := 1) (by omega) (by omega) with ⟨e, k1, σ', k3, k4, k5⟩ | ⟨b, k1, σ4, k3, M4, k5, k6, F4, P4⟩
    · exact Or.inl ⟨e, by unfold pDr; rw [h1]; simp only [eb]; rw [k1], σ', k3, ((F2 _).tq (F3 _)).tq (k4 _ _ _ _), k5⟩
    · rw [k3]
      simp only [show ¬ (1 = 0) by decide, if_false] at M4 P4
      have g2 := pNo_ok k1
      have hlb : b.2.1.length ≤ 2 := by obtain ⟨_, _, _, _, _, ⟨x, x1, x2, x3⟩, _, _⟩ := g2; rw [x3]; unfold pnm; split <;> simp
      have hskn : sk n tx i < n := g1.2.1
      have F24 : ∀ g, cSF g p cb s σ σ4 := fun g => ((F2 g).tq (F3 g)).tr (F4 g) (Nat.le_refl _) (Nat.le_refl _) (by omega) (fun x => ⟨x, x⟩)
      have P34 : cPr σ4 s (a.2.1 ++ ([32] ++ b.2.1)) := cPr_app (cPr_S P3 (F4 True) (Nat.le_refl _)) P4
      have n0 : σ4.1 5 0 = a.2.2 := (k6 0 (by decide)).trans h5
      have n1 : σ4.1 5 1 = b.2.2 := k5
      have n2 : σ4.1 5 2 = 0 := (k6 2 (by decide)).trans ((h6 2 (by decide)).trans e2)
      unfold fX1_draw_22
      rw [if_neg (by decide), if_neg (by decide)]
      obtain ⟨l5, M5⟩ := cLookM M4
      rw [l5, bd_s, isIn0, bd_s]
      by_cases hd : isI (pk n tx b.1) 48 57 = true
      · rw [if_pos hd, if_neg (by decide)]
        have hpd : pDr n tx i = .ok ((pNm n tx (sk n tx b.1)).1, (a.2.2, b.2.2, (pNm n tx (sk n tx b.1)).2.2), a.2.1 ++ 32 :: (b.2.1 ++ 32 :: (pNm n tx (sk n tx b.1)).2.1)) := by unfold pDr; rw [h1]; simp only [eb]; rw [k1]; exact if_pos hd
        have F5 : ∀ g, cSF g p cb s σ (stI σ4 3 3 (nz (sk n tx b.1))) := fun g => (F24 g).tq cAt_S
        have P5 : cPr (stI σ4 3 3 (nz (sk n tx b.1))) s (a.2.1 ++ ([32] ++ b.2.1)) := cPr_S P34 (cAt_S (g := True) (p := p) (cb := cb) (s := s + (a.2.1 ++ ([32] ++ b.2.1)).length)) (Nat.le_refl _)
        have m0 : (stI σ4 3 3 (nz (sk n tx b.1))).1 5 0 = a.2.2 := by simpa [gI] using n0
        have m1 : (stI σ4 3 3 (nz (sk n tx b.1))).1 5 1 = b.2.2 := by simpa [gI] using n1
        have epk2 : pNo n tx (sk n tx b.1) = .ok (pNm n tx (sk n tx b.1)) := by unfold pNo; rw [pk_sk, sk_sk, if_pos hd]
        generalize stI σ4 3 3 (nz (sk n tx b.1)) = σ5 at M5 F5 P5 m0 m1 ⊢
        rcases cDr46 (v := v) (x2 := nz (sk n tx i)) (x4 := nz 0 + a.2.2 + b.2.2) (K := fX1_draw_22 v (99996 + 1)) M5 (m := 2) (by omega) (by simp only [List.length_append, List.length_cons, List.length_nil]; omega) with ⟨e, j1, -⟩ | ⟨c, j1, σ6, j3, M6, j5, j6, F6, P6⟩
        · rw [epk2] at j1; cases j1
        · rw [epk2] at j1
          cases j1
          rw [j3]
          simp only [show ¬ (2 = 0) by decide, if_false] at M6 P6
          have F26 : ∀ g, cSF g p cb s σ σ6 := fun g => (F5 g).tr (F6 g) (Nat.le_refl _) (Nat.le_refl _) (by omega) (fun x => ⟨x, x⟩)
          have P36 : cPr σ6 s (a.2.1 ++ ([32] ++ b.2.1) ++ ([32] ++ (pNm n tx (sk n tx b.1)).2.1)) := by
            refine cPr_app (cPr_S P5 (F6 True) (by simp only [List.length_append]; omega)) ?_
            rw [List.length_append, ← Nat.add_assoc]; exact P6
          have o0 : σ6.1 5 0 = a.2.2 := (j6 0 (by decide)).trans m0
          have o1 : σ6.1 5 1 = b.2.2 := (j6 1 (by decide)).trans m1
          unfold fX1_draw_22
          rw [if_neg (by decide), if_pos (by decide)]
          have e16 : (nz 0 + a.2.2 + b.2.2 + (pNm n tx (sk n tx b.1)).2.2) = a.2.2 + b.2.2 + (pNm n tx (sk n tx b.1)).2.2 := by rw [show nz 0 = (0 : Int32) from rfl, i32_0add]
          rw [e16]
          obtain ⟨σ7, t1, M7, F7, t4⟩ := cDr112 M6 hv h2 hskn (!decide (a.2.2 + b.2.2 + (pNm n tx (sk n tx b.1)).2.2 = 16))
          refine Or.inr ⟨_, hpd, σ7, ?_, ?_, (F26 _).tr F7 (Nat.le_refl _) (Nat.le_refl _) (by omega) (fun x => ⟨x, x⟩), ?_, ?_⟩
          · by_cases h16 : a.2.2 + b.2.2 + (pNm n tx (sk n tx b.1)).2.2 = 16
            · rw [if_pos h16]; rw [decide_eq_true h16] at t1; exact t1
            · rw [if_neg h16]; rw [decide_eq_false h16] at t1; exact t1
          · simp only
            rw [show s + (a.2.1 ++ 32 :: (b.2.1 ++ 32 :: (pNm n tx (sk n tx b.1)).2.1)).length = s + a.2.1.length + ([32] ++ b.2.1).length + ([32] ++ (pNm n tx (sk n tx b.1)).2.1).length by simp; omega]
            exact M7
          · have := cPr_S P36 F7 (by simp only [List.length_append, List.length_cons]; omega)
            simpa using this
          · intro x
            obtain ⟨u1, u2, u3, u4, u5⟩ := t4 x
            exact ⟨u1, u2, u3.trans o0, u4.trans o1, u5.trans j5⟩
      · rw [if_neg hd, if_pos rfl]
        have hpd : pDr n tx i = .ok (sk n tx b.1, (a.2.2, b.2.2, 0), a.2.1 ++ 32 :: b.2.1) := by unfold pDr; rw [h1]; simp only [eb]; rw [k1]; exact if_neg hd
        have F5 : ∀ g, cSF g p cb s σ (stI σ4 3 3 (nz (sk n tx b.1))) := fun g => (F24 g).tq cAt_S
        have P5 : cPr (stI σ4 3 3 (nz (sk n tx b.1))) s (a.2.1 ++ ([32] ++ b.2.1)) := cPr_S P34 (cAt_S (g := True) (p := p) (cb := cb) (s := s + (a.2.1 ++ ([32] ++ b.2.1)).length)) (Nat.le_refl _)
        have m0 : (stI σ4 3 3 (nz (sk n tx b.1))).1 5 0 = a.2.2 := by simpa [gI] using n0
        have m1 : (stI σ4 3 3 (nz (sk n tx b.1))).1 5 1 = b.2.2 := by simpa [gI] using n1
        have m2 : (stI σ4 3 3 (nz (sk n tx b.1))).1 5 2 = 0 := by simpa [gI] using n2
        generalize stI σ4 3 3 (nz (sk n tx b.1)) = σ5 at M5 F5 P5 m0 m1 m2 ⊢
        have e16 : (nz 0 + a.2.2 + b.2.2) = a.2.2 + b.2.2 + 0 := by rw [show nz 0 = (0 : Int32) from rfl, i32_0add, i32_add0]
        rw [e16]
        obtain ⟨σ7, t1, M7, F7, t4⟩ := cDr112 M5 hv h2 hskn (!decide (a.2.2 + b.2.2 + 0 = 16))
        refine Or.inr ⟨_, hpd, σ7, ?_, ?_, (F5 _).tr F7 (Nat.le_refl _) (Nat.le_refl _) (by omega) (fun x => ⟨x, x⟩), ?_, ?_⟩
        · by_cases h16 : a.2.2 + b.2.2 + 0 = 16
          · rw [if_pos h16]; rw [decide_eq_true h16] at t1; exact t1
          · rw [if_neg h16]; rw [decide_eq_false h16] at t1; exact t1
        · simp only
          rw [show s + (a.2.1 ++ 32 :: b.2.1).length = s + a.2.1.length + ([32] ++ b.2.1).length by simp; omega]
          exact M7
        · have := cPr_S P5 F7 (by simp only [List.length_append, List.length_cons]; omega)
          simpa using this
        · intro x
          obtain ⟨u1, u2, u3, u4, u5⟩ := t4 x
          exact ⟨u1, u2, u3.trans m0, u4.trans m1, u5.trans m2⟩
end
