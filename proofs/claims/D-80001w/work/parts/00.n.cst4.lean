set_option maxRecDepth 100000
section
variable {n : Nat} {tx : Nat → Int32}
theorem cSemi {σ : cS} {i p st cb s : Nat} {w : Option Nat} {ch : List Int32} (M : cMS σ n tx i w p st cb s ch) (hs : s < 600) :
    (∃ e, pTk n tx 59 i = .error e ∧ ∃ σ', (bdT (fX1_take 59 σ) fun _ σ3 => ck (decide (σ3.2.2 3 2 = some 6)) <| bd (fX3_put 6 59 σ3) fun _ σ5 => some ((some ()), σ5)) = some (none, σ') ∧ (∀ g a b d, cSF g a b d σ σ') ∧ σ'.1 4 6 = nz e) ∨
    (∃ j, pTk n tx 59 i = .ok j ∧ ∃ σ', (bdT (fX1_take 59 σ) fun _ σ3 => ck (decide (σ3.2.2 3 2 = some 6)) <| bd (fX3_put 6 59 σ3) fun _ σ5 => some ((some ()), σ5)) = some (some (), σ') ∧ cMS σ' n tx j w p st cb (s + 1) ch ∧ (∀ g a b, cSF g a b s σ σ') ∧ cPr σ' s [59]) := by
  rcases cTakeM 59 M (by decide) with ⟨e, h1, σ', h2, h3, h4⟩ | ⟨j, h1, h2, M1⟩
  · exact Or.inl ⟨e, h1, σ', by rw [bdT_en h2], h3, h4⟩
  · obtain ⟨h5, M2⟩ := cPutM (c := 59) M1 ⟨59, by decide, rfl⟩ hs
    refine Or.inr ⟨j, h1, _, ?_, M2, fun g a b => cAt_S.tq (cSF_pt _), cPr_pt⟩
    rw [bdT_e h2, ck_d M1.E.hto, h5, bd_s]
theorem cAsg {σ : cS} {j p st cb s : Nat} {w : Option Nat} {ch : List Int32} {v : Int32} (M : cMS σ n tx j w p st cb s ch) (hj : j < n) (hnb : nbr n tx j = nbr n tx (j + 1) + 1) (hv : vV v) (h2 : cb + 1 ≤ 2 * st) (hs : 3 * s + 4 * nbr n tx j ≤ 1600) :
    cSO σ n tx p cb s (fX1_assignment v σ) (pAs n tx v j w st ch) := by
  have hn6 := M.E.hn6
  obtain ⟨va, hva, ev⟩ := hv
  have hv7 : lo7 v := by rw [ev]; exact lo7_lit (by omega)
  have hv97 : lo7 (97 + v) := by rw [ev, show (97 : Int32) = nz 97 from rfl, nz_add]; exact lo7_lit (by omega)
  unfold fX1_assignment pAs
  rw [wI_e, M.E.hat, nz_s]
  have M1 := M.go (j := j + 1) (by omega) (by omega)
  obtain ⟨u1, M2⟩ := cPutM (c := 97 + v) M1 hv97 (by omega)
  rw [ck_d M1.E.hto, u1, bd_s]
  obtain ⟨l3, M3⟩ := cLookM M2
  rw [l3, bd_s]
  have F3 : ∀ g, cSF g p cb s σ (stI (ptL (stI σ 3 3 (nz (j + 1))) s [97 + v]) 3 3 (nz (sk n tx (j + 1)))) := fun g => (cAt_S.tq (cSF_pt _)).tq cAt_S
  have P3 : cPr (stI (ptL (stI σ 3 3 (nz (j + 1))) s [97 + v]) 3 3 (nz (sk n tx (j + 1)))) s [97 + v] := cPr_S cPr_pt (cAt_S (g := True) (p := 0) (cb := 0)) (Nat.le_refl _)
  generalize stI (ptL (stI σ 3 3 (nz (j + 1))) s [97 + v]) 3 3 (nz (sk n tx (j + 1))) = σ3 at M3 F3 P3 ⊢
  have hsg := sk_ge (n := n) (tx := tx) (j + 1)
  by_cases hin : pk n tx (j + 1) = 61 ∨ pk n tx (j + 1) = 126 ∨ pk n tx (j + 1) = 63
  · have hlt : sk n tx (j + 1) < n := by
      rcases hin with h | h | h <;> exact (pkc_lt h (by decide)).1
    have htk := nbr_tk hlt
    have hl7 : lo7 (pk n tx (j + 1)) := by
      rcases hin with h | h | h <;> rw [h]
      · exact ⟨61, by decide, rfl⟩
      · exact ⟨126, by decide, rfl⟩
      · exact ⟨63, by decide, rfl⟩
    have key : cSO σ n tx p cb s (fX1_assignment_55 v (nz j) (pk n tx (j + 1)) σ3) (if pk n tx (j + 1) = 61 then
    eb (pSum n tx (-1) (sk n tx (j + 1) + 1) w) fun q => eb (pTk n tx 59 q.1) fun e => .ok (e, q.2.1, st, [(0, v, q.2.2.2.2, 0, 0, 0)], ch, (97 + v) :: 61 :: (q.2.2.2.1 ++ [59]))
  else if pk n tx (j + 1) = 126 then
    eb (pDr n tx (sk n tx (j + 1) + 1)) fun q => eb (pTk n tx 59 q.1) fun e =>
      .ok (e, ntb (!decide (q.2.1.1 + q.2.1.2.1 + q.2.1.2.2 = 16)) w (sk n tx (sk n tx (j + 1) + 1)), st, [(1, v, [], q.2.1.1, q.2.1.2.1, q.2.1.2.2)], ch, (97 + v) :: 126 :: (q.2.2 ++ [59]))
  else if pk n tx (j + 1) = 63 then
    eb (pNo n tx (sk n tx (j + 1) + 1)) fun q => eb (pTk n tx 59 q.1) fun e =>
      .ok (e, ntb (decide (3 ≤ ch.length)) (ntb (!isI q.2.2 2 5) w (sk n tx (sk n tx (j + 1) + 1))) j, st, [(2, v, [], nz ch.length, 0, 0)], (if ch.length < 3 then ch ++ [q.2.2] else ch), (97 + v) :: 63 :: (q.2.1 ++ [59]))
  else .error (sk n tx (j + 1))) := by
      unfold fX1_assignment_55
      rw [wI_e, M3.E.hat, nz_s]
      have M4 := M3.go (j := sk n tx (j + 1) + 1) (by omega) (by omega)
      obtain ⟨u5, M5⟩ := cPutM (c := pk n tx (j + 1)) M4 hl7 (by omega)
      rw [ck_d M4.E.hto, u5, bd_s]
      have F5 : ∀ g, cSF g p cb s σ (ptL (stI σ3 3 3 (nz (sk n tx (j + 1) + 1))) (s + 1) [pk n tx (j + 1)]) := fun g => ((F3 g).tq cAt_S).tr (cSF_pt (g := g) (p := p) (cb := cb) (s := s + 1) _) (Nat.le_refl _) (Nat.le_refl _) (by omega) (fun x => ⟨x, x⟩)
      have P5 : cPr (ptL (stI σ3 3 3 (nz (sk n tx (j + 1) + 1))) (s + 1) [pk n tx (j + 1)]) s [97 + v, pk n tx (j + 1)] :=
        cPr_app (r := [97 + v]) (t := [pk n tx (j + 1)]) (cPr_S (cPr_S P3 (cAt_S (g := True) (p := 0) (cb := 0) (s := s + 1)) (Nat.le_refl _)) (cSF_pt (g := True) (p := 0) (cb := 0) _) (Nat.le_refl _)) cPr_pt
      generalize ptL (stI σ3 3 3 (nz (sk n tx (j + 1) + 1))) (s + 1) [pk n tx (j + 1)] = σ5 at M5 F5 P5 ⊢
      by_cases c1 : pk n tx (j + 1) = 61
      · rw [if_pos c1, if_pos c1]
        rcases cSumOf (wh := 0) (v := v) M5 ⟨0, by decide, rfl⟩ hv7 h2 (by omega) with ⟨e, h1, σ', h3, h4, h5⟩ | ⟨q, h1, k, σ6, k1, h3, F6, M6, P6, h8⟩
        · rw [h1, bdT_en h3]
          exact ⟨σ', rfl, (F5 _).tr h4 (Nat.le_refl _) (Nat.le_refl _) (by omega) (fun x => ⟨x, x⟩), h5⟩
        · obtain ⟨f1, f2, f3, f4, f5, f6⟩ := pSum_facts M5.E.hle h1
          rw [h1, bdT_e h3]
          simp only [eb]
          rcases cSemi M6 (by omega) with ⟨e, g1, σ', g2, g3, g4⟩ | ⟨z, g1, σ7, g2, M7, F7, P7⟩
          · rw [g1, g2]
            exact ⟨σ', rfl, ((F5 False).tr F6 (g := False) (Nat.le_refl _) (Nat.le_refl _) (by omega) (fun x => x.elim)).tq (g3 _ _ _ _), g4⟩
          · rw [g1, g2]
            have F57 : cSF (st ≤ 40) p cb s σ σ7 := ((F5 (st ≤ 40)).tr F6 (g := st ≤ 40) (Nat.le_refl _) (Nat.le_refl _) (by omega) (fun x => ⟨x, x⟩)).tr (F7 (st ≤ 40) p cb) (Nat.le_refl _) (Nat.le_refl _) (by omega) (fun x => ⟨x, x⟩)
            refine ⟨σ7, rfl, F57, ?_, fun x => ?_, ?_⟩
            · simp only [psz, Nat.add_zero, List.length_cons, List.length_nil, List.length_append]
              rw [show s + (q.2.2.2.1.length + (0 + 1) + 1 + 1) = s + 1 + 1 + q.2.2.2.1.length + 1 by omega]
              exact M7
            · obtain ⟨x1, x2, x3, x4, x5, x6⟩ := h8 x
              have hc1 : cCd1 σ6 6 cb p (0, v, q.2.2.2.2, 0, 0, 0) := by
                refine ⟨x2, x3, fun _ => ⟨x4, x5, x6⟩, fun y => absurd y (by simp only; decide), fun y => absurd y (by simp only; decide), fun y => absurd y (by simp only; decide)⟩
              exact ⟨cCd1_S hc1 (F7 True (p + q.2.2.2.2.length) (cb + 1)) trivial (by omega) (Nat.le_refl _), trivial⟩
            · have := cPr_app (cPr_app (cPr_S P5 F6 (by simp)) P6) (t := [59]) (s := s) (σ := σ6)
              have q1 : cPr σ6 s ([97 + v, pk n tx (j + 1)] ++ q.2.2.2.1) := cPr_app (cPr_S P5 F6 (by simp)) P6
              have q2 : cPr σ7 s ([97 + v, pk n tx (j + 1)] ++ q.2.2.2.1 ++ [59]) := cPr_app (cPr_S q1 (F7 True 0 0) (by simp; omega)) (by rw [List.length_append, ← Nat.add_assoc]; exact P7)
              simpa [c1] using q2
      · rw [if_neg c1, if_neg c1]
        by_cases c2 : pk n tx (j + 1) = 126
        · rw [if_pos c2, if_pos c2]
          rcases cDraw (v := v) M5 hv7 h2 (by omega) with ⟨e, h1, σ', h3, h4, h5⟩ | ⟨q, h1, σ6, h3, M6, F6, P6, h8⟩
          · rw [h1, bdT_en h3]
            exact ⟨σ', rfl, (F5 _).tr h4 (Nat.le_refl _) (Nat.le_refl _) (by omega) (fun x => ⟨x, x⟩), h5⟩
          · obtain ⟨f1, f2, f3, f4, f5, f6⟩ := pDr_ok h1
            rw [h1, bdT_e h3]
            simp only [eb]
            rcases cSemi M6 (by omega) with ⟨e, g1, σ', g2, g3, g4⟩ | ⟨z, g1, σ7, g2, M7, F7, P7⟩
            · rw [g1, g2]
              exact ⟨σ', rfl, ((F5 False).tr F6 (g := False) (Nat.le_refl _) (Nat.le_refl _) (by omega) (fun x => x.elim)).tq (g3 _ _ _ _), g4⟩
            · rw [g1, g2]
              have F57 : cSF (st ≤ 40) p cb s σ σ7 := ((F5 (st ≤ 40)).tr F6 (g := st ≤ 40) (Nat.le_refl _) (Nat.le_refl _) (by omega) (fun x => ⟨x, x⟩)).tr (F7 (st ≤ 40) p cb) (Nat.le_refl _) (Nat.le_refl _) (by omega) (fun x => ⟨x, x⟩)
              refine ⟨σ7, rfl, F57, ?_, fun x => ?_, ?_⟩
              · simp only [psz, Nat.add_zero, List.length_cons, List.length_nil, List.length_append]
                rw [show s + (q.2.2.length + (0 + 1) + 1 + 1) = s + 1 + 1 + q.2.2.length + 1 by omega]
                exact M7
              · obtain ⟨x1, x2, x3, x4, x5⟩ := h8 x
                have hc1 : cCd1 σ6 6 cb p (1, v, [], q.2.1.1, q.2.1.2.1, q.2.1.2.2) := by
                  refine ⟨x1, x2, fun y => absurd y (by simp only; decide), fun _ => ⟨x3, x4⟩, fun y => absurd y (by simp only; decide), fun _ => x5⟩
                exact ⟨cCd1_S hc1 (F7 True p (cb + 1)) trivial (by omega) (Nat.le_refl _), trivial⟩
              · have q1 : cPr σ6 s ([97 + v, pk n tx (j + 1)] ++ q.2.2) := cPr_app (cPr_S P5 F6 (by simp)) P6
                have q2 : cPr σ7 s ([97 + v, pk n tx (j + 1)] ++ q.2.2 ++ [59]) := cPr_app (cPr_S q1 (F7 True 0 0) (by simp; omega)) (by rw [List.length_append, ← Nat.add_assoc]; exact P7)
                simpa [c2] using q2
        · have c3 : pk n tx (j + 1) = 63 := by
            rcases hin with h | h | h
            · exact absurd h c1
            · exact absurd h c2
            · exact h
          rw [if_neg c2, if_neg c2, if_pos c3, ck_d M5.E.hto]
          obtain ⟨k, k1, k2, k3, M6, F6, k5, k6, k7⟩ := M5.add (wh := 2) (v := v) ⟨2, by decide, rfl⟩ hv7 h2
          rw [k3, bd_s]
          obtain ⟨l7, M7⟩ := cLookM M6
          rw [l7, bd_s, M7.E.hat]
          have F7 : cSF (st ≤ 40) p cb s σ (stI (stAdd σ5 k 2 v) 3 3 (nz (sk n tx (sk n tx (j + 1) + 1)))) := ((F5 (st ≤ 40)).tr F6 (g := st ≤ 40) (Nat.le_refl _) (Nat.le_refl _) (by omega) (fun x => ⟨x, x⟩)).tq cAt_S
          have P7 : cPr (stI (stAdd σ5 k 2 v) 3 3 (nz (sk n tx (sk n tx (j + 1) + 1)))) s [97 + v, pk n tx (j + 1)] := cPr_S P5 (F6.tr (cAt_S (g := True)) (g := st ≤ 40) (Nat.le_refl _) (Nat.le_refl _) (Nat.le_refl _) (fun x => ⟨x, trivial⟩)) (by simp)
          have K5 : (stI (stAdd σ5 k 2 v) 3 3 (nz (sk n tx (sk n tx (j + 1) + 1)))).1 10 k = 2 := by simpa [gI] using k5
          have K6 : (stI (stAdd σ5 k 2 v) 3 3 (nz (sk n tx (sk n tx (j + 1) + 1)))).1 11 k = v := by simpa [gI] using k6
          generalize stI (stAdd σ5 k 2 v) 3 3 (nz (sk n tx (sk n tx (j + 1) + 1))) = σ7 at M7 F7 P7 K5 K6 ⊢
          have epk : pNo n tx (sk n tx (sk n tx (j + 1) + 1)) = pNo n tx (sk n tx (j + 1) + 1) := by unfold pNo; rw [pk_sk, sk_sk]
          rcases cNumM M7 with ⟨e, h1, σ', h3, h4, h5⟩ | ⟨q, h1, h3, M8⟩
          · rw [epk] at h1
            rw [h1, bdT_en h3]
            exact ⟨σ', rfl, (F7.wk (g := False) (fun x => x.elim)).tq (h4 _ _ _ _), h5⟩
          · rw [epk] at h1
            obtain ⟨f1, f2, f3, f4, f5, ⟨a, fa, fb, fc⟩, f10, f11⟩ := pNo_ok h1
            have hl2 : (pnm a).length ≤ 2 := by unfold pnm; split <;> simp
            rw [h1, bdT_e h3, isIn0, bd_s]
            simp only [eb]
            have hif : (if isI q.2.2 2 5 = true then (1 : Int32) else 0) = if (!isI q.2.2 2 5) = true then 0 else 1 := by cases isI q.2.2 2 5 <;> rfl
            rw [hif, cNote M8.E.hw M8.E.hg hn6 (by omega), bd_s]
            have M9 := M8.wr (wG_ntb (b := !isI q.2.2 2 5) (p := sk n tx (sk n tx (j + 1) + 1)) M8.E.hg f2)
            have F9 : cSF (st ≤ 40) p cb s σ (stI (stI σ7 3 3 (nz q.1)) 3 5 (ow (ntb (!isI q.2.2 2 5) w (sk n tx (sk n tx (j + 1) + 1))))) := (F7.tq cAt_S).tq (cSF_I (by omega))
            have P9 : cPr (stI (stI σ7 3 3 (nz q.1)) 3 5 (ow (ntb (!isI q.2.2 2 5) w (sk n tx (sk n tx (j + 1) + 1))))) s [97 + v, pk n tx (j + 1)] := cPr_S P7 ((cAt_S (g := True) (p := p) (cb := cb) (s := s + 2)).tq (cSF_I (by omega))) (by simp)
            have K5' : (stI (stI σ7 3 3 (nz q.1)) 3 5 (ow (ntb (!isI q.2.2 2 5) w (sk n tx (sk n tx (j + 1) + 1))))).1 10 k = 2 := by simpa [gI] using K5
            have K6' : (stI (stI σ7 3 3 (nz q.1)) 3 5 (ow (ntb (!isI q.2.2 2 5) w (sk n tx (sk n tx (j + 1) + 1))))).1 11 k = v := by simpa [gI] using K6
            generalize stI (stI σ7 3 3 (nz q.1)) 3 5 (ow (ntb (!isI q.2.2 2 5) w (sk n tx (sk n tx (j + 1) + 1)))) = σ9 at M9 F9 P9 K5' K6' ⊢
            have h3c := M9.hc3
            have key2 : cSO σ n tx p cb s (fX1_assignment_161 v (nz j) (nz k) q.2.2 (if decide (3 ≤ ch.length) = true then 0 else 1) σ9) (eb (pTk n tx 59 q.1) fun e =>
      .ok (e, ntb (decide (3 ≤ ch.length)) (ntb (!isI q.2.2 2 5) w (sk n tx (sk n tx (j + 1) + 1))) j, st, [(2, v, [], nz ch.length, 0, 0)], (if ch.length < 3 then ch ++ [q.2.2] else ch), (97 + v) :: 63 :: (q.2.1 ++ [59]))) := by
              unfold fX1_assignment_161
              rw [cNote M9.E.hw M9.E.hg hn6 (by omega), bd_s]
              have M10 := M9.wr (wG_ntb (b := decide (3 ≤ ch.length)) (p := j) M9.E.hg hj)
              have F10 : cSF (st ≤ 40) p cb s σ (stI σ9 3 5 (ow (ntb (decide (3 ≤ ch.length)) (ntb (!isI q.2.2 2 5) w (sk n tx (sk n tx (j + 1) + 1))) j))) := F9.tq (cSF_I (by omega))
              have P10 : cPr (stI σ9 3 5 (ow (ntb (decide (3 ≤ ch.length)) (ntb (!isI q.2.2 2 5) w (sk n tx (sk n tx (j + 1) + 1))) j))) s [97 + v, pk n tx (j + 1)] := cPr_S P9 (cSF_I (g := True) (p := p) (cb := cb) (s := s + 2) (by omega)) (by simp)
              have K5 : (stI σ9 3 5 (ow (ntb (decide (3 ≤ ch.length)) (ntb (!isI q.2.2 2 5) w (sk n tx (sk n tx (j + 1) + 1))) j))).1 10 k = 2 := by simpa [gI] using K5'
              have K6 : (stI σ9 3 5 (ow (ntb (decide (3 ≤ ch.length)) (ntb (!isI q.2.2 2 5) w (sk n tx (sk n tx (j + 1) + 1))) j))).1 11 k = v := by simpa [gI] using K6'
              generalize stI σ9 3 5 (ow (ntb (decide (3 ≤ ch.length)) (ntb (!isI q.2.2 2 5) w (sk n tx (sk n tx (j + 1) + 1))) j)) = σ10 at M10 F10 P10 K5 K6 ⊢
              rw [ck_d M10.E.hto, ck_d M10.E.hto, ck_n k1 (by omega), nz_tn (by omega), wI_e, M10.hcc]
              have hcb : st ≤ 40 → cb ≤ k := fun x => by have := k2 x; omega
              have M11 := M10.oth (o := 12) (j := k) (v := nz ch.length) (by omega)
              have F11 : cSF (st ≤ 40) p cb s σ (stI σ10 12 k (nz ch.length)) := F10.tq (cSF_I (Or.inr (Or.inr (Or.inr (Or.inr (Or.inr (Or.inr ⟨by omega, hcb⟩)))))))
              have P11 : cPr (stI σ10 12 k (nz ch.length)) s [97 + v, pk n tx (j + 1)] := cPr_S P10 (cSF_I (g := True) (p := p) (cb := 0) (s := s + 2) (Or.inr (Or.inr (Or.inr (Or.inr (Or.inr (Or.inr ⟨by omega, fun _ => Nat.zero_le _⟩))))))) (by simp)
              have L5 : (stI σ10 12 k (nz ch.length)).1 10 k = 2 := by simpa [gI] using K5
              have L6 : (stI σ10 12 k (nz ch.length)).1 11 k = v := by simpa [gI] using K6
              have L7 : (stI σ10 12 k (nz ch.length)).1 12 k = nz ch.length := by simp [gI]
              generalize stI σ10 12 k (nz ch.length) = σ11 at M11 F11 P11 L5 L6 L7 ⊢
              rw [ck_d M11.E.hto, M11.hcc]
              -- the end, with the choices as they are then
              have fin : ∀ (σ12 : cS) (ch' : List Int32), cMS σ12 n tx q.1 (ntb (decide (3 ≤ ch.length)) (ntb (!isI q.2.2 2 5) w (sk n tx (sk n tx (j + 1) + 1))) j) p st (cb + 1) (s + 1 + 1) ch' → cSF (st ≤ 40) p cb s σ σ12 → cPr σ12 s [97 + v, pk n tx (j + 1)] → σ12.1 10 k = 2 → σ12.1 11 k = v → σ12.1 12 k = nz ch.length →
                  cSO σ n tx p cb s (fX1_assignment_217 v q.2.2 σ12) (eb (pTk n tx 59 q.1) fun e => .ok (e, ntb (decide (3 ≤ ch.length)) (ntb (!isI q.2.2 2 5) w (sk n tx (sk n tx (j + 1) + 1))) j, st, [(2, v, [], nz ch.length, 0, 0)], ch', (97 + v) :: 63 :: (q.2.1 ++ [59]))) := by
                intro σ12 ch' M12 F12 P12 t1 t2 t3
                unfold fX1_assignment_217
                have hpn : fX3_putNumber 6 q.2.2 σ12 = some ((), ptL σ12 (s + 1 + 1) (pnm a)) := by rw [fb]; exact cPutN fa M12.hs (by omega)
                rw [ck_d M12.E.hto, hpn, bd_s]
                have M13 := M12.pt (pnm a)
                rcases cSemi M13 (by omega) with ⟨e, g1, σ', g2, g3, g4⟩ | ⟨z, g1, σ14, g2, M14, F14, P14⟩
                · rw [g1, g2]
                  exact ⟨σ', rfl, ((F12.wk (g := False) (fun x => x.elim)).tr (cSF_pt (g := False) (p := p) (cb := cb) (s := s + 1 + 1) _) (Nat.le_refl _) (Nat.le_refl _) (by omega) (fun x => x.elim)).tq (g3 _ _ _ _), g4⟩
                · rw [g1, g2]
                  have F13 : cSF True p 0 (s + 1 + 1) σ12 (ptL σ12 (s + 1 + 1) (pnm a)) := cSF_pt _
                  refine ⟨σ14, rfl, (F12.tr (cSF_pt (g := st ≤ 40) (p := p) (cb := cb) (s := s + 1 + 1) _) (Nat.le_refl _) (Nat.le_refl _) (by omega) (fun x => ⟨x, x⟩)).tr (F14 (st ≤ 40) p cb) (Nat.le_refl _) (Nat.le_refl _) (by omega) (fun x => ⟨x, x⟩), ?_, fun x => ?_, ?_⟩
                  · simp only [psz, Nat.add_zero, List.length_cons, List.length_nil, List.length_append]
                    rw [show s + (q.2.1.length + (0 + 1) + 1 + 1) = s + 1 + 1 + (pnm a).length + 1 by rw [fc]; omega]
                    exact M14
                  · have := k2 x
                    subst this
                    have hc1 : cCd1 σ12 6 k p (2, v, [], nz ch.length, 0, 0) := by
                      refine ⟨t1, t2, fun y => absurd y (by simp only; decide), fun y => absurd y (by simp only; decide), fun _ => t3, fun y => absurd y (by simp only; decide)⟩
                    exact ⟨cCd1_S (cCd1_S hc1 (cSF_pt (g := True) (p := p) (cb := k + 1) _) trivial (by omega) (Nat.le_refl _)) (F14 True p (k + 1)) trivial (by omega) (Nat.le_refl _), trivial⟩
                  · have q1 : cPr (ptL σ12 (s + 1 + 1) (pnm a)) s ([97 + v, pk n tx (j + 1)] ++ pnm a) := cPr_app (cPr_S P12 F13 (by simp)) cPr_pt
                    have q2 : cPr σ14 s ([97 + v, pk n tx (j + 1)] ++ pnm a ++ [59]) := cPr_app (cPr_S q1 (F14 True 0 0) (by simp; omega)) (by rw [List.length_append, ← Nat.add_assoc]; exact P14)
                    simp only
                    rw [fc, show (97 + v) :: 63 :: (pnm a ++ [59]) = [97 + v, pk n tx (j + 1)] ++ pnm a ++ [59] by simp [c3]]
                    exact q2
              by_cases hl : ch.length < 3
              · rw [if_neg (by rw [show (3 : Int32) = nz 3 from rfl, nz_le (by omega) (by omega)]; omega), ck_d M11.E.hto, ck_d M11.E.hto, wI_e, nz_s, ck_n (by omega) (by omega), nz_tn (by omega), wI_e, if_pos hl]
                refine fin _ (ch ++ [q.2.2]) ?_ ?_ ?_ ?_ ?_ ?_
                · refine ⟨cES_of M11.E rfl ?_ ?_ ?_, by simpa [gI] using M11.hst, ?_, M11.hcs, by simp [gI], by simp; omega, ?_, by simpa [gI] using M11.hs⟩
                  · intro x hx; simp [gI]
                  · intro x; simp [gI]
                  · simp [gI]
                  · simpa [gI] using M11.hcb
                  · intro x hx
                    rw [gI, if_pos rfl]
                    by_cases hx2 : x = ch.length
                    · rw [if_pos hx2, hx2]; simp
                    · have hx3 : x < ch.length := by simp at hx; omega
                      rw [if_neg hx2, gI, if_neg (by decide), M11.hch x hx3]
                      simp [List.getD_eq_getElem?_getD, List.getElem?_append_left hx3]
                · exact (F11.tq (cSF_I (by omega))).tq (cSF_I (by omega))
                · exact cPr_S P11 ((cSF_I (g := True) (p := p) (cb := cb) (s := s + 2) (by omega)).tq (cSF_I (by omega))) (by simp)
                · simpa [gI] using L5
                · simpa [gI] using L6
                · simpa [gI] using L7
              · rw [if_pos (by rw [show (3 : Int32) = nz 3 from rfl, nz_le (by omega) (by omega)]; omega), if_neg hl]
                exact fin σ11 ch M11 F11 P11 L5 L6 L7
            rw [ck_d M9.E.hto, M9.hcc]
            by_cases hl : 3 ≤ ch.length
            · rw [if_pos (by rw [show (3 : Int32) = nz 3 from rfl, nz_le (by omega) (by omega)]; exact hl)]
              rw [decide_eq_true hl] at key2 ⊢
              exact key2
            · rw [if_neg (by rw [show (3 : Int32) = nz 3 from rfl, nz_le (by omega) (by omega)]; exact hl)]
              rw [decide_eq_false hl] at key2 ⊢
              exact key2
    rcases hin with h | h | h
    · rw [if_pos h]; exact key
    · rw [if_neg (by rw [h]; decide), if_pos h]; exact key
    · rw [if_neg (by rw [h]; decide), if_neg (by rw [h]; decide), if_pos h]; exact key
  · have n1 : pk n tx (j + 1) ≠ 61 := fun q => hin (Or.inl q)
    have n2 : pk n tx (j + 1) ≠ 126 := fun q => hin (Or.inr (Or.inl q))
    have n3 : pk n tx (j + 1) ≠ 63 := fun q => hin (Or.inr (Or.inr q))
    rw [if_neg n1, if_neg n2, if_neg n3, if_neg n1, if_neg n2, if_neg n3, cBad, bd_s, ck_d rfl, M3.E.hat]
    exact ⟨_, rfl, (F3 False).tq (cSF_I (by omega)), by simp [gI]⟩
end
