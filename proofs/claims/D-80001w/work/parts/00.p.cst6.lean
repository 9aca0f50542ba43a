set_option maxRecDepth 100000
section
variable {n : Nat} {tx : Nat → Int32}
/-- a test or its like stands: all but its goal -/
def cTs (σ : cS) (k p : Nat) (y : List Sy) : Prop := σ.1 10 k = 4 ∧ σ.1 11 k = 0 ∧ σ.1 12 k = nz p ∧ σ.1 13 k = nz (p + y.length - 1) ∧ cPA σ 6 p (bld p y []).1
theorem cTs_S {g : Prop} {k p p' cb s : Nat} {σ σ' : cS} {y : List Sy} (h : cTs σ k p y) (hf : cSF g p' cb s σ σ') (hg : g) (hk : k < cb) (hp : p + y.length ≤ p') : cTs σ' k p y := by
  have hc : ∀ o, o = 10 ∨ o = 11 ∨ o = 12 ∨ o = 13 ∨ o = 14 → σ'.1 o k = σ.1 o k := fun o ho => hf.2.2.2.2.2.2.2 hg o k ho hk
  obtain ⟨h1, h2, h3, h4, h5⟩ := h
  exact ⟨(hc _ (by omega)).trans h1, (hc _ (by omega)).trans h2, (hc _ (by omega)).trans h3, (hc _ (by omega)).trans h4, cPA_S h5 hf (by rw [bld_len]; exact hp)⟩
theorem cTs_g {σ : cS} {k p j : Nat} {y : List Sy} {v : Int32} (h : cTs σ k p y) : cTs (stI σ 14 j v) k p y := by
  obtain ⟨h1, h2, h3, h4, h5⟩ := h
  exact ⟨by simpa [gI] using h1, by simpa [gI] using h2, by simpa [gI] using h3, by simpa [gI] using h4, cPA_I h5 (by decide)⟩
theorem cTs_cd {σ : cS} {k p : Nat} {y : List Sy} {g : Int32} (h : cTs σ k p y) (hg : σ.1 14 k = g) : cCd1 σ 6 k p (4, 0, y, 0, 0, g) := by
  obtain ⟨h1, h2, h3, h4, h5⟩ := h
  exact ⟨h1, h2, fun _ => ⟨h3, h4, h5⟩, fun q => absurd q (by simp only; decide), fun q => absurd q (by simp only; decide), fun _ => hg⟩
theorem gP {g : Prop} {p cb s k : Nat} {σ : cS} {v : Int32} (h : g → cb ≤ k) : cSF g p cb s σ (stI σ 14 k v) := cSF_I (Or.inr (Or.inr (Or.inr (Or.inr (Or.inr (Or.inr ⟨by omega, h⟩))))))
theorem cStm (d : Nat) :
    (∀ dep i w p st cb s ch σ, 2 * nbr n tx i + 3 ≤ 3 * d → dep + nbr n tx i ≤ 1000 → st + nbr n tx i ≤ 1000 → 3 * s + 4 * nbr n tx i ≤ 1600 → cMS σ n tx i w p st cb s ch → cSO σ n tx p cb s ((rdS d).1 (nz dep) σ) ((pS n tx d).1 dep i w st cb ch)) ∧
    (∀ dep i w p st cb s ch σ, 2 * nbr n tx i + 4 ≤ 3 * d → dep + nbr n tx i ≤ 1000 → st + nbr n tx i ≤ 1000 → 3 * s + 4 * nbr n tx i ≤ 1600 → cMS σ n tx i w p st cb s ch → cSO σ n tx p cb s ((rdS d).2 (nz dep) σ) ((pS n tx d).2 dep i w st cb ch)) := by
  induction d with
  | zero => exact ⟨fun _ _ _ _ _ _ _ _ _ h => (by omega), fun _ _ _ _ _ _ _ _ _ h => (by omega)⟩
  | succ d ih =>
    obtain ⟨ihS, ihB⟩ := ih
    obtain ⟨fS, fB⟩ := pS_facts (n := n) (tx := tx) d
    refine ⟨?_, ?_⟩
    · intro dep i w p st cb s ch σ hd hdep hst hs M
      show cSO σ n tx p cb s (fX1_statement_B (rdS d).1 (rdS d).2 (nz dep) σ) (pSt n tx (pS n tx d).2 dep i w st cb ch)
      have hsg := sk_ge (n := n) (tx := tx) i
      have hsn := nbr_sk (n := n) (tx := tx) i
      have hn6 := M.E.hn6
      have hcs := M.hcs
      have hle := M.E.hle
      have hsl := sk_le (n := n) (tx := tx) hle
      obtain ⟨l1, M1⟩ := cLookM M
      have M2 := M1.stm
      have F2 : ∀ g, cSF g p cb s σ (stI (stI σ 3 3 (nz (sk n tx i))) 3 7 (nz (st + 1))) := fun g => cAt_S.tq (cSF_I (by omega))
      have e7 : (stI (stI σ 3 3 (nz (sk n tx i))) 3 7 (nz (st + 1))).1 3 7 = nz (st + 1) := by simp [gI]
      have key : ∀ bad : Bool, cSO σ n tx p cb s (fX1_statement_B_30 (rdS d).1 (rdS d).2 (nz dep) (pk n tx i) (if bad = true then 0 else 1) (stI (stI σ 3 3 (nz (sk n tx i))) 3 7 (nz (st + 1)))) (if isI (pk n tx i) 97 102 = true then pAs n tx (pk n tx i - 97) (sk n tx i) (ntb bad w (sk n tx i)) (st + 1) ch
  else if pk n tx i = 35 then
    eb (pSum n tx (-1) (sk n tx i + 1) (ntb bad w (sk n tx i))) fun q => eb (pTk n tx 59 q.1) fun e => .ok (e, q.2.1, st + 1, [(3, 0, q.2.2.2.2, 0, 0, 0)], ch, 35 :: (q.2.2.2.1 ++ [59]))
  else if pk n tx i = 64 then
    eb (pSum n tx (-1) (sk n tx i + 1) (ntb bad w (sk n tx i))) fun q => eb ((pS n tx d).2 dep q.1 q.2.1 (st + 1) (cb + 1) ch) fun b =>
      .ok (b.1, b.2.1, b.2.2.1, (4, 0, q.2.2.2.2, 0, 0, nz (cb + 1 + b.2.2.2.1.length + 1)) :: (b.2.2.2.1 ++ [(5, 0, [], 0, 0, nz cb)]), b.2.2.2.2.1, 64 :: (q.2.2.2.1 ++ b.2.2.2.2.2))
  else if pk n tx i = 63 then
    eb (pSum n tx (-1) (sk n tx i + 1) (ntb bad w (sk n tx i))) fun q => eb ((pS n tx d).2 dep q.1 q.2.1 (st + 1) (cb + 1) ch) fun b =>
      if pk n tx b.1 = 123 then
        eb ((pS n tx d).2 dep (sk n tx b.1) b.2.1 b.2.2.1 (cb + 1 + b.2.2.2.1.length + 1) b.2.2.2.2.1) fun e =>
          .ok (e.1, e.2.1, e.2.2.1, (4, 0, q.2.2.2.2, 0, 0, nz (cb + 1 + b.2.2.2.1.length + 1)) :: (b.2.2.2.1 ++ (5, 0, [], 0, 0, nz (cb + 1 + b.2.2.2.1.length + 1 + e.2.2.2.1.length)) :: e.2.2.2.1), e.2.2.2.2.1, 63 :: (q.2.2.2.1 ++ (b.2.2.2.2.2 ++ e.2.2.2.2.2)))
      else .ok (sk n tx b.1, b.2.1, b.2.2.1, (4, 0, q.2.2.2.2, 0, 0, nz (cb + 1 + b.2.2.2.1.length)) :: b.2.2.2.1, b.2.2.2.2.1, 63 :: (q.2.2.2.1 ++ b.2.2.2.2.2))
  else .error (sk n tx i)) := by
        intro bad
        unfold fX1_statement_B_30
        rw [M2.E.hat]
        by_cases hlt : sk n tx i < n
        case neg =>
          have hpk : pk n tx i = -1 := if_neg hlt
          have hpl : sk n tx i = n := by omega
          rw [cNote M2.E.hw M2.E.hg hn6 (by omega), bd_s, isIn0, bd_s, hpk]
          rw [show isI (-1) 97 102 = false by decide]
          simp only [Bool.false_eq_true, if_false, if_true, show ¬ ((-1 : Int32) = 35) by decide, show ¬ ((-1 : Int32) = 63) by decide, show ¬ ((-1 : Int32) = 64) by decide]
          rw [cBad, bd_s, ck_d rfl]
          refine ⟨_, rfl, ((F2 False).tq (cSF_I (by omega))).tq (cSF_I (by omega)), ?_⟩
          rw [gI, if_pos rfl, if_pos rfl, gI, if_pos rfl, if_neg (by decide), M2.E.hat]
        have htk := nbr_tk hlt
        rw [cNote M2.E.hw M2.E.hg hn6 (by omega), bd_s, isIn0, bd_s]
        have M3 := M2.wr (wG_ntb (b := bad) (p := sk n tx i) M2.E.hg hlt)
        have F3 : ∀ g, cSF g p cb s σ (stI (stI (stI σ 3 3 (nz (sk n tx i))) 3 7 (nz (st + 1))) 3 5 (ow (ntb bad w (sk n tx i)))) := fun g => (F2 g).tq (cSF_I (by omega))
        generalize stI (stI (stI σ 3 3 (nz (sk n tx i))) 3 7 (nz (st + 1))) 3 5 (ow (ntb bad w (sk n tx i))) = σ3 at M3 F3 ⊢
        by_cases c1 : isI (pk n tx i) 97 102 = true
        · obtain ⟨a, ha1, ha2, ea⟩ := isI_lo7 (a := 97) (b := 102) c1 (by omega) (by omega)
          have hv : vV (pk n tx i - 97) := ⟨a - 97, by omega, by rw [ea]; exact nz_sub (b := 97) ha1⟩
          rw [if_pos c1, if_pos c1, if_neg (by decide)]
          have hr := cAsg M3 hlt (by rw [hsn]; exact htk) hv (by omega) (by omega)
          rcases hq : pAs n tx (pk n tx i - 97) (sk n tx i) (ntb bad w (sk n tx i)) (st + 1) ch with e | q
          · rw [hq] at hr
            obtain ⟨σ', h1, h2, h3⟩ := hr
            rw [bdT_en h1]
            exact ⟨σ', rfl, (F3 False).tq h2, h3⟩
          · rw [hq] at hr
            obtain ⟨σ', h1, h2, h3, h4, h5⟩ := hr
            rw [bdT_e h1]
            exact ⟨σ', rfl, (F3 _).tq h2, h3, h4, h5⟩
        · rw [if_neg c1, if_neg c1, if_pos rfl]
          by_cases hin : pk n tx i = 35 ∨ pk n tx i = 63 ∨ pk n tx i = 64
          case neg =>
            have n1 : pk n tx i ≠ 35 := fun q => hin (Or.inl q)
            have n2 : pk n tx i ≠ 63 := fun q => hin (Or.inr (Or.inl q))
            have n3 : pk n tx i ≠ 64 := fun q => hin (Or.inr (Or.inr q))
            rw [if_neg n1, if_neg n2, if_neg n3, if_neg n1, if_neg n3, if_neg n2, cBad, bd_s, ck_d rfl, M3.E.hat]
            exact ⟨_, rfl, (F3 False).tq (cSF_I (by omega)), by simp [gI]⟩
          have hl7 : lo7 (pk n tx i) := by
            rcases hin with h | h | h <;> rw [h]
            · exact ⟨35, by decide, rfl⟩
            · exact ⟨63, by decide, rfl⟩
            · exact ⟨64, by decide, rfl⟩
          have e84 : ∀ X : Option (Option Unit × cS), (if pk n tx i = 35 then fX1_statement_B_84 (rdS d).1 (rdS d).2 (nz dep) (pk n tx i) σ3 else if pk n tx i = 63 then fX1_statement_B_84 (rdS d).1 (rdS d).2 (nz dep) (pk n tx i) σ3 else if pk n tx i = 64 then fX1_statement_B_84 (rdS d).1 (rdS d).2 (nz dep) (pk n tx i) σ3 else X) = fX1_statement_B_84 (rdS d).1 (rdS d).2 (nz dep) (pk n tx i) σ3 := by
            intro X
            rcases hin with h | h | h
            · rw [if_pos h]
            · rw [if_neg (by rw [h]; decide), if_pos h]
            · rw [if_neg (by rw [h]; decide), if_neg (by rw [h]; decide), if_pos h]
          rw [e84]
          unfold fX1_statement_B_84
          rw [wI_e, M3.E.hat, nz_s]
          have M4 := M3.go (j := sk n tx i + 1) (by omega) (by omega)
          obtain ⟨u5, M5⟩ := cPutM (c := pk n tx i) M4 hl7 (by omega)
          rw [ck_d M4.E.hto, u5, bd_s]
          have F5 : ∀ g, cSF g p cb s σ (ptL (stI σ3 3 3 (nz (sk n tx i + 1))) s [pk n tx i]) := fun g => ((F3 g).tq cAt_S).tq (cSF_pt _)
          have P5 : cPr (ptL (stI σ3 3 3 (nz (sk n tx i + 1))) s [pk n tx i]) s [pk n tx i] := cPr_pt
          generalize ptL (stI σ3 3 3 (nz (sk n tx i + 1))) s [pk n tx i] = σ5 at M5 F5 P5 ⊢
          by_cases c2 : pk n tx i = 35
          · rw [if_pos c2, if_pos c2]
            rcases cSumOf (wh := 3) (v := 0) M5 ⟨3, by decide, rfl⟩ ⟨0, by decide, rfl⟩ (by omega) (by omega) with ⟨e, h1, σ', h3, h4, h5⟩ | ⟨q, h1, k, σ6, k1, h3, F6, M6, P6, h8⟩
            · rw [h1, bdT_en h3]
              exact ⟨σ', rfl, (F5 _).tr h4 (Nat.le_refl _) (Nat.le_refl _) (by omega) (fun x => ⟨x, x⟩), h5⟩
            · obtain ⟨f1, f2, f3, f4, f5, f6⟩ := pSum_facts M5.E.hle h1
              rw [h1, bdT_e h3]
              simp only [eb]
              rcases cSemi M6 (by omega) with ⟨e, g1, σ', g2, g3, g4⟩ | ⟨z, g1, σ7, g2, M7, F7, P7⟩
              · rw [g1, g2]
                exact ⟨σ', rfl, ((F5 False).tr F6 (g := False) (Nat.le_refl _) (Nat.le_refl _) (by omega) (fun x => x.elim)).tq (g3 _ _ _ _), g4⟩
              · rw [g1, g2]
                have F57 : cSF (st + 1 ≤ 40) p cb s σ σ7 := ((F5 (st + 1 ≤ 40)).tr F6 (g := st + 1 ≤ 40) (Nat.le_refl _) (Nat.le_refl _) (by omega) (fun x => ⟨x, x⟩)).tr (F7 (st + 1 ≤ 40) p cb) (Nat.le_refl _) (Nat.le_refl _) (by omega) (fun x => ⟨x, x⟩)
                refine ⟨σ7, rfl, F57, ?_, fun x => ?_, ?_⟩
                · simp only [psz, Nat.add_zero, List.length_cons, List.length_nil, List.length_append]
                  rw [show s + (q.2.2.2.1.length + (0 + 1) + 1) = s + 1 + q.2.2.2.1.length + 1 by omega]
                  exact M7
                · obtain ⟨x1, x2, x3, x4, x5, x6⟩ := h8 x
                  have hc1 : cCd1 σ6 6 cb p (3, 0, q.2.2.2.2, 0, 0, 0) := by
                    refine ⟨x2, x3, fun _ => ⟨x4, x5, x6⟩, fun y => absurd y (by simp only; decide), fun y => absurd y (by simp only; decide), fun y => absurd y (by simp only; decide)⟩
                  exact ⟨cCd1_S hc1 (F7 True (p + q.2.2.2.2.length) (cb + 1)) trivial (by omega) (Nat.le_refl _), trivial⟩
                · have q1 : cPr σ6 s ([pk n tx i] ++ q.2.2.2.1) := cPr_app (cPr_S P5 F6 (by simp)) P6
                  have q2 : cPr σ7 s ([pk n tx i] ++ q.2.2.2.1 ++ [59]) := cPr_app (cPr_S q1 (F7 True 0 0) (by simp; omega)) (by rw [List.length_append, ← Nat.add_assoc]; exact P7)
                  simpa [c2] using q2
          · rw [if_neg c2, if_neg c2]
            -- a test: its sum, its block
            have test : ∀ (K : Int32 → cS → Option (Option Unit × cS)) (K' : ET → ST → SR),
                (∀ (q : ET) (b : ST) (k : Nat) (σ8 : cS), k < 96 → (b.2.2.1 ≤ 40 → k = cb) → pSum n tx (-1) (sk n tx i + 1) (ntb bad w (sk n tx i)) = .ok q → (pS n tx d).2 dep q.1 q.2.1 (st + 1) (cb + 1) ch = .ok b → cSF (b.2.2.1 ≤ 40) p cb s σ σ8 → cMS σ8 n tx b.1 b.2.1 (p + q.2.2.2.2.length + psz b.2.2.2.1) b.2.2.1 (cb + 1 + b.2.2.2.1.length) (s + 1 + q.2.2.2.1.length + b.2.2.2.2.2.length) b.2.2.2.2.1 → (b.2.2.1 ≤ 40 → cTs σ8 cb p q.2.2.2.2 ∧ cCd σ8 6 (cb + 1) (p + q.2.2.2.2.length) b.2.2.2.1) → cPr σ8 s ([pk n tx i] ++ q.2.2.2.1 ++ b.2.2.2.2.2) → cSO σ n tx p cb s (K (nz k) σ8) (K' q b)) →
                cSO σ n tx p cb s (bdT (fX1_sumOf 4 0 σ5) fun r5 σ4 => bdT ((rdS d).2 (nz dep) σ4) fun _ σ6 => K r5 σ6) (eb (pSum n tx (-1) (sk n tx i + 1) (ntb bad w (sk n tx i))) fun q => eb ((pS n tx d).2 dep q.1 q.2.1 (st + 1) (cb + 1) ch) fun b => K' q b) := by
              intro K K' hK
              rcases cSumOf (wh := 4) (v := 0) M5 ⟨4, by decide, rfl⟩ ⟨0, by decide, rfl⟩ (by omega) (by omega) with ⟨e, h1, σ', h3, h4, h5⟩ | ⟨q, h1, k, σ6, k1, h3, F6, M6, P6, h8⟩
              · rw [h1, bdT_en h3]
                exact ⟨σ', rfl, (F5 _).tr h4 (Nat.le_refl _) (Nat.le_refl _) (by omega) (fun x => ⟨x, x⟩), h5⟩
              · obtain ⟨f1, f2, f3, f4, f5, f6⟩ := pSum_facts M5.E.hle h1
                rw [bdT_e h3]
                have hp0 := f4.cl.1
                have hr := ihB dep q.1 q.2.1 _ _ _ _ _ σ6 (by omega) (by omega) (by omega) (by omega) M6
                rcases hq : (pS n tx d).2 dep q.1 q.2.1 (st + 1) (cb + 1) ch with e | b
                · rw [hq] at hr
                  obtain ⟨σ', g1, g2, g3⟩ := hr
                  rw [bdT_en g1, h1]
                  simp only [eb]
                  rw [hq]
                  exact ⟨σ', rfl, ((F5 False).tr F6 (g := False) (Nat.le_refl _) (Nat.le_refl _) (by omega) (fun x => x.elim)).tr g2 (g := False) (by omega) (by omega) (by omega) (fun x => x.elim), g3⟩
                · rw [hq] at hr
                  obtain ⟨σ8, g1, g2, g3, g4, g5⟩ := hr
                  obtain ⟨b1, b2, b3, b4, b5, b6, b7, b8, b9, b10, b11, b12, b13⟩ := fB _ _ _ _ _ _ _ f2 hq
                  rw [bdT_e g1, h1]
                  simp only [eb]
                  rw [hq]
                  refine hK q b k σ8 k1 (fun x => (h8 (by omega)).1) h1 hq (((F5 (st + 1 ≤ 40)).tr F6 (g := st + 1 ≤ 40) (Nat.le_refl _) (Nat.le_refl _) (by omega) (fun x => ⟨x, x⟩)).tr g2 (by omega) (by omega) (by omega) (fun x => ⟨by omega, x⟩)) g3 (fun x => ⟨?_, g4 x⟩) ?_
                  · obtain ⟨x1, x2, x3, x4, x5, x6⟩ := h8 (by omega)
                    exact cTs_S ⟨x2, x3, x4, x5, x6⟩ g2 x (by omega) (Nat.le_refl _)
                  · have q1 : cPr σ6 s ([pk n tx i] ++ q.2.2.2.1) := cPr_app (cPr_S P5 F6 (by simp)) P6
                    exact cPr_app (cPr_S q1 g2 (by simp; omega)) (by rw [List.length_append, ← Nat.add_assoc]; exact g5)
            by_cases c3 : pk n tx i = 64
            · rw [if_pos c3]
              simp only [if_pos c3]
              refine test (fun r5 σ6 => ck (decide (σ6.2.2 3 2 = some 6)) <| ck (decide (σ6.2.2 3 2 = some 6)) <| bd (fX3_add 6 5 0 σ6) fun r18 σ17 => ck (inB r18 96) <| wI σ17 14 r18.toNatClampNeg r5 fun σ19 => ck (decide (σ19.2.2 3 2 = some 6)) <| ck (decide (σ19.2.2 3 2 = some 6)) <| ck (inB r5 96) <| wI σ19 14 r5.toNatClampNeg (σ19.1 6 9) fun σ20 => some ((some ()), σ20)) (fun q b => .ok (b.1, b.2.1, b.2.2.1, (4, 0, q.2.2.2.2, 0, 0, nz (cb + 1 + b.2.2.2.1.length + 1)) :: (b.2.2.2.1 ++ [(5, 0, [], 0, 0, nz cb)]), b.2.2.2.2.1, 64 :: (q.2.2.2.1 ++ b.2.2.2.2.2))) ?_
              intro q b k σ8 k1 hk1 h1 hq F8 M8 hT8 P8
              obtain ⟨f1, f2, f3, f4, f5, f6⟩ := pSum_facts M5.E.hle h1
              obtain ⟨b1, b2, b3, b4, b5, b6, b7, b8, b9, b10, b11, b12, b13⟩ := fB _ _ _ _ _ _ _ f2 hq
              obtain ⟨m, m1, m2, m3, M9, F9, m5, m6, m7⟩ := M8.add (wh := 5) (v := 0) ⟨5, by decide, rfl⟩ ⟨0, by decide, rfl⟩ (by omega)
              rw [ck_d M8.E.hto, ck_d M8.E.hto, m3, bd_s, ck_n m1 (by omega), wI_e, nz_tn (by omega)]
              have M10 := M9.oth (o := 14) (j := m) (v := nz k) (by omega)
              rw [ck_d M10.E.hto, ck_d M10.E.hto, ck_n k1 (by omega), wI_e, nz_tn (by omega)]
              obtain ⟨x, x1, x2, x3⟩ := M10.hcb
              rw [x2]
              have M11 := M10.oth (o := 14) (j := k) (v := nz x) (by omega)
              have hm : b.2.2.1 ≤ 40 → cb ≤ m := fun y => by have := m2 y; omega
              have hk : b.2.2.1 ≤ 40 → cb ≤ k := fun y => by have := hk1 y; omega
              refine ⟨_, rfl, ((F8.tr F9 (by omega) (by omega) (by omega) (fun y => ⟨y, y⟩)).tq (gP hm)).tq (gP hk), ?_, fun y => ?_, ?_⟩
              · simp only [psz, psz_app, List.length_cons, List.length_append, List.length_nil, Nat.add_zero]
                rw [show p + (q.2.2.2.2.length + psz b.2.2.2.1) = p + q.2.2.2.2.length + psz b.2.2.2.1 by omega, show s + (q.2.2.2.1.length + b.2.2.2.2.2.length + 1) = s + 1 + q.2.2.2.1.length + b.2.2.2.2.2.length by omega, show cb + (b.2.2.2.1.length + (0 + 1) + 1) = cb + 1 + b.2.2.2.1.length + 1 by omega]
                exact M11
              · obtain ⟨t1, t2⟩ := hT8 y
                have y1 := m2 y
                have y2 := hk1 y
                have y3 := x3 y
                subst y1 y2
                refine ⟨?_, cCd_app _ ?_ ⟨?_, trivial⟩⟩
                · refine cTs_cd (cTs_g (cTs_g (cTs_S t1 F9 y (by omega) (by omega)))) ?_
                  rw [gI, if_pos rfl, if_pos rfl, y3]
                · exact cCd_g _ (cCd_g _ (cCd_S F9 y _ t2 (Nat.le_refl _) (Nat.le_refl _)) (Or.inr (Nat.le_refl _))) (Or.inl (by omega))
                · refine ⟨?_, ?_, fun z => absurd z (by simp only; decide), fun z => absurd z (by simp only; decide), fun z => absurd z (by simp only; decide), fun _ => ?_⟩
                  · simpa [gI] using m5
                  · simpa [gI] using m6
                  · rw [gI, if_pos rfl, if_neg (by omega), gI, if_pos rfl, if_pos rfl]
              · have := cPr_S (cPr_S (cPr_S P8 F9 (by simp; omega)) (gP (g := True) (p := p) (cb := 0) (k := m) (s := s + 1 + q.2.2.2.1.length + b.2.2.2.2.2.length) (v := nz k) (fun _ => Nat.zero_le _)) (by simp; omega)) (gP (g := True) (p := p) (cb := 0) (k := k) (s := s + 1 + q.2.2.2.1.length + b.2.2.2.2.2.length) (v := nz x) (fun _ => Nat.zero_le _)) (by simp; omega)
                simpa [c3] using this
            · have c4 : pk n tx i = 63 := by
                rcases hin with h | h | h
                · exact absurd h c2
                · exact h
                · exact absurd h c3
              rw [if_neg c3, if_pos c4]
              simp only [if_neg c3]
              refine test (fun r5 σ6 => bd (fX1_look σ6) fun r9 σ8 => if r9 = 123 then (ck (decide (σ8.2.2 3 2 = some 6)) <| bd (fX3_add 6 5 0 σ8) fun r12 σ11 => ck (decide (σ11.2.2 3 2 = some 6)) <| ck (decide (σ11.2.2 3 2 = some 6)) <| ck (inB r5 96) <| wI σ11 14 r5.toNatClampNeg (σ11.1 6 9) fun σ13 => bdT ((rdS d).2 (nz dep) σ13) fun _ σ14 => ck (decide (σ14.2.2 3 2 = some 6)) <| ck (decide (σ14.2.2 3 2 = some 6)) <| ck (inB r12 96) <| wI σ14 14 r12.toNatClampNeg (σ14.1 6 9) fun σ16 => some ((some ()), σ16)) else ck (decide (σ8.2.2 3 2 = some 6)) <| ck (decide (σ8.2.2 3 2 = some 6)) <| ck (inB r5 96) <| wI σ8 14 r5.toNatClampNeg (σ8.1 6 9) fun σ10 => some ((some ()), σ10)) (fun q b => if pk n tx b.1 = 123 then
        eb ((pS n tx d).2 dep (sk n tx b.1) b.2.1 b.2.2.1 (cb + 1 + b.2.2.2.1.length + 1) b.2.2.2.2.1) fun e =>
          .ok (e.1, e.2.1, e.2.2.1, (4, 0, q.2.2.2.2, 0, 0, nz (cb + 1 + b.2.2.2.1.length + 1)) :: (b.2.2.2.1 ++ (5, 0, [], 0, 0, nz (cb + 1 + b.2.2.2.1.length + 1 + e.2.2.2.1.length)) :: e.2.2.2.1), e.2.2.2.2.1, 63 :: (q.2.2.2.1 ++ (b.2.2.2.2.2 ++ e.2.2.2.2.2)))
      else .ok (sk n tx b.1, b.2.1, b.2.2.1, (4, 0, q.2.2.2.2, 0, 0, nz (cb + 1 + b.2.2.2.1.length)) :: b.2.2.2.1, b.2.2.2.2.1, 63 :: (q.2.2.2.1 ++ b.2.2.2.2.2))) ?_
              intro q b k σ8 k1 hk1 h1 hq F8 M8 hT8 P8
              obtain ⟨f1, f2, f3, f4, f5, f6⟩ := pSum_facts M5.E.hle h1
              obtain ⟨b1, b2, b3, b4, b5, b6, b7, b8, b9, b10, b11, b12, b13⟩ := fB _ _ _ _ _ _ _ f2 hq
              have hp0 := f4.cl.1
              have hbs := sk_ge (n := n) (tx := tx) b.1
              have hbl := sk_le (n := n) (tx := tx) b2
              have hbn := nbr_sk (n := n) (tx := tx) b.1
              obtain ⟨l9, M9⟩ := cLookM M8
              rw [l9, bd_s]
              have F9 : ∀ g x y z, cSF g x y z σ8 (stI σ8 3 3 (nz (sk n tx b.1))) := fun g x y z => cAt_S
              generalize stI σ8 3 3 (nz (sk n tx b.1)) = σ9 at M9 F9 ⊢
              have hk : b.2.2.1 ≤ 40 → cb ≤ k := fun y => by have := hk1 y; omega
              by_cases c5 : pk n tx b.1 = 123
              · rw [if_pos c5, if_pos c5]
                obtain ⟨m, m1, m2, m3, M10, F10, m5, m6, m7⟩ := M9.add (wh := 5) (v := 0) ⟨5, by decide, rfl⟩ ⟨0, by decide, rfl⟩ (by omega)
                rw [ck_d M9.E.hto, m3, bd_s, ck_d M10.E.hto, ck_d M10.E.hto, ck_n k1 (by omega), wI_e, nz_tn (by omega)]
                obtain ⟨x, x1, x2, x3⟩ := M10.hcb
                rw [x2]
                have hm : b.2.2.1 ≤ 40 → cb ≤ m := fun y => by have := m2 y; omega
                have M11 := M10.oth (o := 14) (j := k) (v := nz x) (by omega)
                have F11 : cSF (b.2.2.1 ≤ 40) p cb s σ (stI (stAdd σ9 m 5 0) 14 k (nz x)) := ((F8.tq (F9 _ _ _ _)).tr F10 (by omega) (by omega) (by omega) (fun y => ⟨y, y⟩)).tq (gP hk)
                have T11 : b.2.2.1 ≤ 40 → cTs (stI (stAdd σ9 m 5 0) 14 k (nz x)) cb p q.2.2.2.2 ∧ cCd (stI (stAdd σ9 m 5 0) 14 k (nz x)) 6 (cb + 1) (p + q.2.2.2.2.length) b.2.2.2.1 ∧ (stI (stAdd σ9 m 5 0) 14 k (nz x)).1 14 cb = nz (cb + 1 + b.2.2.2.1.length + 1) ∧ (stI (stAdd σ9 m 5 0) 14 k (nz x)).1 10 m = 5 ∧ (stI (stAdd σ9 m 5 0) 14 k (nz x)).1 11 m = 0 := by
                  intro y
                  obtain ⟨t1, t2⟩ := hT8 y
                  have y2 := hk1 y
                  have y3 := x3 y
                  have y4 := m2 y
                  subst y2
                  refine ⟨cTs_g (cTs_S (cTs_S t1 (F9 True (p + q.2.2.2.2.length) (k + 1) 0) trivial (by omega) (Nat.le_refl _)) F10 y (by omega) (by omega)), cCd_g _ (cCd_S F10 y _ (cCd_S (F9 True (p + q.2.2.2.2.length + psz b.2.2.2.1) (k + 1 + b.2.2.2.1.length) 0) trivial _ t2 (Nat.le_refl _) (Nat.le_refl _)) (Nat.le_refl _) (Nat.le_refl _)) (Or.inl (by omega)), ?_, ?_, ?_⟩
                  · rw [gI, if_pos rfl, if_pos rfl, y3]
                  · simpa [gI] using m5
                  · simpa [gI] using m6
                have P11 : cPr (stI (stAdd σ9 m 5 0) 14 k (nz x)) s ([pk n tx i] ++ q.2.2.2.1 ++ b.2.2.2.2.2) :=
                  cPr_S (cPr_S (cPr_S P8 (F9 True 0 0 (s + 1 + q.2.2.2.1.length + b.2.2.2.2.2.length)) (by simp; omega)) F10 (by simp; omega)) (gP (g := True) (p := p) (cb := 0) (k := k) (s := s + 1 + q.2.2.2.1.length + b.2.2.2.2.2.length) (v := nz x) (fun _ => Nat.zero_le _)) (by simp; omega)
                generalize stI (stAdd σ9 m 5 0) 14 k (nz x) = σ11 at M11 F11 T11 P11 ⊢
                have hr := ihB dep (sk n tx b.1) b.2.1 _ _ _ _ _ σ11 (by omega) (by omega) (by omega) (by omega) M11
                rcases hz : (pS n tx d).2 dep (sk n tx b.1) b.2.1 b.2.2.1 (cb + 1 + b.2.2.2.1.length + 1) b.2.2.2.2.1 with e | z
                · rw [hz] at hr
                  obtain ⟨σ', g1, g2, g3⟩ := hr
                  rw [bdT_en g1]
                  exact ⟨σ', rfl, F11.tr g2 (g := False) (by omega) (by omega) (by omega) (fun y => y.elim), g3⟩
                · rw [hz] at hr
                  obtain ⟨σ12, g1, g2, g3, g4, g5⟩ := hr
                  obtain ⟨d1, d2, d3, d4, d5, d6, d7, d8, d9, d10, d11, d12, d13⟩ := fB _ _ _ _ _ _ _ hbl hz
                  rw [bdT_e g1]
                  simp only [eb]
                  rw [ck_d g3.E.hto, ck_d g3.E.hto, ck_n m1 (by omega), wI_e, nz_tn (by omega)]
                  obtain ⟨v, v1, v2, v3⟩ := g3.hcb
                  rw [v2]
                  have M13 := g3.oth (o := 14) (j := m) (v := nz v) (by omega)
                  refine ⟨_, rfl, (F11.tr g2 (g := z.2.2.1 ≤ 40) (by omega) (by omega) (by omega) (fun y => ⟨by omega, y⟩)).tq (gP (fun y => hm (by omega))), ?_, fun y => ?_, ?_⟩
                  · simp only [psz, psz_app, List.length_cons, List.length_append, List.length_nil, Nat.zero_add]
                    rw [show p + (q.2.2.2.2.length + (psz b.2.2.2.1 + psz z.2.2.2.1)) = p + q.2.2.2.2.length + psz b.2.2.2.1 + psz z.2.2.2.1 by omega, show s + (q.2.2.2.1.length + (b.2.2.2.2.2.length + z.2.2.2.2.2.length) + 1) = s + 1 + q.2.2.2.1.length + b.2.2.2.2.2.length + z.2.2.2.2.2.length by omega, show cb + (b.2.2.2.1.length + (z.2.2.2.1.length + 1) + 1) = cb + 1 + b.2.2.2.1.length + 1 + z.2.2.2.1.length by omega]
                    exact M13
                  · have y : z.2.2.1 ≤ 40 := y
                    obtain ⟨t1, t2, t3, t4, t5⟩ := T11 (by omega)
                    have y1 := m2 (by omega)
                    have y3 := v3 y
                    have g4' := g4 y
                    subst y1
                    refine ⟨?_, cCd_app _ ?_ ⟨?_, ?_⟩⟩
                    · refine cTs_cd (cTs_g (cTs_S t1 g2 y (by omega) (by omega))) ?_
                      rw [gI, if_pos rfl, if_neg (by omega), g2.2.2.2.2.2.2.2 y 14 cb (by omega) (by omega), t3]
                    · exact cCd_g _ (cCd_S g2 y _ t2 (by omega) (Nat.le_refl _)) (Or.inr (Nat.le_refl _))
                    · refine ⟨?_, ?_, fun z => absurd z (by simp only; decide), fun z => absurd z (by simp only; decide), fun z => absurd z (by simp only; decide), fun _ => ?_⟩
                      · show (stI σ12 14 _ _).1 10 _ = 5
                        rw [gI, if_neg (by decide), g2.2.2.2.2.2.2.2 y 10 _ (by omega) (by omega), t4]
                      · show (stI σ12 14 _ _).1 11 _ = 0
                        rw [gI, if_neg (by decide), g2.2.2.2.2.2.2.2 y 11 _ (by omega) (by omega), t5]
                      · show (stI σ12 14 _ _).1 14 _ = _
                        rw [gI, if_pos rfl, if_pos rfl, y3]
                    · exact cCd_g _ g4' (Or.inl (by omega))
                  · have q1 := cPr_app (cPr_S P11 g2 (by simp; omega)) (t := z.2.2.2.2.2) (by rw [List.length_append, List.length_append, show s + ([pk n tx i].length + q.2.2.2.1.length + b.2.2.2.2.2.length) = s + 1 + q.2.2.2.1.length + b.2.2.2.2.2.length by simp; omega]; exact g5)
                    have q2 := cPr_S q1 (gP (g := True) (p := p) (cb := 0) (k := m) (s := s + 1 + q.2.2.2.1.length + b.2.2.2.2.2.length + z.2.2.2.2.2.length) (v := nz v) (fun _ => Nat.zero_le _)) (by simp; omega)
                    simpa [c4] using q2
              · rw [if_neg c5, if_neg c5, ck_d M9.E.hto, ck_d M9.E.hto, ck_n k1 (by omega), wI_e, nz_tn (by omega)]
                obtain ⟨x, x1, x2, x3⟩ := M9.hcb
                rw [x2]
                have M11 := M9.oth (o := 14) (j := k) (v := nz x) (by omega)
                refine ⟨_, rfl, (F8.tq (F9 _ _ _ _)).tq (gP hk), ?_, fun y => ?_, ?_⟩
                · simp only [psz, List.length_cons, List.length_append]
                  rw [show p + (q.2.2.2.2.length + psz b.2.2.2.1) = p + q.2.2.2.2.length + psz b.2.2.2.1 by omega, show s + (q.2.2.2.1.length + b.2.2.2.2.2.length + 1) = s + 1 + q.2.2.2.1.length + b.2.2.2.2.2.length by omega, show cb + (b.2.2.2.1.length + 1) = cb + 1 + b.2.2.2.1.length by omega]
                  exact M11
                · obtain ⟨t1, t2⟩ := hT8 y
                  have y2 := hk1 y
                  have y3 := x3 y
                  subst y2
                  refine ⟨?_, ?_⟩
                  · refine cTs_cd (cTs_g (cTs_S t1 (F9 True (p + q.2.2.2.2.length) (k + 1) 0) trivial (by omega) (Nat.le_refl _))) ?_
                    rw [gI, if_pos rfl, if_pos rfl, y3]
                  · exact cCd_g _ (cCd_S (F9 True (p + q.2.2.2.2.length + psz b.2.2.2.1) (k + 1 + b.2.2.2.1.length) 0) trivial _ t2 (Nat.le_refl _) (Nat.le_refl _)) (Or.inl (by omega))
                · have := cPr_S (cPr_S P8 (F9 True 0 0 (s + 1 + q.2.2.2.1.length + b.2.2.2.2.2.length)) (by simp; omega)) (gP (g := True) (p := p) (cb := 0) (k := k) (s := s + 1 + q.2.2.2.1.length + b.2.2.2.2.2.length) (v := nz x) (fun _ => Nat.zero_le _)) (by simp; omega)
                  simpa [c4] using this
      unfold fX1_statement_B pSt
      rw [l1, bd_s, wI_e, M1.hst, nz_s, e7, show (40 : Int32) = nz 40 from rfl]
      by_cases h40 : 40 < st + 1
      · rw [if_pos (by rw [nz_lt (by omega) (by omega)]; exact h40), decide_eq_true h40]
        exact key true
      · rw [if_neg (by rw [nz_lt (by omega) (by omega)]; exact h40), decide_eq_false h40]
        exact key false
    · intro dep i w p st cb s ch σ hd hdep hst hs M
      show cSO σ n tx p cb s (fX1_block_B (rdS d).1 (rdS d).2 (nz dep) σ) (pBl n tx (pS n tx d).1 dep i w st cb ch)
      have hn6 := M.E.hn6
      have hle := M.E.hle
      unfold fX1_block_B pBl
      rcases cTakeM 123 M (by decide) with ⟨e, h1, σ', h2, h3, h4⟩ | ⟨j, h1, h2, M1⟩
      · rw [h1, bdT_en h2]
        exact ⟨σ', rfl, h3 _ _ _ _, h4⟩
      · obtain ⟨g1, g2, g3, g4, g5, g6⟩ := pTk_ok (by decide) h1
        rw [h1, bdT_e h2]
        simp only [eb]
        have key : ∀ bad : Bool, cSO σ n tx p cb s (bd (fX1_note (if bad = true then 0 else 1) (((stI σ 3 3 (nz j)).1 3 3) - 1) (stI σ 3 3 (nz j))) fun _ σ3 => ck (decide (σ3.2.2 3 2 = some 6)) <| bd (fX3_put 6 123 σ3) fun _ σ5 => fX1_block_B_35 (rdS d).1 (rdS d).2 (nz dep) FU σ5) (pBlp n tx (pS n tx d).1 dep FU j (ntb bad w (j - 1)) st cb [] ch [123]) := by
          intro bad
          rw [M1.E.hat, nz_p (by omega), cNote M1.E.hw M1.E.hg hn6 (by omega), bd_s]
          have M2 := M1.wr (wG_ntb (b := bad) (p := j - 1) M1.E.hg (by omega))
          obtain ⟨u3, M3⟩ := cPutM (c := 123) M2 ⟨123, by decide, rfl⟩ (by omega)
          rw [ck_d M2.E.hto, u3, bd_s]
          have hnl := nbr_le (n := n) (tx := tx) (i := j)
          refine cBlp fS ihS FU j _ p st [] ch [123] _ (by unfold FU; omega) (by omega) (by omega) (by omega) (by simp; omega) rfl M3 ?_ (fun _ => trivial) cPr_pt
          exact (cAt_S.tq (cSF_I (by omega))).tq (cSF_pt _)
        by_cases o1 : 5 ≤ dep
        · rw [if_pos (by rw [show (5 : Int32) = nz 5 from rfl, nz_le (by omega) (by omega)]; exact o1), decide_eq_true o1]
          exact key true
        · rw [if_neg (by rw [show (5 : Int32) = nz 5 from rfl, nz_le (by omega) (by omega)]; exact o1), decide_eq_false o1]
          exact key false
end
