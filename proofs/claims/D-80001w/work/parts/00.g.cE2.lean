set_option maxRecDepth 100000
/-! ===== THE COMPONENT READS SUMS AS THE GRAMMAR SAYS ===== -/
theorem cLevel (c : Int32) (σ : cS) : fX1_level c σ = some (lvC c, σ) := by
  unfold fX1_level lvC
  repeat (first | rfl | split)
def cEO (σ : cS) (n : Nat) (tx : Nat → Int32) (own : Int32) (p : Nat) (x : Option (Option Int32 × cS)) (r : ER) : Prop := match r with
  | .error e => ∃ σ', x = some (none, σ') ∧ cEF p σ σ' ∧ σ'.1 4 6 = nz e
  | .ok q => ∃ σ', x = some (some (nz (p + q.2.2.2.2.length - 1)), σ') ∧ cEF p σ σ' ∧ cES σ' n tx own q.1 q.2.1 (p + q.2.2.2.2.length) ∧ cPA σ' 6 p (bld p q.2.2.2.2 []).1
theorem lo7_lit {a : Nat} (h : a < 128) : lo7 (nz a) := ⟨a, h, rfl⟩
section
variable {n : Nat} {tx : Nat → Int32} {own : Int32}
/-- the reader stands at a sign that is no blank -/
theorem cTakes1 {σ : cS} {j p : Nat} {w : Option Nat} (S : cES σ n tx own j w p) (hj : sk n tx j = j) (c : Int32) (hc : c ≠ -1) : fX1_takes c σ = if pk n tx j = c then some (1, stI σ 3 3 (nz (j + 1))) else some (0, σ) := by
  rw [cTakes c S.htx S.hat S.hle hc, hj, stI_self S.hat]
theorem cTake1 {σ : cS} {j p : Nat} {w : Option Nat} (S : cES σ n tx own j w p) (hj : sk n tx j = j) (c : Int32) (hc : c ≠ -1) : fX1_take c σ = if pk n tx j = c then some (some (), stI σ 3 3 (nz (j + 1))) else some (none, stI σ 4 6 (nz j)) := by
  rw [cTake c S.htx S.hat S.hle hc, hj, stI_self S.hat]
theorem cLook1 {σ : cS} {j p : Nat} {w : Option Nat} (S : cES σ n tx own j w p) (hj : sk n tx j = j) : fX1_look σ = some (pk n tx j, σ) := by
  rw [cLook S.htx S.hat S.hle, hj, stI_self S.hat]
theorem lo7_op {c : Int32} (h : 0 ≤ lvC c) : lo7 c := by
  rcases lvC_cases c with q | q | q | q
  · rw [q.1] at h; exact absurd h (by decide)
  · rcases q.2 with rfl | rfl <;> exact lo7_lit (by decide)
  · rcases q.2 with rfl | rfl <;> exact lo7_lit (by decide)
  · rcases q.2 with rfl | rfl | rfl <;> exact lo7_lit (by decide)
theorem cLp {R1 : Int32 → Int32 → cS → Option (Option Int32 × cS)} {R2 : Int32 → cS → Option (Option Int32 × cS)} {R3 : Int32 → Int32 → cS → Option (Option Int32 × cS)} {R : Int32 → Nat → Nat → Option Nat → ER} {L : Int32} {dep d : Nat} (hL : lvL L)
    (hF : ∀ L dep i w q, lvL L → i ≤ n → R L dep i w = .ok q → GFs n tx L i w q)
    (hR : ∀ L i w p σ, lvL L → 3 * nbr n tx i + 2 ≤ d → dep + nbr n tx i ≤ 1000 → cES σ n tx own i w p → cEO σ n tx own p (R1 L (nz dep) σ) (R L dep i w)) {σ0 : cS} {p : Nat} :
    ∀ (k i : Nat) (w : Option Nat) (l : Int32) (r : List Int32) (y : List Sy) (σ : cS), nbr n tx i < k → 3 * nbr n tx i ≤ d → dep + nbr n tx i ≤ 1000 → cES σ n tx own (sk n tx i) w (p + y.length) → cCl y → cPA σ 6 p (bld p y []).1 → cEF p σ0 σ →
      cEO σ0 n tx own p (fX1_sum_B_15 R1 R2 R3 L (nz dep) k (nz (p + y.length - 1)) (lvC (pk n tx i)) σ) (pLp n tx R L dep k i w l r y) := by
  intro k
  induction k with
  | zero => intro i w l r y σ h; omega
  | succ k ih =>
    intro i w l r y σ hk hd hdep S hC hP hE
    unfold fX1_sum_B_15 pLp
    by_cases hlt : lvC (pk n tx i) < L
    · rw [if_pos hlt, if_pos hlt]
      exact ⟨σ, rfl, hE, S, hP⟩
    · rw [if_neg hlt, if_neg hlt]
      have hgo := lv_go hL (lvC_in (pk n tx i)) hlt
      have hs3 : lvC (pk n tx i) = 0 ∨ lvC (pk n tx i) = 1 ∨ lvC (pk n tx i) = 2 := by
        rcases hgo with ⟨e, _⟩ | ⟨e, _⟩
        · exact Or.inl e
        · exact Or.inr e
      obtain ⟨hu1, hu2, hu3⟩ := lv_up hs3
      have hne : lvC (pk n tx i) ≠ -1 := by rcases hs3 with e | e | e <;> rw [e] <;> decide
      obtain ⟨hlt2, etx⟩ := pkc_ne (lvC_m1 hne)
      have htk := nbr_tk hlt2
      have hn6 := S.hn6
      have hbd := S.hbd
      have hns := nbr_sk (n := n) (tx := tx) i
      rw [wI_e, S.hat, nz_s, ck_n (by omega) (by omega), nz_tn (by omega)]
      have S1 := S.go (j := sk n tx i + 1) (by omega) (by omega)
      have e11 : (stI σ 3 3 (nz (sk n tx i + 1))).1 1 (sk n tx i) = pk n tx i := by
        have := (S.htx.2.2 _ hlt2).1
        rw [etx, (lo7_op hu3).sb] at this
        simpa [gI] using this
      rw [e11]
      have hr := hR (lvC (pk n tx i) + 1) (sk n tx i + 1) w (p + y.length) _ hu1 (by omega) (by omega) S1
      rcases hq : R (lvC (pk n tx i) + 1) dep (sk n tx i + 1) w with e | q
      · rw [hq] at hr
        obtain ⟨σ', h1, h2, h3⟩ := hr
        rw [bdT_en h1]
        exact ⟨σ', rfl, (hE.tr cEF_at (Nat.le_refl _)).tr h2 (by omega), h3⟩
      · rw [hq] at hr
        obtain ⟨σ', h1, h2, h3, h4⟩ := hr
        obtain ⟨⟨f1, f2, f3, f4, f5⟩, f6, f7, f8⟩ := hF _ _ _ _ _ hu1 (by omega) hq
        obtain ⟨c1, c2⟩ := cCl_bin hu3 hC f4.cl
        have hb3 := h3.hbd
        rw [bdT_e h1, ck_d h3.hto, cPart (lo7_op hu3) h3.hp (by omega), bd_s]
        have hE2 := ((hE.tr cEF_at (Nat.le_refl _)).tr h2 (show p ≤ p + y.length by omega)).tr (cEF_part (p := p + y.length + q.2.2.2.2.length) (e := (pk n tx i, nz (p + y.length - 1), nz (p + y.length + q.2.2.2.2.length - 1)))) (by omega)
        have S3 := h3.part (e := (pk n tx i, nz (p + y.length - 1), nz (p + y.length + q.2.2.2.2.length - 1))) (by omega)
        have hP3 : cPA (stP σ' (p + y.length + q.2.2.2.2.length) (pk n tx i, nz (p + y.length - 1), nz (p + y.length + q.2.2.2.2.length - 1))) 6 p (bld p (y ++ (q.2.2.2.2 ++ [(pk n tx i, 0)])) []).1 := by
          rw [c2]
          have hP1 := cPA_fr (cPA_fr (cPA_fr hP (cEF_at (p := p + y.length)) (by rw [bld_len]; omega)) h2 (by rw [bld_len]; omega)) (cEF_part (p := p + y.length + q.2.2.2.2.length) (e := (pk n tx i, nz (p + y.length - 1), nz (p + y.length + q.2.2.2.2.length - 1)))) (by rw [bld_len]; omega)
          have hP2 := cPA_fr h4 (cEF_part (p := p + y.length + q.2.2.2.2.length) (e := (pk n tx i, nz (p + y.length - 1), nz (p + y.length + q.2.2.2.2.length - 1)))) (by rw [bld_len]; omega)
          refine cPA_app hP1 (cPA_app ?_ ?_)
          · rw [bld_len]; exact hP2
          · rw [bld_len, bld_len]; exact cPA_part
        generalize stP σ' (p + y.length + q.2.2.2.2.length) (pk n tx i, nz (p + y.length - 1), nz (p + y.length + q.2.2.2.2.length - 1)) = σ3 at S3 hE2 hP3 ⊢
        have el : (y ++ (q.2.2.2.2 ++ [(pk n tx i, 0)])).length = y.length + q.2.2.2.2.length + 1 := by simp; omega
        have ex : p + y.length + q.2.2.2.2.length = p + (y ++ (q.2.2.2.2 ++ [(pk n tx i, 0)])).length - 1 := by rw [el]; omega
        have ep : p + y.length + q.2.2.2.2.length + 1 = p + (y ++ (q.2.2.2.2 ++ [(pk n tx i, 0)])).length := by rw [el]; omega
        simp only [eb]
        by_cases h0 : lvC (pk n tx i) = 0
        · rw [if_pos h0, if_pos h0]
          refine ⟨_, ?_, hE2, ?_, hP3⟩
          · simp only; rw [ex]
          · simp only; rw [← ep]; exact S3
        · rw [if_neg h0, if_neg h0, cLook S3.htx S3.hat S3.hle, f7, stI_self S3.hat, bd_s, cLevel, bd_s]
          rw [ex]
          rw [ep] at S3
          refine ih q.1 q.2.1 _ _ _ _ (by omega) (by omega) (by omega) (by rw [f7]; exact S3) c1 hP3 hE2
theorem cUn {σ0 σ' : cS} {i p : Nat} {w : Option Nat} {y : List Sy} {a b l : Int32} {r : List Int32} (ha : a = 2 ∨ a = 33 ∨ a = 91) (hE : cEF p σ0 σ') (h3 : cES σ' n tx own i w (p + y.length)) (hC : cCl y) (h4 : cPA σ' 6 p (bld p y []).1) (hb : p + y.length + 1 + nbr n tx i ≤ 400) :
    cEO σ0 n tx own p (bd (fX3_part 6 a (nz (p + y.length - 1)) b σ') fun r σ => some (some r, σ)) (.ok (i, w, l, r, y ++ [(a, b)])) := by
  obtain ⟨d1, d2⟩ := cCl_un (b := b) ha hC
  have hp0 := hC.1
  have hl : lo7 a := by rcases ha with rfl | rfl | rfl <;> exact lo7_lit (by decide)
  rw [cPart hl h3.hp (by omega), bd_s]
  have hE2 := hE.tr (cEF_part (p := p + y.length) (e := (a, nz (p + y.length - 1), b))) (by omega)
  refine ⟨_, ?_, hE2, ?_, ?_⟩
  · simp only [List.length_append, List.length_cons, List.length_nil]; rw [show p + (y.length + (0 + 1)) - 1 = p + y.length by omega]
  · simp only [List.length_append, List.length_cons, List.length_nil]; exact h3.part (by omega)
  · simp only; rw [d2]
    refine cPA_app (cPA_fr h4 (cEF_part (p := p + y.length)) (by rw [bld_len]; omega)) ?_
    rw [bld_len]; exact cPA_part
theorem cE (d : Nat) :
    (∀ L dep i w p σ, lvL L → 3 * nbr n tx i + 2 ≤ d → dep + nbr n tx i ≤ 1000 → cES σ n tx own i w p → cEO σ n tx own p ((rdE d).1 L (nz dep) σ) ((pE n tx own d).1 L dep i w)) ∧
    (∀ dep i w p σ, 3 * nbr n tx i + 1 ≤ d → dep + nbr n tx i ≤ 1000 → cES σ n tx own i w p → cEO σ n tx own p ((rdE d).2.1 (nz dep) σ) ((pE n tx own d).2.1 dep i w)) ∧
    (∀ dep cl i w p σ, cl ≠ -1 → 1 ≤ i → 3 * nbr n tx i + 3 ≤ d → dep + nbr n tx i ≤ 999 → cES σ n tx own i w p → cEO σ n tx own p ((rdE d).2.2 (nz dep) cl σ) ((pE n tx own d).2.2 dep cl i w)) := by
  induction d with
  | zero => exact ⟨fun _ _ _ _ _ _ _ h => (by omega), fun _ _ _ _ _ h => (by omega), fun _ _ _ _ _ _ _ _ h => (by omega)⟩
  | succ d ih =>
    obtain ⟨ihS, ihA, ihI⟩ := ih
    obtain ⟨fS, fA, fI⟩ := pE_facts (n := n) (tx := tx) own d
    refine ⟨?_, ?_, ?_⟩
    · intro L dep i w p σ hL hd hdep S
      show cEO σ n tx own p (fX1_sum_B (rdE d).1 (rdE d).2.1 (rdE d).2.2 L (nz dep) σ) (pSm n tx (pE n tx own d).1 (pE n tx own d).2.1 L dep i w)
      unfold fX1_sum_B pSm
      have hr := ihA dep i w p σ (by omega) hdep S
      rcases hq : (pE n tx own d).2.1 dep i w with e | q
      · rw [hq] at hr
        obtain ⟨σ', h1, h2, h3⟩ := hr
        rw [bdT_en h1]
        exact ⟨σ', rfl, h2, h3⟩
      · rw [hq] at hr
        obtain ⟨σ', h1, h2, h3, h4⟩ := hr
        obtain ⟨⟨f1, f2, f3, f4, f5⟩, f6⟩ := fA _ _ _ _ S.hle hq
        have := f4.cl.1
        have := nbr_le (n := n) (tx := tx) (i := q.1)
        have := S.hn6
        rw [bdT_e h1, cLook h3.htx h3.hat h3.hle, bd_s, cLevel, bd_s]
        exact cLp hL fS (fun L i w p σ a b c e => ihS L dep i w p σ a b c e) FU q.1 q.2.1 _ _ _ _ (by unfold FU; omega) (by omega) (by omega) (cES_sk h3) f4.cl (cPA_fr h4 (cEF_at (p := p + q.2.2.2.2.length)) (by rw [bld_len]; omega)) (h2.tr cEF_at (Nat.le_refl _))
    · intro dep i w p σ hd hdep S
      show cEO σ n tx own p (fX1_atom_B (rdE d).1 (rdE d).2.1 (rdE d).2.2 (nz dep) σ) (pAt n tx own (pE n tx own d).2.1 (pE n tx own d).2.2 dep i w)
      have hsg := sk_ge (n := n) (tx := tx) i
      have hsn := nbr_sk (n := n) (tx := tx) i
      have hn6 := S.hn6
      have S1 := cES_sk S
      have hE1 : cEF p σ (stI σ 3 3 (nz (sk n tx i))) := cEF_at
      have hss := sk_sk (n := n) (tx := tx) i
      have hps := pk_sk (n := n) (tx := tx) i
      have hb := S.hbd
      unfold fX1_atom_B pAt
      rw [cLook S.htx S.hat S.hle, bd_s, isIn0, bd_s]
      generalize stI σ 3 3 (nz (sk n tx i)) = σ1 at S1 hE1 ⊢
      by_cases c1 : isI (pk n tx i) 48 57 = true
      · obtain ⟨a, ha, ea⟩ := isI_dig c1
        obtain ⟨hlt, etx⟩ := pkc_ne (n := n) (tx := tx) (i := i) (by rw [ea]; exact nz_m1 (by omega))
        obtain ⟨g1, g2, ⟨b, hb, eb1, eb2⟩, g4, g5⟩ := pNm_facts (tx := tx) hlt (by rw [etx]; exact c1) dig_nb
        rw [if_pos c1, if_pos c1, if_neg (by decide), ck_d S1.hto, cNum S1.htx S1.hat S1.hle, hps, hss, if_pos c1, bdT_s]
        have S2 := S1.go (j := (pNm n tx (sk n tx i)).1) (by omega) g2
        rw [cPart (show lo7 0 from lo7_lit (a := 0) (by decide)) S2.hp (by omega), bd_s]
        refine ⟨_, rfl, (hE1.tr cEF_at (Nat.le_refl _)).tr cEF_part (Nat.le_refl _), S2.part (by omega), ?_⟩
        exact cPA_part
      · rw [if_neg c1, if_neg c1, if_pos rfl, isIn0, bd_s]
        by_cases c2 : isI (pk n tx i) 97 102 = true
        · obtain ⟨a, ha1, ha2, ea⟩ := isI_lo7 (a := 97) (b := 102) c2 (by omega) (by omega)
          obtain ⟨hlt, etx⟩ := pkc_ne (n := n) (tx := tx) (i := i) (by rw [ea]; exact nz_m1 (by omega))
          have htk := nbr_tk hlt
          rw [if_pos c2, if_pos c2, if_neg (by decide), S1.how]
          have key : ∀ bad : Bool, cEO σ n tx own p (fX1_atom_B_63 (rdE d).1 (rdE d).2.1 (rdE d).2.2 (nz dep) (pk n tx i) (if bad = true then 0 else 1) σ1) (.ok (sk n tx i + 1, ntb bad w (sk n tx i), 3, [pk n tx i], [(1, pk n tx i - 97)])) := by
            intro bad
            unfold fX1_atom_B_63
            have S2 := S1.wr (wG_ntb (b := bad) (p := sk n tx i) S1.hg hlt)
            have S3 := S2.go (j := sk n tx i + 1) (by omega) (by omega)
            rw [S1.hat, cNote S1.hw S1.hg hn6 (by omega), bd_s, wI_e, S2.hat, nz_s, ck_d S3.hto, cPart (show lo7 1 from lo7_lit (a := 1) (by decide)) S3.hp (by omega), bd_s]
            exact ⟨_, rfl, ((hE1.tr cEF_w (Nat.le_refl _)).tr cEF_at (Nat.le_refl _)).tr cEF_part (Nat.le_refl _), S3.part (by omega), cPA_part⟩
          by_cases o1 : own = -1
          · rw [if_pos o1]
            have := key (!(decide (own = -1) || decide (own = pk n tx i)))
            simpa [o1] using this
          · rw [if_neg o1]
            by_cases o2 : own = pk n tx i
            · rw [if_pos o2]
              have := key (!(decide (own = -1) || decide (own = pk n tx i)))
              rw [show (!(decide (own = -1) || decide (own = pk n tx i))) = false by simp [o2]] at this ⊢
              exact this
            · rw [if_neg o2]
              have := key (!(decide (own = -1) || decide (own = pk n tx i)))
              rw [show (!(decide (own = -1) || decide (own = pk n tx i))) = true by simp [o1, o2]] at this ⊢
              exact this
        · rw [if_neg c2, if_neg c2, if_pos rfl, isIn0, bd_s]
          by_cases c3 : isI (pk n tx i) 65 90 = true
          · obtain ⟨a, ha1, ha2, ea⟩ := isI_lo7 (a := 65) (b := 90) c3 (by omega) (by omega)
            obtain ⟨hlt, etx⟩ := pkc_ne (n := n) (tx := tx) (i := i) (by rw [ea]; exact nz_m1 (by omega))
            have htk := nbr_tk hlt
            have S2 := S1.go (j := sk n tx i + 1) (by omega) (by omega)
            rw [if_pos c3, if_pos c3, if_neg (by decide), wI_e, S1.hat, nz_s, cTake 40 S2.htx S2.hat S2.hle (by decide)]
            by_cases c4 : pk n tx (sk n tx i + 1) = 40
            · obtain ⟨hlt2, etx2⟩ := pkc_lt c4 (by decide)
              have htk2 := nbr_tk hlt2
              have hsg2 := sk_ge (n := n) (tx := tx) (sk n tx i + 1)
              have S3 := S2.go (j := sk n tx (sk n tx i + 1) + 1) (by omega) (by omega)
              have hE3 := (hE1.tr (cEF_at (v := nz (sk n tx i + 1))) (Nat.le_refl _)).tr (cEF_at (v := nz (sk n tx (sk n tx i + 1) + 1))) (Nat.le_refl _)
              rw [if_pos c4, if_pos c4, bdT_s, ck_d S3.hto]
              generalize stI (stI σ1 3 3 (nz (sk n tx i + 1))) 3 3 (nz (sk n tx (sk n tx i + 1) + 1)) = σ3 at S3 hE3 ⊢
              have hr := ihI dep 41 _ w p σ3 (by decide) (by omega) (by omega) (by omega) S3
              rcases hq : (pE n tx own d).2.2 dep 41 (sk n tx (sk n tx i + 1) + 1) w with e | q
              · rw [hq] at hr
                obtain ⟨σ', h1, h2, h3⟩ := hr
                rw [bdT_en h1]
                exact ⟨σ', rfl, hE3.tr h2 (Nat.le_refl _), h3⟩
              · rw [hq] at hr
                obtain ⟨σ', h1, h2, h3, h4⟩ := hr
                obtain ⟨⟨f1, f2, f3, f4, f5⟩, f6⟩ := fI _ _ _ _ _ (by decide) (by omega) (by omega) hq
                obtain ⟨d1, d2⟩ := cCl_un (a := 2) (b := pk n tx i) (Or.inl rfl) f4.cl
                have hb3 := h3.hbd
                have hp0 := f4.cl.1
                rw [bdT_e h1]
                exact cUn (Or.inl rfl) (hE3.tr h2 (Nat.le_refl _)) h3 f4.cl h4 (by omega)
            · rw [if_neg c4, if_neg c4, bdT_n]
              exact ⟨_, rfl, ((hE1.tr cEF_at (Nat.le_refl _)).tr cEF_at (Nat.le_refl _)).tr cEF_bad (Nat.le_refl _), by simp [gI]⟩
          · rw [if_neg c3, if_neg c3, if_pos rfl, cTakes1 S1 hss 40 (by decide), hps]
            by_cases c4 : pk n tx i = 40
            · obtain ⟨hlt, etx⟩ := pkc_lt c4 (by decide)
              have htk := nbr_tk hlt
              rw [if_pos c4, if_pos c4, bd_s, if_neg (by decide)]
              have S2 := S1.go (j := sk n tx i + 1) (by omega) (by omega)
              have hr := ihI dep 41 _ w p _ (by decide) (by omega) (by omega) (by omega) S2
              rcases hq : (pE n tx own d).2.2 dep 41 (sk n tx i + 1) w with e | q
              · rw [hq] at hr
                obtain ⟨σ', h1, h2, h3⟩ := hr
                rw [bdT_en h1]
                exact ⟨σ', rfl, (hE1.tr cEF_at (Nat.le_refl _)).tr h2 (Nat.le_refl _), h3⟩
              · rw [hq] at hr
                obtain ⟨σ', h1, h2, h3, h4⟩ := hr
                rw [bdT_e h1]
                exact ⟨σ', rfl, (hE1.tr cEF_at (Nat.le_refl _)).tr h2 (Nat.le_refl _), h3, h4⟩
            · rw [if_neg c4, if_neg c4, bd_s, if_pos rfl, cTakes1 S1 hss 91 (by decide), hps]
              by_cases c5 : pk n tx i = 91
              · obtain ⟨hlt, etx⟩ := pkc_lt c5 (by decide)
                have htk := nbr_tk hlt
                have S2 := S1.go (j := sk n tx i + 1) (by omega) (by omega)
                rw [if_pos c5, if_pos c5, bd_s, if_neg (by decide), ck_d S2.hto]
                have hr := ihI dep 93 _ w p _ (by decide) (by omega) (by omega) (by omega) S2
                rcases hq : (pE n tx own d).2.2 dep 93 (sk n tx i + 1) w with e | q
                · rw [hq] at hr
                  obtain ⟨σ', h1, h2, h3⟩ := hr
                  rw [bdT_en h1]
                  exact ⟨σ', rfl, (hE1.tr cEF_at (Nat.le_refl _)).tr h2 (Nat.le_refl _), h3⟩
                · rw [hq] at hr
                  obtain ⟨σ', h1, h2, h3, h4⟩ := hr
                  obtain ⟨⟨f1, f2, f3, f4, f5⟩, f6⟩ := fI _ _ _ _ _ (by decide) (by omega) (by omega) hq
                  obtain ⟨d1, d2⟩ := cCl_un (a := 91) (b := 0) (Or.inr (Or.inr rfl)) f4.cl
                  have hb3 := h3.hbd
                  have hp0 := f4.cl.1
                  rw [bdT_e h1]
                  exact cUn (Or.inr (Or.inr rfl)) ((hE1.tr cEF_at (Nat.le_refl _)).tr h2 (Nat.le_refl _)) h3 f4.cl h4 (by omega)
              · rw [if_neg c5, if_neg c5, bd_s, if_pos rfl, cTake1 S1 hss 33 (by decide), hps]
                by_cases c6 : pk n tx i = 33
                · obtain ⟨hlt, etx⟩ := pkc_lt c6 (by decide)
                  have htk := nbr_tk hlt
                  have S2 := S1.go (j := sk n tx i + 1) (by omega) (by omega)
                  rw [if_pos c6, if_pos c6, bdT_s]
                  have key : ∀ bad : Bool, cEO σ n tx own p (fX1_atom_B_200 (rdE d).1 (rdE d).2.1 (rdE d).2.2 (nz dep) (if bad = true then 0 else 1) (stI σ1 3 3 (nz (sk n tx i + 1)))) (eb ((pE n tx own d).2.1 (dep + 1) (sk n tx i + 1) (ntb bad w (sk n tx i))) fun q => .ok (q.1, q.2.1, 3, 33 :: par q.2.2.1 3 q.2.2.2.1, q.2.2.2.2 ++ [(33, 0)])) := by
                    intro bad
                    unfold fX1_atom_B_200
                    rw [S2.hat, nz_ps, cNote S2.hw S2.hg hn6 (by omega), bd_s]
                    have S3 := S2.wr (wG_ntb (b := bad) (p := sk n tx i) S1.hg hlt)
                    have hE3 := (hE1.tr (cEF_at (v := nz (sk n tx i + 1))) (Nat.le_refl _)).tr (cEF_w (v := ow (ntb bad w (sk n tx i)))) (Nat.le_refl _)
                    rw [ck_d S3.hto, nz_s]
                    generalize stI (stI σ1 3 3 (nz (sk n tx i + 1))) 3 5 (ow (ntb bad w (sk n tx i))) = σ3 at S3 hE3 ⊢
                    have hr := ihA (dep + 1) _ _ p _ (by omega) (by omega) S3
                    rcases hq : (pE n tx own d).2.1 (dep + 1) (sk n tx i + 1) (ntb bad w (sk n tx i)) with e | q
                    · rw [hq] at hr
                      obtain ⟨σ', h1, h2, h3⟩ := hr
                      rw [bdT_en h1]
                      exact ⟨σ', rfl, hE3.tr h2 (Nat.le_refl _), h3⟩
                    · rw [hq] at hr
                      obtain ⟨σ', h1, h2, h3, h4⟩ := hr
                      obtain ⟨⟨f1, f2, f3, f4, f5⟩, f6⟩ := fA _ _ _ _ (by omega) hq
                      obtain ⟨d1, d2⟩ := cCl_un (a := 33) (b := 0) (Or.inr (Or.inl rfl)) f4.cl
                      have hb3 := h3.hbd
                      have hp0 := f4.cl.1
                      rw [bdT_e h1]
                      exact cUn (Or.inr (Or.inl rfl)) (hE3.tr h2 (Nat.le_refl _)) h3 f4.cl h4 (by omega)
                  by_cases o1 : 8 ≤ dep
                  · rw [if_pos (by rw [show (8 : Int32) = nz 8 from rfl, nz_le (by omega) (by omega)]; exact o1), decide_eq_true o1]
                    exact key true
                  · rw [if_neg (by rw [show (8 : Int32) = nz 8 from rfl, nz_le (by omega) (by omega)]; exact o1), decide_eq_false o1]
                    exact key false
                · rw [if_neg c6, if_neg c6, bdT_n]
                  exact ⟨_, rfl, hE1.tr cEF_bad (Nat.le_refl _), by simp [gI]⟩
    · intro dep cl i w p σ hcl hi1 hd hdep S
      show cEO σ n tx own p (fX1_inside_B (rdE d).1 (rdE d).2.1 (rdE d).2.2 (nz dep) cl σ) (pIn n tx (pE n tx own d).1 dep cl i w)
      have hn6 := S.hn6
      have hle := S.hle
      unfold fX1_inside_B pIn
      have key : ∀ bad : Bool, cEO σ n tx own p (fX1_inside_B_12 (rdE d).1 (rdE d).2.1 (rdE d).2.2 (nz dep) cl (if bad = true then 0 else 1) σ) (eb ((pE n tx own d).1 0 (dep + 1) i (ntb bad w (i - 1))) fun q => if pk n tx q.1 = cl then .ok (sk n tx q.1 + 1, q.2) else .error (sk n tx q.1)) := by
        intro bad
        unfold fX1_inside_B_12
        rw [S.hat, nz_p hi1, cNote S.hw S.hg hn6 (by omega), bd_s, nz_s]
        have S3 := S.wr (wG_ntb (b := bad) (p := i - 1) S.hg (by omega))
        have hr := ihS 0 (dep + 1) _ _ p _ (Or.inl rfl) (by omega) (by omega) S3
        rcases hq : (pE n tx own d).1 0 (dep + 1) i (ntb bad w (i - 1)) with e | q
        · rw [hq] at hr
          obtain ⟨σ', h1, h2, h3⟩ := hr
          rw [bdT_en h1]
          exact ⟨σ', rfl, cEF_w.tr h2 (Nat.le_refl _), h3⟩
        · rw [hq] at hr
          obtain ⟨σ', h1, h2, h3, h4⟩ := hr
          simp only [eb]
          rw [bdT_e h1, cTake cl h3.htx h3.hat h3.hle hcl]
          by_cases hc : pk n tx q.1 = cl
          · obtain ⟨hlt, etx⟩ := pkc_lt hc hcl
            have := sk_ge (n := n) (tx := tx) q.1
            rw [if_pos hc, if_pos hc, bdT_s]
            exact ⟨_, rfl, (cEF_w.tr h2 (Nat.le_refl _)).tr (cEF_at (p := p)) (Nat.le_refl _), h3.go (by omega) (by omega), cPA_fr h4 (cEF_at (p := p + q.2.2.2.2.length)) (by rw [bld_len]; exact Nat.le_refl _)⟩
          · rw [if_neg hc, if_neg hc, bdT_n]
            exact ⟨_, rfl, ((cEF_w.tr h2 (Nat.le_refl _)).tr (cEF_at (p := p)) (Nat.le_refl _)).tr cEF_bad (Nat.le_refl _), by simp [gI]⟩
      by_cases o1 : 8 ≤ dep
      · rw [if_pos (by rw [show (8 : Int32) = nz 8 from rfl, nz_le (by omega) (by omega)]; exact o1), decide_eq_true o1]
        exact key true
      · rw [if_neg (by rw [show (8 : Int32) = nz 8 from rfl, nz_le (by omega) (by omega)]; exact o1), decide_eq_false o1]
        exact key false
end
