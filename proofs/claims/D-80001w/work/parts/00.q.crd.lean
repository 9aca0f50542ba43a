set_option maxRecDepth 100000
/-! ===== THE COMPONENT READS WHOLE TEXTS ===== -/
/-- what reading leaves as it was -/
def cRF (σ σ' : cS) : Prop := σ'.2.1 = σ.2.1 ∧ (∀ o j, ¬ (o = 3 ∧ j = 2) → σ'.2.2 o j = σ.2.2 o j) ∧ (∀ o j, o < 3 ∨ 20 < o → σ'.1 o j = σ.1 o j)
theorem cRF.tr {σ σ1 σ2 : cS} (h : cRF σ σ1) (h' : cRF σ1 σ2) : cRF σ σ2 := ⟨h'.1.trans h.1, fun o j q => (h'.2.1 o j q).trans (h.2.1 o j q), fun o j q => (h'.2.2 o j q).trans (h.2.2 o j q)⟩
theorem cRF_S {g : Prop} {p cb s : Nat} {σ σ' : cS} (h : cSF g p cb s σ σ') : cRF σ σ' := by
  obtain ⟨a1, a2, -⟩ := h
  refine ⟨by rw [a1], fun o j _ => by rw [a1], fun o j q => a2 o j (by omega) (by omega) (by omega) (by omega) (by omega) (by omega) (by omega) (by omega) (by omega) (by omega) (by omega) (by omega) (by omega) (by omega)⟩
/-- the tape as it stands: n bytes -/
def cTp (σ : cS) (n : Nat) (tx : Nat → Int32) : Prop := σ.1 0 1 = nz n ∧ n ≤ 600 ∧ nbr n tx 0 ≤ 400 ∧ ∀ k, k < n → σ.1 1 k = sb (tx k) ∧ sgn (tx k)
/-- the bytes r are what the text at o prints as -/
def cTP (σ : cS) (o : Nat) (r : List Int32) : Prop := σ.1 o 18 = nz r.length ∧ r.length ≤ 600 ∧ (∀ k, k < r.length → σ.1 (o + 14) k = r.getD k 0)
/-- a model's text at o -/
def cTM (σ : cS) (o : Nat) (C : List Cd) (ch r : List Int32) : Prop := σ.1 o 9 = nz C.length ∧ C.length ≤ 80 ∧ psz C ≤ 400 ∧ cCd σ o 0 0 C ∧ σ.1 o 11 = nz ch.length ∧ ch.length ≤ 3 ∧ (∀ k, k < ch.length → σ.1 (o + 9) k = ch.getD k 0) ∧ cTP σ o r
/-- a question's text at o -/
def cTQ (σ : cS) (o : Nat) (y : List Sy) (r : List Int32) : Prop := σ.1 (o + 7) 0 = nz (y.length - 1) ∧ y.length ≤ 400 ∧ cPA σ o 0 (bld 0 y []).1 ∧ cTP σ o r
def cFn (σ : cS) (o : Nat) : Nat → Nat → List Fn → Prop
  | _, _, [] => True
  | k, p, f :: F => σ.1 (o + 10) k = f.1 ∧ σ.1 (o + 11) k = f.2.1 ∧ σ.1 (o + 12) k = nz p ∧ σ.1 (o + 13) k = nz (p + f.2.2.length - 1) ∧ cPA σ o p (bld p f.2.2 []).1 ∧ cFn σ o (k + 1) (p + f.2.2.length) F
def fsz : List Fn → Nat
  | [] => 0
  | f :: F => f.2.2.length + fsz F
/-- a library's text at o -/
def cTL (σ : cS) (o : Nat) (F : List Fn) (r : List Int32) : Prop := σ.1 o 16 = nz F.length ∧ F.length ≤ 12 ∧ fsz F ≤ 400 ∧ cFn σ o 0 0 F ∧ cTP σ o r
theorem cBegin {σ : cS} {n : Nat} {tx : Nat → Int32} (h : cTp σ n tx) : ∃ σ', fX1_begin 6 σ = some ((), σ') ∧ cRF σ σ' ∧ cMS σ' n tx 0 none 0 0 0 0 [] ∧ σ'.1 6 16 = 0 := by
  obtain ⟨h1, h2, h3, h4⟩ := h
  refine ⟨stI (stI (stI (stI (stI (stI (stI (stI (stI (stI (stR σ 3 2 (some 6)) 6 3 0) 6 9 0) 6 11 0) 6 16 0) 6 18 0) 3 3 0) 3 4 (σ.1 0 1)) 3 5 (-1)) 3 6 (-1)) 3 7 0, ?_, ?_, ?_, ?_⟩
  · unfold fX1_begin fX3_clear
    rw [ck_d cp6]
    simp only [wI, wR]
    rw [ck_d (by simp [gR])]
    simp only [bd_s]
    simp [gI, gR_I]
  · refine ⟨rfl, fun o j q => ?_, fun o j q => ?_⟩
    · show (stR σ 3 2 (some 6)).2.2 o j = σ.2.2 o j
      rw [gR]
      by_cases ho : o = 3
      · rw [if_pos ho, if_neg (fun x => q ⟨ho, x⟩)]
      · rw [if_neg ho]
    · have h6 : o ≠ 6 := by omega
      have h3 : o ≠ 3 := by omega
      simp only [gI, h6, h3, if_false]
      rfl
  · refine ⟨⟨⟨by simp [gI, h1], h2, fun k hk => ?_⟩, by simp [gI]; rfl, Nat.zero_le _, by simp [gI]; rfl, (fun p q => (by cases q)), by simp [gI], ?_, by simp [gI]; rfl, by omega⟩, by simp [gI]; rfl, ⟨0, by omega, by simp [gI]; rfl, fun _ => rfl⟩, by omega, by simp [gI]; rfl, by simp, by simp, by simp [gI]; rfl⟩
    · have := h4 k hk
      simpa [gI, gR_I] using this
    · show (stR σ 3 2 (some 6)).2.2 3 2 = some 6
      simp [gR]
  · simp [gI]
section
variable {n : Nat} {tx : Nat → Int32}
theorem cDone {σ : cS} {own : Int32} {i p : Nat} {w : Option Nat} (S : cES σ n tx own i w p) : (∃ e, (if pk n tx i = -1 then wOk w () else .error (sk n tx i)) = .error e ∧ ∃ σ', fX1_done σ = some (none, σ') ∧ (∀ g a b d, cSF g a b d σ σ') ∧ σ'.1 4 6 = nz e) ∨ ((if pk n tx i = -1 then wOk w () else .error (sk n tx i)) = .ok () ∧ fX1_done σ = some (some (), stI σ 3 3 (nz (sk n tx i)))) := by
  unfold fX1_done
  have S1 := cES_sk S
  rw [cLook S.htx S.hat S.hle, bd_s]
  by_cases hc : pk n tx i = -1
  · rw [if_pos hc, if_pos hc, S1.hw]
    cases w with
    | none =>
      rw [if_pos (show ow none = -1 from rfl)]
      exact Or.inr ⟨rfl, rfl⟩
    | some q =>
      have := S1.hg q rfl
      have := S1.hn6
      rw [if_neg (show ow (some q) ≠ -1 from nz_m1 (by omega)), cBad, bd_s, ck_d rfl]
      refine Or.inl ⟨q, rfl, _, rfl, fun g a b d => cAt_S.tq (cSF_I (by omega)), ?_⟩
      simp [gI]; rfl
  · rw [if_neg hc, if_neg hc, cBad, bd_s, ck_d rfl]
    refine Or.inl ⟨_, rfl, _, rfl, fun g a b d => cAt_S.tq (cSF_I (by omega)), ?_⟩
    simp [gI]
theorem cMo {σ0 : cS} (hnb : nbr n tx 0 ≤ 400) : ∀ (k i : Nat) (w : Option Nat) (st : Nat) (C : List Cd) (ch r : List Int32) (σ : cS), nbr n tx i < k → st + nbr n tx i ≤ 400 → 3 * r.length + 4 * nbr n tx i ≤ 1600 → psz C + nbr n tx i ≤ 400 → cMS σ n tx i w (psz C) st C.length r.length ch → cRF σ0 σ → (st ≤ 40 → cCd σ 6 0 0 C) → cPr σ 0 r →
    ((∃ e, (eb (pMo n tx k i w st C ch r) fun q => wOk q.2.1 (q.2.2.2.1, q.2.2.2.2.1, q.2.2.2.2.2)) = .error e ∧ ∃ σ', fX1_model_5 6 k σ = some (none, σ') ∧ cRF σ0 σ' ∧ σ'.1 4 6 = nz e) ∨
     (∃ q, (eb (pMo n tx k i w st C ch r) fun q => wOk q.2.1 (q.2.2.2.1, q.2.2.2.2.1, q.2.2.2.2.2)) = .ok q ∧ ∃ σ', fX1_model_5 6 k σ = some (some (), σ') ∧ cRF σ0 σ' ∧ cTM σ' 6 q.1 q.2.1 q.2.2)) := by
  intro k
  induction k with
  | zero => intro i w st C ch r σ h; omega
  | succ k ih =>
    intro i w st C ch r σ hk hst hs hpz M F hC P
    unfold fX1_model_5 pMo
    have hle := M.E.hle
    have hr := (cStm (n := n) (tx := tx) DS).1 0 i w (psz C) st C.length r.length ch σ (by unfold DS; omega) (by omega) (by omega) (by omega) M
    rcases hq : (pS n tx DS).1 0 i w st C.length ch with e | q
    · rw [hq] at hr
      obtain ⟨σ', h1, h2, h3⟩ := hr
      refine Or.inl ⟨e, rfl, σ', ?_, F.tr (cRF_S h2), h3⟩
      rw [show fX1_statement 0 σ = some (none, σ') from h1]; rfl
    · rw [hq] at hr
      obtain ⟨σ1, h1, h2, h3, h4, h5⟩ := hr
      obtain ⟨⟨b1, b2, b3, b4, b5, b6, b7, b8, b9, b10, b11, b12, b13⟩, b14, b15, b16⟩ := (pS_facts (n := n) (tx := tx) DS).1 _ _ _ _ _ _ _ hle hq
      rw [show fX1_statement 0 σ = some (some (), σ1) from h1, bdT_s]
      obtain ⟨l2, M2⟩ := cLookM h3
      rw [l2, bd_s]
      have F2 : cRF σ0 (stI σ1 3 3 (nz (sk n tx q.1))) := (F.tr (cRF_S h2)).tr (cRF_S (cAt_S (g := True) (p := 0) (cb := 0) (s := 0)))
      have C2 : q.2.2.1 ≤ 40 → cCd (stI σ1 3 3 (nz (sk n tx q.1))) 6 0 0 (C ++ q.2.2.2.1) := by
        intro x
        refine cCd_S (cAt_S (g := True) (p := psz (C ++ q.2.2.2.1)) (cb := (C ++ q.2.2.2.1).length) (s := 0)) trivial _ (cCd_app C (cCd_S h2 x C (hC (by omega)) (by omega) (by omega)) ?_) (by omega) (by omega)
        rw [Nat.zero_add, Nat.zero_add]; exact h4 x
      have P2 : cPr (stI σ1 3 3 (nz (sk n tx q.1))) 0 (r ++ q.2.2.2.2.2) := cPr_S (cPr_app (cPr_S P h2 (by omega)) (by rw [Nat.zero_add]; exact h5)) (cAt_S (g := True) (p := 0) (cb := 0) (s := (r ++ q.2.2.2.2.2).length)) (by omega)
      generalize stI σ1 3 3 (nz (sk n tx q.1)) = σ2 at M2 F2 C2 P2 ⊢
      have hsn := nbr_sk (n := n) (tx := tx) q.1
      simp only [eb]
      by_cases hc : pk n tx q.1 = -1
      · rw [if_pos hc, if_pos hc]
        have hpk : pk n tx (sk n tx q.1) = -1 := by rw [pk_sk]; exact hc
        rcases cDone M2.E with ⟨e, g1, σ', g2, g3, g4⟩ | ⟨g1, g2⟩
        · rw [if_pos hpk] at g1
          refine Or.inl ⟨e, ?_, σ', by rw [bdT_en g2], F2.tr (cRF_S (g3 True 0 0 0)), g4⟩
          simp only
          cases hw : q.2.1 with
          | none => rw [hw] at g1; cases g1
          | some x => rw [hw] at g1; cases g1; rfl
        · rw [if_pos hpk] at g1
          rw [sk_sk, stI_self M2.E.hat] at g2
          rw [bdT_e g2]
          have hw : q.2.1 = none := by
            cases hw : q.2.1 with
            | none => rfl
            | some x => rw [hw] at g1; cases g1
          have h40 := b15 hw
          obtain ⟨x, x1, x2, x3⟩ := M2.hcb
          have x3 := x3 h40
          have hcs := M2.hcs
          refine Or.inr ⟨(C ++ q.2.2.2.1, q.2.2.2.2.1, r ++ q.2.2.2.2.2), by simp only; rw [hw]; rfl, σ2, rfl, F2, ?_, ?_, ?_, C2 h40, M2.hcc, M2.hc3, M2.hch, ?_, ?_, ?_⟩
          · rw [x2, x3, List.length_append]
          · simp only [List.length_append]; omega
          · simp only [psz_app]; omega
          · rw [M2.hs]; simp only [List.length_append]
          · simp only [List.length_append]; omega
          · intro m hm
            have := P2 m hm
            rwa [Nat.zero_add] at this
      · rw [if_neg hc, if_neg hc]
        have hsk : nbr n tx (sk n tx q.1) < k := by omega
        have hsame : pMo n tx k q.1 q.2.1 q.2.2.1 (C ++ q.2.2.2.1) q.2.2.2.2.1 (r ++ q.2.2.2.2.2) = pMo n tx k (sk n tx q.1) q.2.1 q.2.2.1 (C ++ q.2.2.2.1) q.2.2.2.2.1 (r ++ q.2.2.2.2.2) := by
          cases k with
          | zero => rfl
          | succ k =>
            unfold pMo
            have : ∀ cb, (pS n tx DS).1 0 q.1 q.2.1 q.2.2.1 cb q.2.2.2.2.1 = (pS n tx DS).1 0 (sk n tx q.1) q.2.1 q.2.2.1 cb q.2.2.2.2.1 := by
              intro cb
              show pSt n tx _ 0 q.1 q.2.1 q.2.2.1 cb q.2.2.2.2.1 = pSt n tx _ 0 (sk n tx q.1) q.2.1 q.2.2.1 cb q.2.2.2.2.1
              unfold pSt
              rw [pk_sk, sk_sk]
            rw [this]
        rw [hsame]
        refine ih (sk n tx q.1) q.2.1 q.2.2.1 (C ++ q.2.2.2.1) q.2.2.2.2.1 (r ++ q.2.2.2.2.2) σ2 hsk (by omega) (by rw [List.length_append]; omega) (by rw [psz_app]; omega) ?_ F2 C2 P2
        rw [psz_app, List.length_append, List.length_append]; exact M2
theorem cRdM {σ : cS} (h : cTp σ n tx) :
    (∃ e, rdM n tx = .error e ∧ ∃ σ', fX1_model 6 σ = some (none, σ') ∧ cRF σ σ' ∧ σ'.1 4 6 = nz e) ∨
    (∃ q, rdM n tx = .ok q ∧ ∃ σ', fX1_model 6 σ = some (some (), σ') ∧ cRF σ σ' ∧ cTM σ' 6 q.1 q.2.1 q.2.2) := by
  obtain ⟨σ1, h1, h2, h3, -⟩ := cBegin h
  have hnb := h.2.2.1
  have hn := h.2.1
  have hnl := nbr_le (n := n) (tx := tx) (i := 0)
  unfold fX1_model rdM
  rw [ck_d cp6, h1, bd_s]
  exact cMo hnb FU 0 none 0 [] [] [] σ1 (by unfold FU; omega) (by omega) (by simp; omega) (by simp [psz]; omega) h3 h2 (fun _ => trivial) (fun k hk => by simp at hk)
theorem cRdQ {σ : cS} (h : cTp σ n tx) :
    (∃ e, rdQ n tx = .error e ∧ ∃ σ', fX1_question 6 σ = some (none, σ') ∧ cRF σ σ' ∧ σ'.1 4 6 = nz e) ∨
    (∃ q, rdQ n tx = .ok q ∧ ∃ σ', fX1_question 6 σ = some (some (), σ') ∧ cRF σ σ' ∧ cTQ σ' 6 q.1 q.2) := by
  obtain ⟨σ1, h1, h2, h3, -⟩ := cBegin h
  have hnb := h.2.2.1
  unfold fX1_question rdQ
  rw [ck_d cp6, h1, bd_s]
  have hr := cSum h3.E
  rcases hq : pSum n tx (-1) 0 none with e | q
  · rw [hq] at hr
    obtain ⟨σ', g1, g2, g3⟩ := hr
    exact Or.inl ⟨e, rfl, σ', by rw [bdT_en g1], h2.tr (cRF_S (cSF_E (g := True) (cb := 0) (s := 0) g2)), g3⟩
  · rw [hq] at hr
    obtain ⟨σ2, g1, g2, g3, g4⟩ := hr
    obtain ⟨f1, f2, f3, f4, f5, f6⟩ := pSum_facts h3.E.hle hq
    have hp0 := f4.cl.1
    have M2 := cMS_E h3 g2 g3
    rw [bdT_e g1]
    simp only [eb]
    have F2 : cRF σ σ2 := h2.tr (cRF_S (cSF_E (g := True) (cb := 0) (s := 0) g2))
    rcases cDone g3 with ⟨e, k1, σ', k2, k3, k4⟩ | ⟨k1, k2⟩
    · refine Or.inl ⟨e, ?_, σ', by rw [bdT_en k2], F2.tr (cRF_S (k3 True 0 0 0)), k4⟩
      split at k1
      · next hc =>
        rw [if_pos hc]
        cases hw : q.2.1 with
        | none => rw [hw] at k1; cases k1
        | some x => rw [hw] at k1; cases k1; rfl
      · next hc => rw [if_neg hc]; cases k1; rfl
    · rw [bdT_e k2]
      have hc : pk n tx q.1 = -1 := by
        split at k1
        · assumption
        · cases k1
      rw [if_pos hc] at k1 ⊢
      have hw : q.2.1 = none := by
        cases hw : q.2.1 with
        | none => rfl
        | some x => rw [hw] at k1; cases k1
      have M3 := M2.go (j := sk n tx q.1) (sk_ge _) (sk_le f2)
      have M4 := M3.oth (o := 13) (j := 0) (v := nz (0 + q.2.2.2.2.length - 1)) (by omega)
      have P4 : cPA (stI (stI σ2 3 3 (nz (sk n tx q.1))) 13 0 (nz (0 + q.2.2.2.2.length - 1))) 6 0 (bld 0 q.2.2.2.2 []).1 := cPA_I (cPA_I g4 (by decide)) (by decide)
      rw [ck_d M3.E.hto, ck_t (show inB 0 96 = true by decide), wI_e, show ((0 : Int32)).toNatClampNeg = 0 from rfl, ck_d M4.E.hto]
      have F4 : cRF σ (stI (stI σ2 3 3 (nz (sk n tx q.1))) 13 0 (nz (0 + q.2.2.2.2.length - 1))) := (F2.tr (cRF_S (cAt_S (g := True) (p := 0) (cb := 0) (s := 0)))).tr (cRF_S (cSF_I (g := True) (p := 0) (cb := 0) (s := 0) (by omega)))
      have e13 : (stI (stI σ2 3 3 (nz (sk n tx q.1))) 13 0 (nz (0 + q.2.2.2.2.length - 1))).1 13 0 = nz (q.2.2.2.2.length - 1) := by simp [gI]
      generalize stI (stI σ2 3 3 (nz (sk n tx q.1))) 13 0 (nz (0 + q.2.2.2.2.length - 1)) = σ4 at M4 P4 F4 e13 ⊢
      rw [cPrint f4 P4 (by omega) M4.hs (by omega), bd_s]
      refine Or.inr ⟨(q.2.2.2.2, q.2.2.2.1), by rw [hw]; rfl, _, rfl, F4.tr (cRF_S (cSF_pt (g := True) (p := 0) (cb := 0) _)), ?_, by simp only; omega, cPA_pt P4, ?_, by simp only; omega, ?_⟩
      · rw [ptL_o _ _ _ _ _ (by decide) (fun q => absurd q.1 (by decide))]; exact e13
      · have := ptL_s q.2.2.2.1 σ4 0 M4.hs
        rw [this, Nat.zero_add]
      · intro k hk
        have := (cPr_pt (σ := σ4) (s := 0) (r := q.2.2.2.1)) k hk
        rwa [Nat.zero_add] at this
end
