set_option maxRecDepth 100000
section
variable {tk n : Nat} {tx : Nat → Int32} {nm : Nat → Int32} {nF B : Nat} {sz : Int32} {a1 : Nat}
theorem rM_end {σ : cS} {i : Nat} {w : Option Nat} {o g st nc dm : Nat} {ch : List Int32} (f : Nat) (T : tTx σ tk n tx) (M : tMS σ i w o g 0 st nc dm ch) (hi : i ≤ n) (hst : st ≤ 1000) (hs0 : st ≠ 0) (h : pk n tx i = -1) :
    fX11_readModel_31 a1 sz (f + 1) 1 1 σ = fX11_readModel_31 a1 sz f 1 0 (stI σ 0 6 (nz (sk n tx i))) := by
  have M1 := M.go (sk n tx i)
  conv => lhs; unfold fX11_readModel_31
  rw [if_neg (by decide), if_neg (by decide), tLook T M.B.at hi, bd_s, if_neg (by rw [h]; decide)]
  unfold fX11_readModel_68
  rw [h, if_neg (by decide), M1.bk, if_pos (by decide), M1.sm, if_neg (by rw [nz_le0 (by omega)]; exact hs0)]
/-- what a model's reading gives -/
def tWR (σ0 : cS) (tk n : Nat) (tx : Nat → Int32) (tr : Sy → Int32 × Int32) (o : Nat) (x : Option (Int32 × cS)) (r : Except Nat (List Cd × List Int32 × List Int32)) : Prop := match r with
  | .error e => ∃ σ', x = some (0, σ') ∧ tRG 0 σ0 σ' ∧ tFt σ' e
  | .ok q => ∃ σ', x = some (1, σ') ∧ tRG o σ0 σ' ∧ tWM σ' tk n tx tr o q.1 q.2.1 q.2.2
theorem tMo (hB : B ≤ 9000) {σ0 : cS} {o : Nat} : ∀ (k i : Nat) (w : Option Nat) (st : Nat) (C : List Cd) (ch r : List Int32) (σ : cS) (f g nc : Nat) (E : List (Int32 × Int32)),
    nbr n tx i < k → tMH B tk n tx nm nF σ i w (o + E.length) g 0 st nc (dn C) ch f → (pk n tx i = -1 → st = 0) → (∀ c ∈ C, cdV c) → GJ 0 C → C.length ≤ 2 * st → tMF o 0 0 0 0 σ0 σ → tOA σ o E → E.length = osum C → (w = none → E = CM (trS (-1) nm nF) o 0 0 C) → tDn σ 0 C → GI σ 0 g 0 i → PF n tx σ 0 g 0 i r →
    tWR σ0 tk n tx (trS (-1) nm nF) o (fX11_readModel_31 a1 sz f 1 1 σ) (eb (pMo n tx k i w st C ch r) fun q => wOk q.2.1 (q.2.2.2.1, q.2.2.2.2.1, q.2.2.2.2.2)) := by
  intro k
  induction k with
  | zero => intro i w st C ch r σ f g nc E h; omega
  | succ k ih =>
    intro i w st C ch r σ f g nc E hk H hm1 hv hJ hCl hF0 hO hEl hEc hD hG hP
    have H0 := H
    obtain ⟨b1, b2, b3, b4, b5, b6, b7, b8, b9, b10, b11, b12, b13⟩ := H
    have hn6 : n ≤ 600 := b6.1.2.2.2.2.2.1
    have hr := tStm (a1 := a1) (sz := sz) hB DS σ i w _ _ _ _ _ _ _ C.length f H0 hCl (by unfold DS; omega) (fun _ => rfl) (fun q => Or.inr (hm1 q))
    have hN := (pS_n (n := n) (tx := tx) DS).1 0 i w st C.length ch b2
    unfold pMo
    rcases hq : (pS n tx DS).1 0 i w st C.length ch with e | q
    · rw [hq] at hr hN
      have hN : e ≤ n := hN
      obtain ⟨f', σ', r1, r2, r3, o', r4, r5⟩ := hr
      have hF : tFt (stO σ' o' 15 0) e := ⟨by omega, Or.inl (by simpa [stO, gI] using r2)⟩
      refine ⟨stO σ' o' 15 0, ?_, (tRG_M (tMF.rf.tr hF0 (Nat.zero_le _) (Nat.le_refl _) (Nat.le_refl _) (Nat.le_refl _) (Nat.le_refl _))).tr ((tRG_M (tMF.rf.tr r3 (Nat.zero_le _) (Nat.zero_le _) (Nat.le_refl _) (Nat.zero_le _) (Nat.zero_le _))).tr (tRG_M (g0 := 0) (b0 := 0) (c0 := 0) (d0 := 0) (tMF_O (Nat.zero_le _))) (Nat.le_refl _)) (Nat.le_refl _), hF⟩
      rw [r1, rM_0, tPut r5 (by omega), bd_s, tWell0 hF, bd_s, ck_t (by decide)]
    · rw [hq] at hr
      simp only [eb]
      obtain ⟨f', σ', g', nc', E', r1, r2, r3, r4, r5, r6, r7, r8, r9, r10, r11, r12, r13, r14, r15, r16⟩ := hr
      obtain ⟨⟨c1, c2, c3, c4, c5, c6, c7, c8, c9, c10, c11, c12, c13⟩, c14, c15, c16⟩ := (pS_facts (n := n) (tx := tx) DS).1 _ _ _ _ _ _ _ b2 hq
      have hwm := (pS_m (n := n) (tx := tx) DS).1 _ _ _ _ _ _ _ hq
      have hnd := nbr_diffA (n := n) (tx := tx) (i := i) (j := q.1) (by omega)
      rw [r1]
      have hsm : gSm 0 g σ σ' := gSm_M r4 (Nat.le_refl _)
      have F' : tMF o 0 0 0 0 σ0 σ' := hF0.tr r4 (by omega) (Nat.zero_le _) (Nat.le_refl _) (Nat.zero_le _) (Nat.zero_le _)
      have C' := tCo_M b6 r4
      have M' : tMS σ' q.1 q.2.1 (o + (E ++ E').length) g' 0 q.2.2.1 nc' (dn (C ++ q.2.2.2.1)) q.2.2.2.2.1 := by
        rw [List.length_append, dn_app, ← Nat.add_assoc]; exact r3
      have O' : tOA σ' o (E ++ E') := tOA_app (tOA_M hO r4 (Nat.le_refl _)) r5
      have L' : (E ++ E').length = osum (C ++ q.2.2.2.1) := by rw [List.length_append, osum_app, hEl, r6]
      have c10' : GJ (0 + C.length) q.2.2.2.1 := by rw [Nat.zero_add]; exact c10
      have X' : q.2.1 = none → E ++ E' = CM (trS (-1) nm nF) o 0 0 (C ++ q.2.2.2.1) := by
        intro hn
        rw [CM_app hJ c10' hv c9 (by omega), ← hEc (c8.2 hn), r7 hn, hEl, Nat.zero_add, Nat.zero_add]
      have D' : tDn σ' 0 (C ++ q.2.2.2.1) := tDn_app C (tDn_M r4 C hD (by omega)) (by rw [Nat.zero_add]; exact r8)
      have G' : GI σ' 0 g' 0 q.1 := ((hG.sm hsm).wk (Nat.le_refl _) (by omega)).app (r11.wk (by omega) (Nat.le_refl _))
      have P' : PF n tx σ' 0 g' 0 q.1 (r ++ q.2.2.2.2.2) := PF_app (Nat.zero_le _) r9 (by omega) (by omega) (by omega) (hG.sm hsm) r11 (hP.sm hsm) r12
      have lB : o + (E ++ E').length ≤ B + 3 * q.1 := by rw [List.length_append, ← Nat.add_assoc]; exact r16
      by_cases hc : pk n tx q.1 = -1
      · rw [if_pos hc]
        simp only
        obtain ⟨f', rfl⟩ : ∃ e, f' = e + 2 := ⟨f' - 2, by omega⟩
        have hsl := sk_le (n := n) (tx := tx) c2
        have hskn : sk n tx q.1 = n := by
          unfold pk at hc
          split at hc
          · next hlt =>
            obtain ⟨a, ha, ea⟩ := (b6.1.2.2.2.2.2.2 _ hlt).2
            rw [ea] at hc
            exact absurd hc (nz_m1 (by omega))
          · omega
        rw [rM_end (f' + 1) C'.1 M' c2 (by omega) (by omega) hc]
        have M2 := M'.go (sk n tx q.1)
        have F2 : ∀ a b c d e, tMF a b c d e σ' (stI σ' 0 6 (nz (sk n tx q.1))) := fun a b c d e => tMF_I (by omega)
        obtain ⟨v, v1, v2⟩ := tPut15 (a1 := a1) (sz := sz) f' M2 (by omega) (c8.1 b4) hn6
        rw [v1]
        have F3 : tMF (o + (E ++ E').length) g' 0 0 (3 * dn (C ++ q.2.2.2.1)) σ' (stO (stI σ' 0 6 (nz (sk n tx q.1))) (o + (E ++ E').length) 15 0) := (F2 _ _ _ _ _).tq (tMF_O (Nat.le_refl _))
        have FT : tRG o σ0 (stO (stI σ' 0 6 (nz (sk n tx q.1))) (o + (E ++ E').length) 15 0) := (tRG_M F').tr (tRG_M F3) (by omega)
        rcases v2 with ⟨p, hw, rfl, hF⟩ | ⟨hw, rfl⟩
        · rw [hw]
          exact ⟨_, rfl, tRG.rf.tr FT (Nat.zero_le _), hF⟩
        · have M3 := M2.put 15 0
          have h3 := M3.n3 hw
          have hc3 := M3.c3
          rw [hw]
          refine ⟨_, rfl, FT, tTx_M C'.1 F3, ?_, ?_, tDn_M F3 _ D' (by simp only; omega), ?_, M3.cv, ?_⟩
          · rw [← X' hw]
            exact tOA_app (tOA_M O' F3 (Nat.le_refl _)) tOA_one
          · rw [M3.B.od, L']
          · rw [M3.nch]; congr 1; simp only; omega
          · have hg1 : (stO (stI σ' 0 6 (nz (sk n tx q.1))) (o + (E ++ E').length) 15 0).1 0 26 = nz g' := M3.B.gr
            have P2 := PF_sk (by omega) P'
            rw [hskn] at P2
            refine tGP_M r3.B.gr hg1 (by omega) (G'.wk (Nat.le_refl _) (by omega)) P2 F3 (Nat.le_refl _)
      · rw [if_neg hc]
        refine ih q.1 q.2.1 q.2.2.1 (C ++ q.2.2.2.1) q.2.2.2.2.1 (r ++ q.2.2.2.2.2) σ' f' g' nc' (E ++ E') (by omega) ⟨by omega, c2, by omega, c8.1 b4, bW_m b5 hwm (by omega), C', M', lB, r10, r14, ?_, by omega, by omega⟩ (fun q => absurd q hc) ?_ (GJ_app hJ c10') ?_ F' O' L' X' D' G' P'
        · rw [dn_app]; exact r15
        · intro c hc
          simp only [List.mem_append] at hc
          exact hc.elim (hv c) (c9 c)
        · rw [List.length_append]; omega
/-- the twin reads a model -/
theorem tRdM {σ : cS} {o : Nat} (h : tSrc σ tk n tx) (hnb : nbr n tx 0 ≤ 400) (ho : σ.1 0 11 = nz o) (ho9 : o ≤ 9000) (hnm : σ.1 15 = nm) (hF : nF ≤ 400) (h37 : σ.1 0 37 = nz nF) : tWR σ tk n tx (trS (-1) nm nF) o (fX11_readModel tk (nz n) σ) (rdM n tx) := by
  obtain ⟨σ1, h1, T1, B1, e18, e19, F1⟩ := tBegin h ho
  have hnl := nbr_le (n := n) (tx := tx) (i := 0)
  have hn6 := h.2.2.2.1
  unfold fX11_readModel rdM
  rw [h.1, ck_t (by decide), h1, bd_s, wI_e, wI_e, wI_e, wI_e]
  have F2 : ∀ a b c d e, tMF a b c d e σ1 (stI (stI (stI (stI σ1 0 41 0) 0 42 0) 0 43 0) 0 46 0) := fun a b c d e => (((tMF_I (by omega)).tq (tMF_I (by omega))).tq (tMF_I (by omega))).tq (tMF_I (by omega))
  have M2 : tMS (stI (stI (stI (stI σ1 0 41 0) 0 42 0) 0 43 0) 0 46 0) 0 none (o + ([] : List (Int32 × Int32)).length) 0 0 0 0 (dn []) [] := ⟨(((B1.oth (by omega)).oth (by omega)).oth (by omega)).oth (by omega), by simp [gI]; rfl, by simp [gI]; rfl, by simp [gI]; rfl, by simp [gI, dn]; rfl, ⟨rfl, fun _ => by omega⟩, fun k hk => by simp at hk⟩
  have C1 : tCo σ1 tk n tx (-1) (-1) nm nF := ⟨T1, e18, Or.inl ⟨rfl, rfl⟩, by rw [← hnm]; funext j; exact (F1 0).2.2.1 15 j (by decide) (by omega), hF, Or.inl ⟨e19, by rw [(F1 0).2.2.2.1 37 (by omega)]; exact h37⟩⟩
  have C2 := tCo_M C1 (F2 0 0 0 0 0)
  have hr := tMo (a1 := tk) (sz := nz n) ho9 (σ0 := stI (stI (stI (stI σ1 0 41 0) 0 42 0) 0 43 0) 0 46 0) (o := o) FU 0 none 0 [] [] [] _ FU 0 0 [] (by unfold FU; omega) ⟨by unfold FU; omega, Nat.zero_le _, hnb, (fun p hp => by cases hp), (fun q => by omega), C2, M2, by simp, Nat.zero_le _, Nat.zero_le _, by simp [dn], Nat.zero_le _, Nat.zero_le _⟩ (fun _ => rfl) (fun c hc => by cases hc) GJ_nil (by simp) tMF.rf tOA_nil rfl (fun _ => rfl) trivial GI_nil (fun D _ => rfl)
  have FF : ∀ x, tRG x σ (stI (stI (stI (stI σ1 0 41 0) 0 42 0) 0 43 0) 0 46 0) := fun x => (F1 x).tr (tRG_M (F2 x 0 0 0 0)) (Nat.le_refl _)
  generalize hR : (eb (pMo n tx FU 0 none 0 [] [] []) fun q => wOk q.2.1 (q.2.2.2.1, q.2.2.2.2.1, q.2.2.2.2.2)) = R at hr ⊢
  rcases R with e | q
  · obtain ⟨σ', r1, r2, r3⟩ := hr
    exact ⟨σ', r1, (FF 0).tr r2 (Nat.le_refl _), r3⟩
  · obtain ⟨σ', r1, r2, r3⟩ := hr
    exact ⟨σ', r1, (FF o).tr r2 (Nat.le_refl _), r3⟩
end
