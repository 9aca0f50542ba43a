set_option maxRecDepth 100000
section
variable {n : Nat} {tx : Nat → Int32}
theorem pSum_m {own : Int32} {i : Nat} {w : Option Nat} {q : ET} (h : pSum n tx own i w = .ok q) : wM w q.2.1 := (pE_m own DE).1 _ _ _ _ _ h
theorem pAs_m {v : Int32} {p : Nat} {w : Option Nat} {st : Nat} {ch : List Int32} {q : ST} (h : pAs n tx v p w st ch = .ok q) : wM w q.2.1 := by
  unfold pAs at h
  split at h
  · obtain ⟨a, e1, h⟩ := eb_ok h
    obtain ⟨b, e2, h⟩ := eb_ok h
    have z := pSum_m e1
    cases h; exact z
  · split at h
    · obtain ⟨a, e1, h⟩ := eb_ok h
      obtain ⟨b, e2, h⟩ := eb_ok h
      cases h; exact wM_ntb
    · split at h
      · obtain ⟨a, e1, h⟩ := eb_ok h
        obtain ⟨b, e2, h⟩ := eb_ok h
        cases h; exact wM_ntb.tr wM_ntb
      · cases h
theorem pBlp_m {R : Nat → Nat → Option Nat → Nat → Nat → List Int32 → SR} {dep : Nat} {cb : Nat} (hR : ∀ dep i w st cb ch q, R dep i w st cb ch = .ok q → wM w q.2.1) :
    ∀ (k i : Nat) (w : Option Nat) (st : Nat) (C : List Cd) (ch r : List Int32) (q : ST), pBlp n tx R dep k i w st cb C ch r = .ok q → wM w q.2.1 := by
  intro k
  induction k with
  | zero => intro i w st C ch r q h; cases h
  | succ k ih =>
    intro i w st C ch r q h
    unfold pBlp at h
    split at h
    · cases h; exact wM.rf
    · obtain ⟨q1, e1, e2⟩ := eb_ok h
      exact (hR _ _ _ _ _ _ _ e1).tr (ih _ _ _ _ _ _ _ e2)
theorem pS_m : ∀ d, (∀ dep i w st cb ch q, (pS n tx d).1 dep i w st cb ch = .ok q → wM w q.2.1) ∧ (∀ dep i w st cb ch q, (pS n tx d).2 dep i w st cb ch = .ok q → wM w q.2.1) := by
  intro d
  induction d with
  | zero => exact ⟨fun _ _ _ _ _ _ _ h => (by cases h), fun _ _ _ _ _ _ _ h => (by cases h)⟩
  | succ d ih =>
    obtain ⟨ihS, ihB⟩ := ih
    refine ⟨?_, ?_⟩
    · intro dep i w st cb ch q h
      have h : pSt n tx (pS n tx d).2 dep i w st cb ch = .ok q := h
      unfold pSt at h
      split at h
      · exact wM_ntb.tr (pAs_m h)
      · split at h
        · obtain ⟨a, e1, h⟩ := eb_ok h
          obtain ⟨b, e2, h⟩ := eb_ok h
          have z := pSum_m e1
          cases h; exact wM_ntb.tr z
        · split at h
          · obtain ⟨a, e1, h⟩ := eb_ok h
            obtain ⟨b, e2, h⟩ := eb_ok h
            have z := pSum_m e1
            have y := ihB _ _ _ _ _ _ _ e2
            cases h; exact (wM_ntb.tr z).tr y
          · split at h
            · obtain ⟨a, e1, h⟩ := eb_ok h
              obtain ⟨b, e2, h⟩ := eb_ok h
              have z := pSum_m e1
              have y := ihB _ _ _ _ _ _ _ e2
              split at h
              · obtain ⟨c, e3, h⟩ := eb_ok h
                have x := ihB _ _ _ _ _ _ _ e3
                cases h; exact ((wM_ntb.tr z).tr y).tr x
              · cases h; exact (wM_ntb.tr z).tr y
            · cases h
    · intro dep i w st cb ch q h
      obtain ⟨j, e1, e2⟩ := eb_ok (show eb (pTk n tx 123 i) _ = .ok q from h)
      exact wM_ntb.tr (pBlp_m ihS _ _ _ _ _ _ _ _ e2)
end
section
variable {tk n : Nat} {tx : Nat → Int32} {nm : Nat → Int32} {nF B : Nat} {sz : Int32} {a1 : Nat}
def tMR (B a1 : Nat) (sz : Int32) (n : Nat) (tx : Nat → Int32) (nm : Nat → Int32) (nF : Nat) (σ : cS) (cb i o g b nc dm f : Nat) (x : Option (Int32 × cS)) (r : SR) : Prop := match r with
  | .error e => ∃ f' σ', x = fX11_readModel_31 a1 sz (f' + 1) 0 1 σ' ∧ σ'.1 0 7 = nz e ∧ tMF o g b nc (3 * dm) σ σ' ∧ ∃ o', o' ≤ 10810 ∧ σ'.1 0 11 = nz o'
  | .ok q => ∃ f' σ' g' nc' E, x = fX11_readModel_31 a1 sz f' 1 1 σ' ∧ f + nbr n tx q.1 ≤ f' + nbr n tx i ∧ tMS σ' q.1 q.2.1 (o + E.length) g' b q.2.2.1 nc' (dm + dn q.2.2.2.1) q.2.2.2.2.1 ∧ tMF o g b nc (3 * dm) σ σ' ∧ tOA σ' o E ∧ E.length = osum q.2.2.2.1 ∧ (q.2.1 = none → E = CM (trS (-1) nm nF) o cb dm q.2.2.2.1) ∧ tDn σ' dm q.2.2.2.1 ∧ g ≤ g' ∧ g' ≤ q.1 ∧ GI σ' g g' i q.1 ∧ PF n tx σ' g g' i q.1 q.2.2.2.2.2 ∧ nc ≤ nc' ∧ 2 * nc' ≤ q.1 ∧ 3 * (dm + dn q.2.2.2.1) ≤ q.1 ∧ o + E.length ≤ B + 3 * q.1
def tMH (B tk n : Nat) (tx : Nat → Int32) (nm : Nat → Int32) (nF : Nat) (σ : cS) (i : Nat) (w : Option Nat) (o g b st nc dm : Nat) (ch : List Int32) (f : Nat) : Prop :=
  nbr n tx i + 2 ≤ f ∧ i ≤ n ∧ nbr n tx i ≤ 400 ∧ wG n w ∧ bW b w i ∧ tCo σ tk n tx (-1) (-1) nm nF ∧ tMS σ i w o g b st nc dm ch ∧ o ≤ B + 3 * i ∧ g ≤ i ∧ 2 * nc ≤ i ∧ 3 * dm ≤ i ∧ 2 * b ≤ i ∧ st ≤ i
/-- what is read in a block, up to its } at ib -/
def tBR (B a1 : Nat) (sz : Int32) (n : Nat) (tx : Nat → Int32) (nm : Nat → Int32) (nF : Nat) (σ : cS) (cb i o g b nc dm f : Nat) (x : Option (Int32 × cS)) (r : SR) : Prop := match r with
  | .error e => ∃ f' σ', x = fX11_readModel_31 a1 sz (f' + 1) 0 1 σ' ∧ σ'.1 0 7 = nz e ∧ tMF o g b nc (3 * dm) σ σ' ∧ ∃ o', o' ≤ 10810 ∧ σ'.1 0 11 = nz o'
  | .ok q => ∃ f' σ' g' nc' E ib rb, x = fX11_readModel_31 a1 sz f' 1 1 σ' ∧ f + nbr n tx ib ≤ f' + nbr n tx i ∧ ib ≤ n ∧ i ≤ ib ∧ pk n tx ib = 125 ∧ q.1 = sk n tx ib + 1 ∧ tMS σ' ib q.2.1 (o + E.length) g' b q.2.2.1 nc' (dm + dn q.2.2.2.1) q.2.2.2.2.1 ∧ tMF o g b nc (3 * dm) σ σ' ∧ tOA σ' o E ∧ E.length = osum q.2.2.2.1 ∧ (q.2.1 = none → E = CM (trS (-1) nm nF) o cb dm q.2.2.2.1) ∧ tDn σ' dm q.2.2.2.1 ∧ g ≤ g' ∧ g' ≤ ib ∧ GI σ' g g' i ib ∧ PF n tx σ' g g' i ib rb ∧ q.2.2.2.2.2 = 123 :: (rb ++ [125]) ∧ nc ≤ nc' ∧ 2 * nc' ≤ ib ∧ 3 * (dm + dn q.2.2.2.1) ≤ ib ∧ o + E.length ≤ B + 3 * ib ∧ q.2.2.1 ≤ ib
theorem tBlp (hB : B ≤ 9000) {R : Nat → Nat → Option Nat → Nat → Nat → List Int32 → SR} {dep i0 : Nat}
    (hF : ∀ dep i w st cb ch q, i ≤ n → R dep i w st cb ch = .ok q → GS n tx i w st cb ch q) (hM : ∀ dep i w st cb ch q, R dep i w st cb ch = .ok q → wM w q.2.1)
    (hR : ∀ σ i w o g st nc dm ch cb f, tMH B tk n tx nm nF σ i w o g (dep + 1) st nc dm ch f → nbr n tx i ≤ nbr n tx i0 → cb ≤ 2 * st → pk n tx i ≠ 125 → tMR B a1 sz n tx nm nF σ cb i o g (dep + 1) nc dm f (fX11_readModel_31 a1 sz f 1 1 σ) (R (dep + 1) i w st cb ch))
    {σ0 : cS} {o g nc dm f0 cb st0 : Nat} (hcb : cb ≤ 2 * st0) :
    ∀ (kf i : Nat) (w : Option Nat) (st : Nat) (C : List Cd) (ch rr : List Int32) (σ : cS) (f g1 nc1 : Nat) (E : List (Int32 × Int32)),
      st0 ≤ st → nbr n tx i < kf → i0 ≤ i → tMH B tk n tx nm nF σ i w (o + E.length) g1 (dep + 1) st nc1 (dm + dn C) ch f → (∀ c ∈ C, cdV c) → GJ cb C → C.length ≤ 2 * (st - st0) → tMF o g (dep + 1) nc (3 * dm) σ0 σ → tOA σ o E → E.length = osum C → (w = none → E = CM (trS (-1) nm nF) o cb dm C) → tDn σ dm C → g ≤ g1 → GI σ g g1 i0 i → PF n tx σ g g1 i0 i rr → nc ≤ nc1 → f0 + nbr n tx i ≤ f + nbr n tx i0 →
      tBR B a1 sz n tx nm nF σ0 cb i0 o g (dep + 1) nc dm f0 (fX11_readModel_31 a1 sz f 1 1 σ) (pBlp n tx R dep kf i w st cb C ch (123 :: rr)) := by
  intro kf
  induction kf with
  | zero => intro i w st C ch rr σ f g1 nc1 E h0 h; omega
  | succ kf ih =>
    intro i w st C ch rr σ f g1 nc1 E hs0 hk hii H hv hJ hCl hF0 hO hEl hEc hD hgg hG hP hncn hff
    have H0 := H
    obtain ⟨b1, b2, b3, b4, b5, b6, b7, b8, b9, b10, b11, b12, b13⟩ := H
    have hn6 : n ≤ 600 := b6.1.2.2.2.2.2.1
    have hsg := sk_ge (n := n) (tx := tx) i
    have hsl := sk_le (n := n) (tx := tx) b2
    have hns := nbr_sk (n := n) (tx := tx) i
    unfold pBlp
    by_cases hc : pk n tx i = 125
    · rw [if_pos hc]
      refine ⟨f, σ, g1, nc1, E, i, rr, rfl, hff, b2, hii, hc, rfl, b7, hF0, hO, hEl, hEc, hD, hgg, b9, hG, hP, by simp, hncn, b10, b11, b8, b13⟩
    · rw [if_neg hc]
      -- blanks ahead of a statement
      have hsame : fX11_readModel_31 a1 sz f 1 1 σ = fX11_readModel_31 a1 sz f 1 1 (stI σ 0 6 (nz (sk n tx i))) := by
        obtain ⟨f, rfl⟩ : ∃ e, f = e + 1 := ⟨f - 1, by omega⟩
        have M1 := b7.go (sk n tx i)
        have T1 := b6.1.at (nz (sk n tx i))
        rw [rM_st f b6.1 b7 b2 (by omega) (by omega) (fun q => absurd q hc) (fun _ => Or.inl (by omega)), rM_st f T1 M1 hsl (by omega) (by omega) (fun q => absurd (by rw [pk_sk] at q; exact q) hc) (fun _ => Or.inl (by omega)), pk_sk, sk_sk, stI_stI]
      have F1 : ∀ x y z t u, tMF x y z t u σ (stI σ 0 6 (nz (sk n tx i))) := fun x y z t u => tMF_I (by omega)
      have H1 : tMH B tk n tx nm nF (stI σ 0 6 (nz (sk n tx i))) (sk n tx i) w (o + E.length) g1 (dep + 1) st nc1 (dm + dn C) ch f := ⟨by omega, hsl, by omega, b4, bW_m b5 wM.rf hsg, tCo_M b6 (F1 0 0 0 0 0), b7.go _, by omega, by omega, by omega, by omega, by omega, by omega⟩
      have hr := hR _ _ _ _ _ _ _ _ _ (cb + C.length) _ H1 (by have := nbr_mono (n := n) (tx := tx) hii; omega) (by omega) (by rw [pk_sk]; exact hc)
      rw [hsame]
      rcases hq : R (dep + 1) (sk n tx i) w st (cb + C.length) ch with e | q
      · rw [hq] at hr
        obtain ⟨f', σ', r1, r2, r3, r4⟩ := hr
        exact ⟨f', σ', r1, r2, (hF0.tq (F1 _ _ _ _ _)).tr r3 (by omega) hgg (Nat.le_refl _) hncn (by omega), r4⟩
      · rw [hq] at hr
        obtain ⟨f', σ', g', nc', E', r1, r2, r3, r4, r5, r6, r7, r8, r9, r10, r11, r12, r13, r14, r15, r16⟩ := hr
        obtain ⟨⟨c1, c2, c3, c4, c5, c6, c7, c8, c9, c10, c11, c12, c13⟩, c14, c15, c16⟩ := hF _ _ _ _ _ _ _ hsl hq
        have hwm := hM _ _ _ _ _ _ _ hq
        rw [r1]
        simp only [eb]
        have hnd := nbr_diffA (n := n) (tx := tx) (i := sk n tx i) (j := q.1) (by omega)
        have hsm : gSm g g1 σ σ' := fun a x a1 a2 x1 x2 => (r4.2.2.2.2.1 a x a1 a2 x2).trans ((F1 0 g1 0 0 0).2.2.2.2.1 a x a1 a2 x2)
        refine ih q.1 q.2.1 q.2.2.1 (C ++ q.2.2.2.1) q.2.2.2.2.1 (rr ++ q.2.2.2.2.2) σ' f' g' nc' (E ++ E') (by omega) (by omega) (by omega) ⟨by omega, c2, by omega, c8.1 b4, bW_m b5 hwm (by omega), tCo_M b6 ((F1 0 0 0 0 0).tr r4 (by omega) (by omega) (by omega) (by omega) (by omega)), ?_, ?_, r10, r14, ?_, by omega, by omega⟩ ?_ (GJ_app hJ c10) ?_ ((hF0.tq (F1 _ _ _ _ _)).tr r4 (by omega) hgg (Nat.le_refl _) hncn (by omega)) ?_ ?_ ?_ ?_ (by omega) ?_ ?_ (by omega) (by omega)
        · rw [List.length_append, dn_app, ← Nat.add_assoc, ← Nat.add_assoc]; exact r3
        · rw [List.length_append, ← Nat.add_assoc]; exact r16
        · rw [dn_app, ← Nat.add_assoc]; exact r15
        · intro c hc
          simp only [List.mem_append] at hc
          exact hc.elim (hv c) (c9 c)
        · rw [List.length_append]; omega
        · exact tOA_app (tOA_M (tOA_M hO (F1 (o + E.length) 0 0 0 0) (Nat.le_refl _)) r4 (Nat.le_refl _)) r5
        · rw [List.length_append, osum_app, hEl, r6]
        · intro hn
          rw [CM_app hJ c10 hv c9 (by omega), ← hEc (c8.2 hn), r7 hn, hEl]
        · refine tDn_app C (tDn_M r4 C (tDn_M (F1 0 0 0 0 (3 * (dm + dn C))) C hD (Nat.le_refl _)) (Nat.le_refl _)) r8
        · exact ((hG.sm hsm).wk (Nat.le_refl _) (by omega)).app (r11.wk (by omega) (Nat.le_refl _))
        · have hP1 : PF n tx σ' g g1 i0 (sk n tx i) rr := by
            intro D hD
            rw [(hP.sm hsm) D (hD.sub (Nat.le_refl _) hsg), out_sk (i := i) (fun y y1 y2 => by rw [hD y (by omega) y2, (sk_blank y1 y2).2]; rfl)]
          exact PF_app hgg r9 (by omega) (by omega) (by omega) ((hG.sm hsm).wk (Nat.le_refl _) hsg) r11 hP1 r12
end
