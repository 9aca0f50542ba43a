set_option maxRecDepth 100000
section
variable {tk n : Nat} {tx : Nat → Int32} {nm : Nat → Int32} {nF B : Nat} {sz : Int32} {a1 : Nat}
theorem sk_end {i : Nat} {σ : cS} (T : tTx σ tk n tx) (hi : i ≤ n) (h : pk n tx i = -1) : sk n tx i = n := by
  have hsl := sk_le (n := n) (tx := tx) hi
  unfold pk at h
  split at h
  · next hlt =>
    obtain ⟨a, ha, ea⟩ := (T.2.2.2.2.2.2 _ hlt).2
    rw [ea] at h
    exact absurd h (nz_m1 (by omega))
  · omega
theorem pk_neg {i : Nat} {σ : cS} (T : tTx σ tk n tx) : pk n tx i < 0 ↔ pk n tx i = -1 := by
  constructor
  · intro h
    unfold pk at h ⊢
    split at h
    · next hlt =>
      obtain ⟨a, ha, ea⟩ := (T.2.2.2.2.2.2 _ hlt).2
      rw [ea, show (0 : Int32) = nz 0 from rfl, nz_lt (by omega) (by omega)] at h
      omega
    · next hlt => rw [if_neg hlt]
  · intro h; rw [h]; decide
/-- a question was read -/
def tWQ (σ : cS) (tk n : Nat) (tx : Nat → Int32) (tr : Sy → Int32 × Int32) (o : Nat) (y : List Sy) (r : List Int32) : Prop := tTx σ tk n tx ∧ tOA σ o (y.map tr ++ [(15, 0)]) ∧ σ.1 0 11 = nz (o + y.length + 1) ∧ tGP σ n tx r
def tQR (σ0 : cS) (tk n : Nat) (tx : Nat → Int32) (tr : Sy → Int32 × Int32) (o : Nat) (x : Option (Int32 × cS)) (r : Except Nat (List Sy × List Int32)) : Prop := match r with
  | .error e => ∃ σ', x = some (0, σ') ∧ tRG 0 σ0 σ' ∧ tFt σ' e
  | .ok q => ∃ σ', x = some (1, σ') ∧ tRG o σ0 σ' ∧ tWQ σ' tk n tx tr o q.1 q.2 ∧ ∀ j, σ'.1 22 j = σ0.1 22 j
theorem tBegin_o {σ σ1 : cS} {tk : Nat} {sz : Int32} (h1 : twLa tk = (2, 1000)) (h : fX11_beginText tk sz σ = some ((), σ1)) : ∀ o j, o ≠ 0 → σ1.1 o j = σ.1 o j := by
  unfold fX11_beginText at h
  rw [h1, ck_t (by decide)] at h
  have e : σ1 = stI (stI (stI (stI (stI (stI (stI (stI (stR σ 0 4 (some tk)) 0 5 sz) 0 6 0) 0 7 (-1)) 0 8 (-1)) 0 26 0) 0 16 0) 0 18 (-1)) 0 19 (-1) := (congrArg Prod.snd (Option.some.inj h)).symm
  intro o j ho
  rw [e]
  simp [gI, ho, gR_I]
theorem tRdQ {σ : cS} {o : Nat} (h : tSrc σ tk n tx) (hnb : nbr n tx 0 ≤ 400) (ho : σ.1 0 11 = nz o) (ho9 : o ≤ 9000) (hnm : σ.1 15 = nm) (hF : nF ≤ 400) (h37 : σ.1 0 37 = nz nF) : tQR σ tk n tx (trS (-1) nm nF) o (fX11_readQuestion tk (nz n) σ) (rdQ n tx) := by
  obtain ⟨σ1, h1, T1, B1, e18, e19, F1⟩ := tBegin h ho
  have hn6 := h.2.2.2.1
  have E1 := tBegin_o h.1 h1
  have C1 : tCo σ1 tk n tx (-1) (-1) nm nF := ⟨T1, e18, Or.inl ⟨rfl, rfl⟩, by rw [← hnm]; funext j; exact (F1 0).2.2.1 15 j (by decide) (by omega), hF, Or.inl ⟨e19, by rw [(F1 0).2.2.2.1 37 (by omega)]; exact h37⟩⟩
  unfold fX11_readQuestion rdQ
  rw [h.1, ck_t (by decide), h1, bd_s]
  have hN := pSum_n (n := n) (tx := tx) (own := -1) (i := 0) (w := none) (Nat.zero_le _)
  rcases tReadE (i := 0) ho9 C1 B1 (Nat.zero_le _) (fun p hp => by cases hp) (by omega) (by omega) hnb with ⟨e, h1, σ', r1, r2, r3, o', r4, r5⟩ | ⟨q, h1, σ5, g', r1, r2, r3, r4, r5, r6, r7, r8⟩
  · rw [h1] at hN
    have hN : e ≤ n := hN
    rw [h1, r1, bd_s, tPut r5 (by omega), bd_s, if_pos rfl]
    have hF : tFt (stO σ' o' 15 0) e := ⟨by omega, Or.inl (by simpa [stO, gI] using r2.1)⟩
    rw [tWell0 hF, bd_s, ck_t (by decide)]
    exact ⟨_, rfl, (F1 0).tr ((tRG.rf.tr (tRG_M (tMF_E (b0 := 0) (c0 := 0) (d0 := 0) r3)) (Nat.zero_le _)).tr (tRG_M (g0 := 0) (b0 := 0) (c0 := 0) (d0 := 0) (tMF_O (Nat.zero_le _))) (Nat.le_refl _)) (Nat.le_refl _), hF⟩
  · obtain ⟨f1, f2, f3, f4, f5, f6⟩ := pSum_facts (Nat.zero_le _) h1
    rw [h1, r1, bd_s, tPut r2.od (by omega), bd_s, if_neg (by decide)]
    simp only [eb]
    have B5 := r2.put 15 0
    have F5 : ∀ x y z, tMF (o + q.2.2.2.2.length) g' x y z σ5 (stO σ5 (o + q.2.2.2.2.length) 15 0) := fun x y z => tMF_O (Nat.le_refl _)
    have T5 := tTx_M (tTx_M T1 (tMF_E (b0 := 0) (c0 := 0) (d0 := 0) r3)) (F5 0 0 0)
    have O5 : tOA (stO σ5 (o + q.2.2.2.2.length) 15 0) o (q.2.2.2.2.map (trS (-1) nm nF) ++ [(15, 0)]) := by
      refine tOA_app (tOA_M r4 (F5 0 0 0) (by simp)) ?_
      rw [List.length_map]; exact tOA_one
    have hsm : gSm 0 g' σ5 (stO σ5 (o + q.2.2.2.2.length) 15 0) := gSm_M (F5 0 0 0) (Nat.le_refl _)
    have G5 := r7.sm hsm
    have P5 := r8.sm hsm
    have FT : tRG o σ (stO σ5 (o + q.2.2.2.2.length) 15 0) := (F1 o).tr ((tRG_M (tMF_E (b0 := 0) (c0 := 0) (d0 := 0) r3)).tr (tRG_M (F5 0 0 0)) (by omega)) (Nat.le_refl _)
    have E6 : ∀ j, (stO σ5 (o + q.2.2.2.2.length) 15 0).1 22 j = σ.1 22 j := fun j => by
      rw [← E1 22 j (by decide), ← r3.2.1 22 j (by decide) (by omega)]
      simp [stO, gI]
    generalize stO σ5 (o + q.2.2.2.2.length) 15 0 = σ6 at B5 F5 T5 O5 G5 P5 FT E6 ⊢
    rw [tLook T5 B5.at f2, bd_s]
    have B7 := B5.go (sk n tx q.1)
    have F7 : ∀ a b c d e, tMF a b c d e σ6 (stI σ6 0 6 (nz (sk n tx q.1))) := fun a b c d e => tMF_I (by omega)
    have FT7 : tRG o σ (stI σ6 0 6 (nz (sk n tx q.1))) := FT.tr (tRG_M (F7 o 0 0 0 0)) (Nat.le_refl _)
    by_cases hc : pk n tx q.1 = -1
    · rw [if_pos ((pk_neg T5).mpr hc), if_pos hc]
      have hskn := sk_end T5 f2 hc
      cases hw : q.2.1 with
      | none =>
        rw [hw] at B7
        rw [tWell1 B7.wr B7.fa, bd_s, ck_t (by decide)]
        refine ⟨_, rfl, FT7, ⟨tTx_M T5 (F7 0 0 0 0 0), tOA_M O5 (F7 (o + (q.2.2.2.2.length + 1)) 0 0 0 0) (by simp), B7.od, ?_⟩, fun j => by rw [gI, if_neg (by decide)]; exact E6 j⟩
        refine tGP_M (o0 := 0) (b0 := 0) (c0 := 0) (d0 := 0) B5.gr B7.gr (by omega) (G5.wk (Nat.le_refl _) (by omega)) ?_ (F7 0 g' 0 0 0) (Nat.le_refl _)
        intro D hD
        obtain ⟨f, hf⟩ := P5 D (hD.sub (Nat.le_refl _) (by omega))
        rw [hf, out_end (Nat.le_refl n), out_sk (i := q.1) (fun y y1 y2 => by rw [hD y (by omega) (by omega), (sk_blank y1 y2).2]; rfl), out_end (by omega)]
      | some p =>
        have hp : p < n := f5.1 (fun p hp => by cases hp) p hw
        have hF : tFt (stI σ6 0 6 (nz (sk n tx q.1))) p := ⟨by omega, Or.inr ⟨B7.wr, by rw [B7.fa, hw]; rfl⟩⟩
        rw [tWell0 hF, bd_s, ck_t (by decide)]
        exact ⟨_, rfl, tRG.rf.tr FT7 (Nat.zero_le _), hF⟩
    · have hsl := sk_le (n := n) (tx := tx) f2
      rw [if_neg (fun z => hc ((pk_neg T5).mp z)), if_neg hc, tStops B7.wr B7.at, bd_s]
      have hF : tFt (stI (stI σ6 0 6 (nz (sk n tx q.1))) 0 7 (nz (sk n tx q.1))) (sk n tx q.1) := ⟨by omega, Or.inl (by simp [gI])⟩
      rw [tWell0 hF, bd_s, ck_t (by decide)]
      exact ⟨_, rfl, tRG.rf.tr (FT7.tr (tRG_M (o0 := o) (g0 := 0) (b0 := 0) (c0 := 0) (d0 := 0) (tMF_I (by omega))) (Nat.le_refl _)) (Nat.zero_le _), hF⟩
end
