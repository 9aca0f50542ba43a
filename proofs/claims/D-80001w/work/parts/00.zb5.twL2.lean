set_option maxRecDepth 100000
section
variable {tk n : Nat} {tx : Nat → Int32} {B : Nat}
/-- what reading a function gives -/
def tFR (n : Nat) (tx : Nat → Int32) (σ : cS) (i o g nF : Nat) (x : Option (Int32 × cS)) (r : Except Nat (Nat × Option Nat × Fn × List Int32)) : Prop := match r with
  | .error e => ∃ σ', x = some (0, σ') ∧ σ'.1 0 7 = nz e ∧ σ'.1 0 6 = nz e ∧ tLF 0 0 0 σ σ'
  | .ok q => ∃ σ' g', x = some (1, σ') ∧ tB σ' q.1 q.2.1 (o + q.2.2.1.2.2.length + 1) g' ∧ σ'.1 0 37 = nz (nF + 1) ∧ tLF o g nF σ σ' ∧ σ'.1 15 nF = q.2.2.1.1 - 65 ∧ σ'.1 16 nF = q.2.2.1.2.1 ∧ σ'.1 17 nF = nz o ∧ tOA σ' o (q.2.2.1.2.2.map (trS q.2.2.1.2.1 (σ'.1 15) nF) ++ [(6, 0)]) ∧ g ≤ g' ∧ g' ≤ q.1 ∧ GI σ' g g' i q.1 ∧ PF n tx σ' g g' i q.1 q.2.2.2
theorem tLF0 {o0 g0 nF : Nat} {σ σ' : cS} (h : tLF o0 g0 nF σ σ') : tLF 0 0 0 σ σ' := tLF.rf.tr h (Nat.zero_le _) (Nat.zero_le _) (Nat.zero_le _)
theorem tFn {σ : cS} {i : Nat} {w : Option Nat} {o g : Nat} {F : List Fn} (hB : B ≤ 9000) (T : tTx σ tk n tx) (h : tB σ i w o g) (hi : i ≤ n) (hwg : wG n w) (ho : o ≤ B + 3 * i) (hg : g ≤ i) (hnb : nbr n tx i ≤ 400) (hFl : F.length < 400) (h37 : σ.1 0 37 = nz F.length) (hF : ∀ j, j < F.length → ∀ g, F[j]? = some g → σ.1 15 j = g.1 - 65) :
    tFR n tx σ i o g F.length (fX11_readFunction σ) (pFn n tx i w F) := by
  have hn6 : n ≤ 600 := T.2.2.2.2.2.1
  have hsg := sk_ge (n := n) (tx := tx) i
  have hsl := sk_le (n := n) (tx := tx) hi
  unfold fX11_readFunction pFn pLe
  have B1 := h.go (sk n tx i)
  have F1 : ∀ a b c d e, tMF a b c d e σ (stI σ 0 6 (nz (sk n tx i))) := fun a b c d e => tMF_I (by omega)
  rw [tLook T h.at hi, bd_s, tNam, bd_s, i10]
  by_cases c1 : isI (pk n tx i) 65 90 = true
  case neg =>
    rw [if_neg c1, if_neg c1, tStops B1.wr B1.at, bd_s, ck_t (by decide)]
    exact ⟨_, rfl, by simp [gI], by simp [gI], tLF_M ((F1 0 0 0 0 0).tq (tMF_I (by omega)))⟩
  obtain ⟨a, ha1, ha2, ea⟩ := isI_lo7 (a := 65) (b := 90) c1 (by omega) (by omega)
  have hne : pk n tx i ≠ -1 := by rw [ea]; exact nz_m1 (by omega)
  obtain ⟨hlt, etx⟩ := pkc_ne hne
  have htk := nbr_tk (n := n) (tx := tx) (i := i) hlt
  have hns := nbr_sk (n := n) (tx := tx) i
  have hxc : isI (pk n tx i) 48 57 = false ∧ bl (pk n tx i) = false := by
    rw [ea]
    refine ⟨?_, ?_⟩
    · unfold isI
      rw [show ((48 : Int32)) = nz 48 from rfl, show ((57 : Int32)) = nz 57 from rfl, decide_eq_true (by rw [nz_le (by omega) (by omega)]; omega), decide_eq_false (by rw [nz_le (by omega) (by omega)]; omega)]; rfl
    · unfold bl
      rw [show ((32 : Int32)) = nz 32 from rfl, show ((10 : Int32)) = nz 10 from rfl, decide_eq_false (by rw [nz_inj (by omega) (by omega)]; omega), decide_eq_false (by rw [nz_inj (by omega) (by omega)]; omega)]; rfl
  rw [if_pos c1, if_pos c1, B1.at, show (0 : Int32) = nz 0 from rfl, tF24 (F := F) hn6 hlt F.length 0 FU _ w true (by omega) (by omega) (by omega) (by unfold FU; omega) hwg B1.fa (by simpa [gI] using h37) (fun j hj g hg => by simpa [gI] using hF j hj g hg), List.drop_zero]
  simp only [eb]
  generalize hw1 : ntb (decide (12 ≤ F.length) || F.any (fun g => decide (g.1 = pk n tx i))) w (sk n tx i) = w1
  have hwg1 : wG n w1 := by rw [← hw1]; exact wG_ntb hwg hlt
  have B2 := B1.sFa w1
  have F2 : ∀ a b c d e, tMF a b c d e σ (stI (stI σ 0 6 (nz (sk n tx i))) 0 8 (ow w1)) := fun a b c d e => (F1 a b c d e).tq (tMF_I (by omega))
  generalize stI (stI σ 0 6 (nz (sk n tx i))) 0 8 (ow w1) = σ2 at B2 F2 ⊢
  unfold fX11_readFunction_70
  have B3 := B2.go (sk n tx i + 1)
  have F3 : ∀ a b c d e, tMF a b c d e σ (stI σ2 0 6 (nz (sk n tx i + 1))) := fun a b c d e => (F2 a b c d e).tq (tMF_I (by omega))
  rw [wI_e, B2.at, nz_s]
  generalize stI σ2 0 6 (nz (sk n tx i + 1)) = σ3 at B3 F3 ⊢
  -- (
  rcases tTake 40 (by decide) (tTx_M T (F3 0 0 0 0 0)) B3 (by omega) with ⟨e, t1, t2⟩ | ⟨j, t1, t2⟩
  · rw [t1, t2, bd_s, if_pos rfl]
    exact ⟨_, rfl, by simp [gI], by simp [gI], tLF_M (((F3 0 0 0 0 0).tq (tMF_I (by omega))).tq (tMF_I (by omega)))⟩
  obtain ⟨g1, g2, g3, g4, g5, g6⟩ := pTk_ok (by decide) t1
  have e40 := (pkc_lt g1 (by decide)).2
  rw [t1, t2, bd_s, if_neg (by decide)]
  simp only
  have B4 := B3.go j
  have F4 : ∀ a b c d e, tMF a b c d e σ (stI σ3 0 6 (nz j)) := fun a b c d e => (F3 a b c d e).tq (tMF_I (by omega))
  generalize stI σ3 0 6 (nz j) = σ4 at B4 F4 ⊢
  -- variable
  rw [tLook (tTx_M T (F4 0 0 0 0 0)) B4.at g5, bd_s, tVar, bd_s, i10]
  have B5 := B4.go (sk n tx j)
  have F5 : ∀ a b c d e, tMF a b c d e σ (stI σ4 0 6 (nz (sk n tx j))) := fun a b c d e => (F4 a b c d e).tq (tMF_I (by omega))
  generalize stI σ4 0 6 (nz (sk n tx j)) = σ5 at B5 F5 ⊢
  by_cases c2 : isI (pk n tx j) 97 102 = true
  case neg =>
    rw [if_neg c2, if_neg c2, tStops B5.wr B5.at, bd_s, ck_t (by decide)]
    exact ⟨_, rfl, by simp [gI], by simpa [gI] using B5.at, tLF_M ((F5 0 0 0 0 0).tq (tMF_I (by omega)))⟩
  obtain ⟨b, hb1, hb2, eb'⟩ := isI_lo7 (a := 97) (b := 102) c2 (by omega) (by omega)
  obtain ⟨hltv, etv⟩ := pkc_ne (n := n) (tx := tx) (i := j) (by rw [eb']; exact nz_m1 (by omega))
  have hvc : isI (pk n tx j) 48 57 = false ∧ bl (pk n tx j) = false := by
    rw [eb']
    have : b = 97 ∨ b = 98 ∨ b = 99 ∨ b = 100 ∨ b = 101 ∨ b = 102 := by omega
    rcases this with h | h | h | h | h | h <;> rw [h] <;> decide
  have htv := nbr_tk (n := n) (tx := tx) (i := j) hltv
  have hsj := sk_ge (n := n) (tx := tx) j
  have hv97 : pk n tx j - 97 = nz (b - 97) := by rw [eb']; exact nz_sub (b := 97) hb1
  rw [if_pos c2, if_pos c2, wI_e, B5.at, nz_s]
  simp only
  have B6 := B5.go (sk n tx j + 1)
  have F6 : ∀ a b c d e, tMF a b c d e σ (stI σ5 0 6 (nz (sk n tx j + 1))) := fun a b c d e => (F5 a b c d e).tq (tMF_I (by omega))
  generalize stI σ5 0 6 (nz (sk n tx j + 1)) = σ6 at B6 F6 ⊢
  -- )
  rcases tTake 41 (by decide) (tTx_M T (F6 0 0 0 0 0)) B6 (by omega) with ⟨e, t3, t4⟩ | ⟨j2, t3, t4⟩
  · rw [t3, t4, bd_s, if_pos rfl]
    exact ⟨_, rfl, by simp [gI], by simp [gI], tLF_M (((F6 0 0 0 0 0).tq (tMF_I (by omega))).tq (tMF_I (by omega)))⟩
  obtain ⟨k1, k2, k3, k4, k5, k6⟩ := pTk_ok (by decide) t3
  have e41 := (pkc_lt k1 (by decide)).2
  rw [t3, t4, bd_s, if_neg (by decide)]
  simp only
  have B7 := B6.go j2
  have F7 : ∀ a b c d e, tMF a b c d e σ (stI σ6 0 6 (nz j2)) := fun a b c d e => (F6 a b c d e).tq (tMF_I (by omega))
  generalize stI σ6 0 6 (nz j2) = σ7 at B7 F7 ⊢
  -- =
  rcases tTake 61 (by decide) (tTx_M T (F7 0 0 0 0 0)) B7 (by omega) with ⟨e, t5, t6⟩ | ⟨j3, t5, t6⟩
  · rw [t5, t6, bd_s, if_pos rfl]
    exact ⟨_, rfl, by simp [gI], by simp [gI], tLF_M (((F7 0 0 0 0 0).tq (tMF_I (by omega))).tq (tMF_I (by omega)))⟩
  obtain ⟨l1, l2, l3, l4, l5, l6⟩ := pTk_ok (by decide) t5
  have e61 := (pkc_lt l1 (by decide)).2
  rw [t5, t6, bd_s, if_neg (by decide)]
  simp only
  have B8 := B7.go j3
  have F8 : ∀ a b c d e, tMF a b c d e σ (stI σ7 0 6 (nz j3)) := fun a b c d e => (F7 a b c d e).tq (tMF_I (by omega))
  generalize stI σ7 0 6 (nz j3) = σ8 at B8 F8 ⊢
  have h37' : σ8.1 0 37 = nz F.length := ((F8 0 0 0 0 0).2.2.1 37 (by omega)).trans h37
  have T8 := tTx_M T (F8 0 0 0 0 0)
  have n15 : ∀ (x y : Nat) (v : Int32) (τ : cS), x ≠ 0 → (stI τ x y v).1 0 = τ.1 0 := fun x y v τ hx => by
    funext z; rw [gI, if_neg (fun q => hx q.symm)]
  rw [h37', ck_n (show F.length < 400 by omega) (by omega), nz_tn (by omega), wI_e, n15 _ _ _ _ (by decide), h37', ck_n (show F.length < 400 by omega) (by omega), nz_tn (by omega), wI_e, n15 _ _ _ _ (by decide), n15 _ _ _ _ (by decide), h37', ck_n (show F.length < 400 by omega) (by omega), nz_tn (by omega), B8.od, wI_e, n15 _ _ _ _ (by decide), n15 _ _ _ _ (by decide), n15 _ _ _ _ (by decide), h37', wI_e, wI_e, wI_e]
  have e37 : (stI (stI (stI (stI (stI σ8 15 F.length (pk n tx i - 65)) 16 F.length (pk n tx j - 97)) 17 F.length (nz o)) 0 19 (nz F.length)) 0 18 (pk n tx j - 97)).1 0 37 = nz F.length := by simpa [gI] using h37'
  rw [e37, nz_s]
  have Ba : tB (stI (stI (stI (stI (stI (stI σ8 15 F.length (pk n tx i - 65)) 16 F.length (pk n tx j - 97)) 17 F.length (nz o)) 0 19 (nz F.length)) 0 18 (pk n tx j - 97)) 0 37 (nz (F.length + 1))) j3 w1 o g := (((((B8.oth (by omega)).oth (by omega)).oth (by omega)).oth (by omega)).oth (by omega)).oth (by omega)
  have Fa : tLF o g F.length σ (stI (stI (stI (stI (stI (stI σ8 15 F.length (pk n tx i - 65)) 16 F.length (pk n tx j - 97)) 17 F.length (nz o)) 0 19 (nz F.length)) 0 18 (pk n tx j - 97)) 0 37 (nz (F.length + 1))) :=
    ((((((tLF_M (F8 o g 0 0 0)).tq (tLF_I (by omega))).tq (tLF_I (by omega))).tq (tLF_I (by omega))).tq (tLF_I (by omega))).tq (tLF_I (by omega))).tq (tLF_I (by omega))
  have a37 : (stI (stI (stI (stI (stI (stI σ8 15 F.length (pk n tx i - 65)) 16 F.length (pk n tx j - 97)) 17 F.length (nz o)) 0 19 (nz F.length)) 0 18 (pk n tx j - 97)) 0 37 (nz (F.length + 1))).1 0 37 = nz (F.length + 1) := by simp [gI]
  have a18 : (stI (stI (stI (stI (stI (stI σ8 15 F.length (pk n tx i - 65)) 16 F.length (pk n tx j - 97)) 17 F.length (nz o)) 0 19 (nz F.length)) 0 18 (pk n tx j - 97)) 0 37 (nz (F.length + 1))).1 0 18 = pk n tx j - 97 := by simp [gI]
  have a19 : (stI (stI (stI (stI (stI (stI σ8 15 F.length (pk n tx i - 65)) 16 F.length (pk n tx j - 97)) 17 F.length (nz o)) 0 19 (nz F.length)) 0 18 (pk n tx j - 97)) 0 37 (nz (F.length + 1))).1 0 19 = nz F.length := by simp [gI]
  have x15 : (stI (stI (stI (stI (stI (stI σ8 15 F.length (pk n tx i - 65)) 16 F.length (pk n tx j - 97)) 17 F.length (nz o)) 0 19 (nz F.length)) 0 18 (pk n tx j - 97)) 0 37 (nz (F.length + 1))).1 15 F.length = pk n tx i - 65 := by simp [gI]
  have x16 : (stI (stI (stI (stI (stI (stI σ8 15 F.length (pk n tx i - 65)) 16 F.length (pk n tx j - 97)) 17 F.length (nz o)) 0 19 (nz F.length)) 0 18 (pk n tx j - 97)) 0 37 (nz (F.length + 1))).1 16 F.length = pk n tx j - 97 := by simp [gI]
  have x17 : (stI (stI (stI (stI (stI (stI σ8 15 F.length (pk n tx i - 65)) 16 F.length (pk n tx j - 97)) 17 F.length (nz o)) 0 19 (nz F.length)) 0 18 (pk n tx j - 97)) 0 37 (nz (F.length + 1))).1 17 F.length = nz o := by simp [gI]
  generalize stI (stI (stI (stI (stI (stI σ8 15 F.length (pk n tx i - 65)) 16 F.length (pk n tx j - 97)) 17 F.length (nz o)) 0 19 (nz F.length)) 0 18 (pk n tx j - 97)) 0 37 (nz (F.length + 1)) = σa at Ba Fa a37 a18 a19 x15 x16 x17 ⊢
  have Ta := tTx_L T Fa
  have Ca : tCo σa tk n tx (pk n tx j) (pk n tx j - 97) (σa.1 15) F.length := ⟨Ta, a18, Or.inr ⟨b - 97, by omega, by rw [eb']; congr 1; omega, hv97⟩, rfl, by omega, Or.inr a19⟩
  rcases tReadE (i := j3) hB Ca Ba l5 hwg1 (by omega) (by omega) (by omega) with ⟨e, h1, σ', r1, r2, r3, o', r4, r5⟩ | ⟨q, h1, σb, g', r1, r2, r3, r4, r5, r6, r7, r8⟩
  · rw [h1, r1, bd_s, tPut r5 (by omega), bd_s, if_pos rfl]
    exact ⟨_, rfl, by simpa [stO, gI] using r2.1, by simpa [stO, gI] using r2.2, (tLF0 Fa).tq ((tLF0 (tLF_M (nF := 0) (tMF_E (b0 := 0) (c0 := 0) (d0 := 0) r3))).tq (tLF_O (Nat.zero_le _)))⟩
  obtain ⟨f1, f2, f3, f4, f5, f6⟩ := pSum_facts l5 h1
  have hnd := nbr_diffA (n := n) (tx := tx) (i := j3) (j := q.1) (by omega)
  rw [h1, r1, bd_s, tPut r2.od (by omega), bd_s, if_neg (by decide)]
  simp only
  have Mb : tMF o g 0 0 0 σa σb := tMF_E r3
  have Bc := r2.put 6 0
  have Mc : ∀ x, tMF (o + q.2.2.2.2.length) x 0 0 0 σb (stO σb (o + q.2.2.2.2.length) 6 0) := fun x => tMF_O (Nat.le_refl _)
  have Oc : ∀ nm', nm' = σa.1 15 → tOA (stO σb (o + q.2.2.2.2.length) 6 0) o (q.2.2.2.2.map (trS (pk n tx j - 97) nm' F.length) ++ [(6, 0)]) := by
    intro nm' hnm
    rw [hnm]
    refine tOA_app (tOA_M r4 (Mc 0) (by simp)) ?_
    rw [List.length_map]; exact tOA_one
  have hsm : gSm g g' σb (stO σb (o + q.2.2.2.2.length) 6 0) := gSm_M (Mc g') (Nat.le_refl _)
  have Gc := r7.sm hsm
  have Pc := r8.sm hsm
  have Mac : tMF o g 0 0 0 σa (stO σb (o + q.2.2.2.2.length) 6 0) := Mb.tr (Mc g) (by omega) (Nat.le_refl _) (Nat.le_refl _) (Nat.le_refl _) (Nat.le_refl _)
  generalize stO σb (o + q.2.2.2.2.length) 6 0 = σc at Bc Mc Oc Gc Pc Mac ⊢
  rcases tTake 59 (by decide) (tTx_M Ta Mac) Bc f2 with ⟨e, t7, t8⟩ | ⟨j4, t7, t8⟩
  · rw [t7, t8, bd_s, if_pos rfl]
    exact ⟨_, rfl, by simp [gI], by simp [gI], (tLF0 Fa).tq (((tLF0 (tLF_M (nF := 0) Mac)).tq (tLF_I (by omega))).tq (tLF_I (by omega)))⟩
  obtain ⟨m1, m2, m3, m4, m5, m6⟩ := pTk_ok (by decide) t7
  have e59 := (pkc_lt m1 (by decide)).2
  rw [t7, t8, bd_s, if_neg (by decide)]
  simp only
  have Bd := Bc.go j4
  have Md : ∀ a b c d e, tMF a b c d e σc (stI σc 0 6 (nz j4)) := fun a b c d e => tMF_I (by omega)
  have Mad : tMF o g 0 0 0 σa (stI σc 0 6 (nz j4)) := Mac.tq (Md _ _ _ _ _)
  have hsmd : gSm g g' σc (stI σc 0 6 (nz j4)) := gSm_M (Md 0 g' 0 0 0) (Nat.le_refl _)
  have Gd := Gc.sm hsmd
  have Pd := Pc.sm hsmd
  have h15 : ∀ x, 15 ≤ x → x ≤ 17 → (stI σc 0 6 (nz j4)).1 x = σa.1 x := fun x x1 x2 => by funext z; exact Mad.2.1 x z (by omega) (by omega)
  have Od := tOA_M (Oc _ (h15 15 (by omega) (by omega))) (Md (o + q.2.2.2.2.length + 1) 0 0 0 0) (by simp; omega)
  have Fd : tLF o g F.length σ (stI σc 0 6 (nz j4)) := Fa.tq (tLF_M Mad)
  have d37 : (stI σc 0 6 (nz j4)).1 0 37 = nz (F.length + 1) := (Mad.2.2.1 37 (by omega)).trans a37
  generalize stI σc 0 6 (nz j4) = σd at Bd Md Mad hsmd Gd Pd h15 Od Fd d37 ⊢
  have hsq := sk_ge (n := n) (tx := tx) q.1
  have hs3 := sk_ge (n := n) (tx := tx) (sk n tx i + 1)
  have hs4 := sk_ge (n := n) (tx := tx) (sk n tx j + 1)
  have hs5 := sk_ge (n := n) (tx := tx) j2
  refine ⟨σd, g', rfl, Bd, d37, Fd, ?_, ?_, ?_, Od, r5, by simp only; omega, Gd.wk (by omega) (by simp only; omega), ?_⟩
  · rw [h15 15 (by omega) (by omega)]; exact x15
  · rw [h15 16 (by omega) (by omega)]; exact x16
  · rw [h15 17 (by omega) (by omega)]; exact x17
  · simp only
    have p0 := PF_semi (by omega) m2 hn6 e59 (by decide) (by decide) Gd Pd
    rw [← m3] at p0
    have Gd' := Gd.wk (Nat.le_refl j3) (show q.1 ≤ j4 by omega)
    have p1 := PF_pre (i := j2) (c := 61) l2 hn6 e61 (by decide) (by decide) (by omega) m5 (by rw [← l3]; exact Gd') (by rw [← l3]; exact p0)
    have p2 := PF_pre (i := sk n tx j + 1) (c := 41) k2 hn6 e41 (by decide) (by decide) (by omega) m5 (by rw [← k3]; exact Gd'.wk (by omega) (Nat.le_refl _)) (by rw [← k3]; exact p1)
    have p3 := PF_pre (i := j) hltv hn6 etv hvc.1 hvc.2 (by omega) m5 (Gd'.wk (by omega) (Nat.le_refl _)) p2
    have p4 := PF_pre (i := sk n tx i + 1) (c := 40) g2 hn6 e40 (by decide) (by decide) (by omega) m5 (by rw [← g3]; exact Gd'.wk (by omega) (Nat.le_refl _)) (by rw [← g3]; exact p3)
    exact PF_pre hlt hn6 etx hxc.1 hxc.2 (by omega) m5 (Gd'.wk (by omega) (Nat.le_refl _)) p4
end
