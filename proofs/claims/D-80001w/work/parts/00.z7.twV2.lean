set_option maxRecDepth 100000
section
variable {tk n : Nat} {tx : Nat → Int32} {nm : Nat → Int32} {nF B : Nat}
/-- what reading a variable's statement does, behind its variable -/
def tVR (n : Nat) (tx : Nat → Int32) (nm : Nat → Int32) (nF : Nat) (σ : cS) (v : Int32) (p o g b st nc dm : Nat) (x : Option (Int32 × cS)) (r : SR) : Prop := match r with
  | .error e => ∃ σ', x = some (0, σ') ∧ σ'.1 0 7 = nz e ∧ tMF (o + 1) g b nc (3 * dm) σ σ' ∧ ∃ o', o' ≤ 10810 ∧ σ'.1 0 11 = nz o'
  | .ok q => ∃ σ' g' nc' E, x = some (1, σ') ∧ tMS σ' q.1 q.2.1 (o + 1 + E.length) g' b st nc' (dm + dn q.2.2.2.1) q.2.2.2.2.1 ∧ tMF (o + 1) g b nc (3 * dm) σ σ' ∧ tOA σ' (o + 1) E ∧ E.length + 1 = osum q.2.2.2.1 ∧ (q.2.1 = none → ∀ cb, CM (trS (-1) nm nF) o cb dm q.2.2.2.1 = (8, 0) :: E) ∧ tDn σ' dm q.2.2.2.1 ∧ g ≤ g' ∧ g' ≤ q.1 ∧ GI σ' g g' (p + 1) q.1 ∧ (∃ L, q.2.2.2.2.2 = (97 + v) :: L ∧ PF n tx σ' g g' (p + 1) q.1 L) ∧ nc ≤ nc' ∧ 2 * nc' ≤ q.1 ∧ 3 * (dm + dn q.2.2.2.1) ≤ q.1
theorem dig_bl {c : Int32} (h : isI c 48 57 = true) : bl c = false := dig_nb c h
theorem tVarS {σ : cS} {p : Nat} {w : Option Nat} {o g b st nc dm : Nat} {ch : List Int32} {v : Int32} (hB : B ≤ 9000) (C : tCo σ tk n tx (-1) (-1) nm nF) (M : tMS σ (p + 1) w (o + 1) g b st nc dm ch) (hp : p < n) (hnb0 : nbr n tx p = nbr n tx (p + 1) + 1) (hnb : nbr n tx p ≤ 400) (hwg : wG n w) (ho : o + 1 ≤ B + 3 * (p + 1)) (hg : g ≤ p + 1) (hnc : 2 * nc ≤ p) (hdm : 3 * dm ≤ p) :
    tVR n tx nm nF σ v p o g b st nc dm (fX11_readVar v (nz p) σ) (pAs n tx v p w st ch) := by
  have hn6 : n ≤ 600 := C.1.2.2.2.2.2.1
  have hsg := sk_ge (n := n) (tx := tx) (p + 1)
  have hsl := sk_le (n := n) (tx := tx) (i := p + 1) (by omega)
  unfold fX11_readVar pAs
  rw [tLook C.1 M.B.at (by omega), bd_s]
  have M1 := M.go (sk n tx (p + 1))
  have F1 : ∀ a b c d e, tMF a b c d e σ (stI σ 0 6 (nz (sk n tx (p + 1)))) := fun a b c d e => tMF_I (by omega)
  have C1 := tCo_M C (F1 0 0 0 0 0)
  by_cases c1 : pk n tx (p + 1) = 61
  · -- =
    obtain ⟨hlt, etx⟩ := pkc_lt c1 (by decide)
    have htk := nbr_tk hlt
    rw [if_pos c1, if_pos c1, wI_e, M1.B.at, nz_s]
    have M2 := M1.go (sk n tx (p + 1) + 1)
    have F2 : ∀ a b c d e, tMF a b c d e σ (stI (stI σ 0 6 (nz (sk n tx (p + 1)))) 0 6 (nz (sk n tx (p + 1) + 1))) := fun a b c d e => (F1 a b c d e).tq (tMF_I (by omega))
    have C2 := tCo_M C (F2 0 0 0 0 0)
    generalize stI (stI σ 0 6 (nz (sk n tx (p + 1)))) 0 6 (nz (sk n tx (p + 1) + 1)) = σ2 at M2 F2 C2 ⊢
    rcases tReadE hB C2 M2.B (by omega) hwg (by omega) (by omega) (by omega) with ⟨e, q1, σ', q2, q3, q4, o', q5, q6⟩ | ⟨q, q1, σ3, g', q2, B3, F3, O3, q6, q7, G3, P3⟩
    · rw [q1, q2, bd_s, if_pos rfl]
      exact ⟨σ', rfl, q3.1, (F2 _ _ _ _ _).tq (tMF_E q4), o', by omega, q6⟩
    · obtain ⟨f1, f2, f3, f4, f5, f6⟩ := pSum_facts (by omega) q1
      have hnd := nbr_diffA (n := n) (tx := tx) (i := sk n tx (p + 1) + 1) (j := q.1) (by omega)
      rw [q1, q2, bd_s, if_neg (by decide)]
      simp only [eb]
      have M3 := tMS_E M2 B3 F3 f5.2
      have M4 := M3.put 9 v
      have F4 : ∀ d, tMF (o + 1) g b nc d σ (stO σ3 (o + 1 + q.2.2.2.2.length) 9 v) := fun d => ((F2 _ _ _ _ _).tq (tMF_E F3)).tq (tMF_O (by omega))
      have C4 := tCo_M C (F4 0)
      rw [tPut M3.B.od (by omega), bd_s]
      rcases tTake 59 (by decide) C4.1 M4.B f2 with ⟨e, t1, t2⟩ | ⟨j, t1, t2⟩
      · rw [t1, t2, bd_s, ck_t (by decide)]
        refine ⟨_, rfl, by simp [gI], ((F4 _).tq (tMF_I (by omega))).tq (tMF_I (by omega)), o + 1 + q.2.2.2.2.length + 1, by omega, ?_⟩
        simpa [gI] using M4.B.od
      · obtain ⟨g1, g2, g3, g4, g5, g6⟩ := pTk_ok (by decide) t1
        rw [t1, t2, bd_s, ck_t (by decide)]
        have M5 := M4.go j
        have F45 : ∀ a b c d e, tMF a b c d e (stO σ3 (o + 1 + q.2.2.2.2.length) 9 v) (stI (stO σ3 (o + 1 + q.2.2.2.2.length) 9 v) 0 6 (nz j)) := fun a b c d e => tMF_I (by omega)
        have hsm : gSm g g' σ3 (stI (stO σ3 (o + 1 + q.2.2.2.2.length) 9 v) 0 6 (nz j)) := gSm_M ((tMF_O (o0 := 0) (g0 := g') (b0 := 0) (c0 := 0) (d0 := 0) (by omega)).tq (F45 0 g' 0 0 0)) (Nat.le_refl _)
        have ej := (pkc_lt g1 (by decide)).2
        refine ⟨_, g', nc, q.2.2.2.2.map (trS (-1) nm nF) ++ [(9, v)], rfl, ?_, (F4 _).tq (F45 _ _ _ _ _), ?_, ?_, ?_, ?_, q6, by simp only; omega, (G3.sm hsm).wk (by omega) (by simp only; omega), ⟨61 :: (q.2.2.2.1 ++ [59]), rfl, ?_⟩, Nat.le_refl _, by simp only; omega, ?_⟩
        · simp only [List.length_append, List.length_map, List.length_cons, List.length_nil, dn, List.filter_cons, List.filter_nil]
          rw [show o + 1 + (q.2.2.2.2.length + (0 + 1)) = o + 1 + q.2.2.2.2.length + 1 by omega]
          simpa using M5
        · refine tOA_M (o0 := o + 1 + q.2.2.2.2.length + 1) (g0 := 0) (b0 := 0) (c0 := 0) (d0 := 0) ?_ (F45 _ _ _ _ _) (by simp; omega)
          refine tOA_app (tOA_M (o0 := o + 1 + q.2.2.2.2.length) (g0 := 0) (b0 := 0) (c0 := 0) (d0 := 0) O3 (tMF_O (Nat.le_refl _)) (by simp)) ?_
          rw [List.length_map]; exact tOA_one
        · simp [osum, osz]
        · intro _ cb; simp [CM, cmpl, ord1]
        · exact ⟨fun y => absurd y (by simp only; decide), trivial⟩
        · refine PF_pre hlt hn6 (by rw [etx]) (by decide) (by decide) (by simp only; omega) g5 ((G3.sm hsm).wk (Nat.le_refl _) (by simp only; omega)) ?_
          have hpf := PF_semi (by omega) g2 hn6 ej (by decide) (by decide) (G3.sm hsm) (P3.sm hsm)
          rw [← g3] at hpf
          exact hpf
        · simp [dn]; omega
  · by_cases c2 : pk n tx (p + 1) = 126
    · -- ~
      obtain ⟨hlt, etx⟩ := pkc_lt c2 (by decide)
      have htk := nbr_tk hlt
      rw [if_neg c1, if_neg (by rw [c2]; decide), if_pos c2, if_neg c1, if_pos c2, wI_e, M1.B.at, nz_s]
      have M2 := M1.go (sk n tx (p + 1) + 1)
      have F2 : ∀ a b c d e, tMF a b c d e σ (stI (stI σ 0 6 (nz (sk n tx (p + 1)))) 0 6 (nz (sk n tx (p + 1) + 1))) := fun a b c d e => (F1 a b c d e).tq (tMF_I (by omega))
      have C2 := tCo_M C (F2 0 0 0 0 0)
      generalize stI (stI σ 0 6 (nz (sk n tx (p + 1)))) 0 6 (nz (sk n tx (p + 1) + 1)) = σ2 at M2 F2 C2 ⊢
      generalize hj0 : sk n tx (p + 1) + 1 = j0 at M2 htk ⊢
      have hj0n : j0 ≤ n := by omega
      unfold fX11_readDraw
      rw [tLook C2.1 M2.B.at hj0n, bd_s]
      have M3 := M2.go (sk n tx j0)
      rw [M3.ndm, M3.B.at, show (3 : Int32) = nz 3 from rfl, show (2 : Int32) = nz 2 from rfl, nz_mul, nz_add, ck_n (by omega) (by omega), nz_tn (by omega), wI_e]
      have M4 := M3.oth (a := 22) (j := 3 * dm + 2) (v := 0) (Or.inl ⟨by decide, by decide⟩)
      have F4 : ∀ a b c, tMF a b c nc (3 * dm) σ (stI (stI σ2 0 6 (nz (sk n tx j0))) 22 (3 * dm + 2) 0) := fun a b c => ((F2 _ _ _ _ _).tq (tMF_I (by omega))).tq (tMF_I (by omega))
      have C4 := tCo_M C (F4 0 0 0)
      have e2 : (stI (stI σ2 0 6 (nz (sk n tx j0))) 22 (3 * dm + 2) 0).1 22 (3 * dm + 2) = 0 := by simp [gI]
      have hj1 := sk_le (n := n) (tx := tx) hj0n
      have hss0 := sk_sk (n := n) (tx := tx) j0
      have hps0 := pk_sk (n := n) (tx := tx) j0
      generalize stI (stI σ2 0 6 (nz (sk n tx j0))) 22 (3 * dm + 2) 0 = σ4 at M4 F4 C4 e2 ⊢
      rw [show FU = 99995 + 1 + 1 + 1 + 2 from rfl, show (0 : Int32) = nz 0 from rfl]
      unfold pDr
      by_cases d1 : isI (pk n tx j0) 48 57 = true
      case neg =>
        obtain ⟨σ', a1, a2, a3, a4⟩ := tDrNo (v := v) (x2 := nz 0) (x4 := nz (sk n tx j0)) (99995 + 1 + 1 + 1) C4.1 M4 hj1 (show 0 < 2 by decide) (by rw [hps0]; exact d1) (by omega)
        rw [a1, bd_s, ck_t (by decide), show pNo n tx j0 = .error (sk n tx j0) from if_neg d1]
        rw [hss0] at a2
        exact ⟨σ', rfl, a2, (F4 _ _ _).tq a3, a4⟩
      have e1 : pNo n tx j0 = .ok (pNm n tx (sk n tx j0)) := if_pos d1
      obtain ⟨n1a, n1b, -, n1d, n1e, ⟨va, va1, va2, va3⟩, n1g, n1h⟩ := pNo_ok e1
      have hgtA := pNm_gt (n := n) (tx := tx) (sk n tx j0)
      rw [tDrNum (99995 + 1 + 1 + 2) C4.1 M4 hj1 (show 0 < 3 by decide) (by omega) (by rw [hps0]; exact d1), hss0, e1]
      simp only [eb]
      generalize hA : pNm n tx (sk n tx j0) = A at *
      have M5 := ((M4.go A.1).oth (a := 0) (j := 12) (v := A.2.2) (Or.inr ⟨rfl, rfl⟩)).oth (a := 22) (j := 3 * dm + 0) (v := A.2.2) (Or.inl ⟨by decide, by decide⟩)
      have F5 : ∀ a b c, tMF a b c nc (3 * dm) σ (stI (stI (stI σ4 0 6 (nz A.1)) 0 12 A.2.2) 22 (3 * dm + 0) A.2.2) := fun a b c => (((F4 a b c).tq (tMF_I (by omega))).tq (tMF_I (by omega))).tq (tMF_I (by omega))
      have C5 := tCo_M C (F5 0 0 0)
      have w0 : (stI (stI (stI σ4 0 6 (nz A.1)) 0 12 A.2.2) 22 (3 * dm + 0) A.2.2).1 22 (3 * dm) = A.2.2 := by simp [gI]
      have w2 : (stI (stI (stI σ4 0 6 (nz A.1)) 0 12 A.2.2) 22 (3 * dm + 0) A.2.2).1 22 (3 * dm + 2) = 0 := by simpa [gI] using e2
      generalize stI (stI (stI σ4 0 6 (nz A.1)) 0 12 A.2.2) 22 (3 * dm + 0) A.2.2 = σ5 at M5 F5 C5 w0 w2 ⊢
      by_cases d2 : isI (pk n tx A.1) 48 57 = true
      case neg =>
        obtain ⟨σ', a1, a2, a3, a4⟩ := tDrNo (v := v) (x2 := nz 0 + A.2.2) (x4 := nz (sk n tx j0)) (99995 + 1 + 1) C5.1 M5 n1e (show 0 + 1 < 2 by decide) d2 (by omega)
        rw [a1, bd_s, ck_t (by decide), show pNo n tx A.1 = .error (sk n tx A.1) from if_neg d2]
        exact ⟨σ', rfl, a2, (F5 _ _ _).tq a3, a4⟩
      have e2' : pNo n tx A.1 = .ok (pNm n tx (sk n tx A.1)) := if_pos d2
      obtain ⟨n2a, n2b, -, n2d, n2e, ⟨vb, vb1, vb2, vb3⟩, n2g, n2h⟩ := pNo_ok e2'
      have hgtB := pNm_gt (n := n) (tx := tx) (sk n tx A.1)
      rw [tDrNum (99995 + 1 + 2) C5.1 M5 n1e (show 0 + 1 < 3 by decide) (by omega) d2, e2']
      dsimp only
      generalize hBB : pNm n tx (sk n tx A.1) = BB at *
      have M6 := ((M5.go BB.1).oth (a := 0) (j := 12) (v := BB.2.2) (Or.inr ⟨rfl, rfl⟩)).oth (a := 22) (j := 3 * dm + (0 + 1)) (v := BB.2.2) (Or.inl ⟨by decide, by decide⟩)
      have F6 : ∀ a b c, tMF a b c nc (3 * dm) σ (stI (stI (stI σ5 0 6 (nz BB.1)) 0 12 BB.2.2) 22 (3 * dm + (0 + 1)) BB.2.2) := fun a b c => (((F5 a b c).tq (tMF_I (by omega))).tq (tMF_I (by omega))).tq (tMF_I (by omega))
      have C6 := tCo_M C (F6 0 0 0)
      have x0 : (stI (stI (stI σ5 0 6 (nz BB.1)) 0 12 BB.2.2) 22 (3 * dm + (0 + 1)) BB.2.2).1 22 (3 * dm) = A.2.2 := by simpa [gI] using w0
      have x1 : (stI (stI (stI σ5 0 6 (nz BB.1)) 0 12 BB.2.2) 22 (3 * dm + (0 + 1)) BB.2.2).1 22 (3 * dm + 1) = BB.2.2 := by simp [gI]
      have x2' : (stI (stI (stI σ5 0 6 (nz BB.1)) 0 12 BB.2.2) 22 (3 * dm + (0 + 1)) BB.2.2).1 22 (3 * dm + 2) = 0 := by simpa [gI] using w2
      generalize stI (stI (stI σ5 0 6 (nz BB.1)) 0 12 BB.2.2) 22 (3 * dm + (0 + 1)) BB.2.2 = σ6 at M6 F6 C6 x0 x1 x2' ⊢
      have hskj : sk n tx j0 < n := n1b
      have hsgA := sk_ge (n := n) (tx := tx) A.1
      have hsgj := sk_ge (n := n) (tx := tx) j0
      -- the end of it, k numbers being read
      have fin : ∀ (σ7 : cS) (jj k : Nat) (c3 x2 : Int32) (pr : List Int32) (f : Nat), (k = 2 ∨ k = 3) → (k = 2 → ¬ isI (pk n tx jj) 48 57 = true) → jj ≤ n → BB.1 ≤ jj → tMS σ7 jj w (o + 1) g b st nc dm ch → (∀ a b c, tMF a b c nc (3 * dm) σ σ7) → σ7.1 22 (3 * dm) = A.2.2 → σ7.1 22 (3 * dm + 1) = BB.2.2 → σ7.1 22 (3 * dm + 2) = c3 → x2 = A.2.2 + BB.2.2 + c3 → (∀ D, DA tx σ7 D g g j0 (sk n tx jj) → outp n tx D j0 false = pr ++ outp n tx D (sk n tx jj) true) →
          tVR n tx nm nF σ v p o g b st nc dm (bd (fX11_readDraw_35 v (f + 2) x2 (nz k) (nz (sk n tx j0)) 1 1 σ7) fun r5 σ4 => ck (bz r5) <| some (r5, σ4)) (eb (pTk n tx 59 jj) fun e => .ok (e, ntb (!decide (A.2.2 + BB.2.2 + c3 = 16)) w (sk n tx j0), st, [(1, v, [], A.2.2, BB.2.2, c3)], ch, (97 + v) :: 126 :: (pr ++ [59]))) := by
        intro σ7 jj k c3 x2 pr f hk hkd hjn hBj M7 F7 y0 y1 y2 hx2 hout
        have C7 := tCo_M C (F7 0 0 0)
        rcases tDrEnd (v := v) (x2 := x2) f C7.1 M7 hjn hwg hskj hk hkd (by omega) with ⟨e, t1, σ', t2, t3, t4, t5⟩ | ⟨e, t1, σ', t2, M8, F8, O8⟩
        · rw [t1, t2, bd_s, ck_t (by decide)]
          exact ⟨σ', rfl, t3, (F7 _ _ _).tq t4, t5⟩
        · obtain ⟨g1, g2, g3, g4, g5, g6⟩ := pTk_ok (by decide) t1
          rw [t1, t2, bd_s, ck_t (by decide)]
          have hsgjj := sk_ge (n := n) (tx := tx) jj
          have ej := (pkc_lt g1 (by decide)).2
          rw [hx2] at M8
          refine ⟨σ', g, nc, [(10, nz dm), (9, v)], rfl, ?_, (F7 _ _ _).tr F8 (Nat.le_refl _) (Nat.le_refl _) (Nat.le_refl _) (Nat.le_refl _) (by omega), O8, ?_, ?_, ?_, Nat.le_refl _, by simp only; omega, GI_nil, ⟨126 :: (pr ++ [59]), rfl, ?_⟩, Nat.le_refl _, by simp only; omega, ?_⟩
          · simp only [List.length_cons, List.length_nil, dn, List.filter_cons, List.filter_nil]
            simpa using M8
          · simp [osum, osz]
          · intro _ cb; simp [CM, cmpl, ord1]
          · refine ⟨fun _ => ?_, trivial⟩
            simp only
            rw [F8.2.2.2.2.2.2.2 _ (by omega), F8.2.2.2.2.2.2.2 _ (by omega), F8.2.2.2.2.2.2.2 _ (by omega)]
            exact ⟨y0, y1, y2⟩
          · simp only
            refine PF_pre hlt hn6 (by rw [etx]) (by decide) (by decide) (by omega) (by omega) GI_nil ?_
            intro D hD
            have h0 := DA0 hD
            rw [hj0]
            rw [hj0] at hD h0
            have hDs : D (sk n tx jj) = false := by rw [h0 _ (by omega) (by omega), ej]; decide
            rw [hout D (fun y y1 y2 => by rw [h0 y y1 (by omega)]; simp [gOb]), out_c g2 hDs (by rw [ej]; decide), ej, g3, List.append_assoc]
            rfl
          · simp [dn]; omega
      have hAd : isI (tx (sk n tx j0)) 48 57 = true := by rw [(pkc_ne (n := n) (tx := tx) (i := j0) (by obtain ⟨z, z1, z2⟩ := isI_dig d1; rw [z2]; exact nz_m1 (by omega))).2]; exact d1
      have hBd : isI (tx (sk n tx A.1)) 48 57 = true := by rw [(pkc_ne (n := n) (tx := tx) (i := A.1) (by obtain ⟨z, z1, z2⟩ := isI_dig d2; rw [z2]; exact nz_m1 (by omega))).2]; exact d2
      have hout2 : ∀ (σ7 : cS) (jj : Nat) (D : Nat → Bool), BB.1 ≤ jj → DA tx σ7 D g g j0 jj → outp n tx D j0 false = A.2.1 ++ 32 :: (BB.2.1 ++ outp n tx D BB.1 true) := by
        intro σ7 jj D hjj hD
        have h0 := DA0 hD
        rw [out_sk (i := j0) (fun y y1 y2 => by rw [h0 y y1 (by omega)]; exact (sk_blank y1 y2).2), out_n n1b (by rw [h0 _ hsgj (by omega)]; exact dig_bl hAd) hAd, hA, out_sk (i := A.1) (fun y y1 y2 => by rw [h0 y (by omega) (by omega)]; exact (sk_blank y1 y2).2), out_n1 n2b (by rw [h0 _ (by omega) (by omega)]; exact dig_bl hBd) hBd, hBB]
      have hsgB := sk_ge (n := n) (tx := tx) BB.1
      by_cases d3 : isI (pk n tx BB.1) 48 57 = true
      · have e3' : pNo n tx BB.1 = .ok (pNm n tx (sk n tx BB.1)) := if_pos d3
        obtain ⟨n3a, n3b, -, n3d, n3e, ⟨vc, vc1, vc2, vc3⟩, n3g, n3h⟩ := pNo_ok e3'
        have hgtC := pNm_gt (n := n) (tx := tx) (sk n tx BB.1)
        rw [tDrNum (99995 + 2) C6.1 M6 n2e (show 0 + 1 + 1 < 3 by decide) (by omega) d3, if_pos d3]
        have hCd : isI (tx (sk n tx BB.1)) 48 57 = true := by rw [(pkc_ne (n := n) (tx := tx) (i := BB.1) (by obtain ⟨z, z1, z2⟩ := isI_dig d3; rw [z2]; exact nz_m1 (by omega))).2]; exact d3
        generalize hCC : pNm n tx (sk n tx BB.1) = CC at *
        have M7 := ((M6.go CC.1).oth (a := 0) (j := 12) (v := CC.2.2) (Or.inr ⟨rfl, rfl⟩)).oth (a := 22) (j := 3 * dm + (0 + 1 + 1)) (v := CC.2.2) (Or.inl ⟨by decide, by decide⟩)
        dsimp only
        have hpr : A.2.1 ++ 32 :: (BB.2.1 ++ 32 :: CC.2.1) = A.2.1 ++ 32 :: (BB.2.1 ++ 32 :: CC.2.1) := rfl
        refine fin _ CC.1 3 CC.2.2 _ (A.2.1 ++ 32 :: (BB.2.1 ++ 32 :: CC.2.1)) 99995 (Or.inr rfl) (fun q => absurd q (by decide)) n3e (by omega) M7 (fun a b c => (((F6 a b c).tq (tMF_I (by omega))).tq (tMF_I (by omega))).tq (tMF_I (by omega))) ?_ ?_ ?_ ?_ ?_
        · simpa [gI] using x0
        · simpa [gI] using x1
        · simp [gI]
        · rw [show nz 0 = (0 : Int32) from rfl, i32_0add]
        · intro D hD
          have h0 := DA0 hD
          have hsgC := sk_ge (n := n) (tx := tx) CC.1
          rw [hout2 _ _ D (by omega) hD, out_sk (i := BB.1) (fun y y1 y2 => by rw [h0 y (by omega) (by omega)]; exact (sk_blank y1 y2).2), out_n1 n3b (by rw [h0 _ (by omega) (by omega)]; exact dig_bl hCd) hCd, hCC, out_sk (i := CC.1) (fun y y1 y2 => by rw [h0 y (by omega) y2]; exact (sk_blank y1 y2).2)]
          simp
      · rw [if_neg d3]
        dsimp only
        refine (show tVR n tx nm nF σ v p o g b st nc dm _ (eb (pTk n tx 59 (sk n tx BB.1)) _) from ?_)
        have hpt : pTk n tx 59 (sk n tx BB.1) = pTk n tx 59 BB.1 := by unfold pTk; rw [pk_sk, sk_sk]
        rw [hpt]
        refine fin σ6 BB.1 2 0 _ (A.2.1 ++ 32 :: BB.2.1) (99995 + 1) (Or.inl rfl) (fun _ => d3) n2e (Nat.le_refl _) M6 F6 x0 x1 x2' ?_ ?_
        · rw [show nz 0 = (0 : Int32) from rfl, i32_0add, i32_add0]
        · intro D hD
          have h0 := DA0 hD
          rw [hout2 _ _ D (by omega) hD, out_sk (i := BB.1) (fun y y1 y2 => by rw [h0 y (by omega) y2]; exact (sk_blank y1 y2).2)]
          simp
    · by_cases c3 : pk n tx (p + 1) = 63
      · -- ?
        obtain ⟨hlt, etx⟩ := pkc_lt c3 (by decide)
        have htk := nbr_tk hlt
        rw [if_neg c1, if_pos c3, if_neg c1, if_neg c2, if_pos c3, wI_e, M1.B.at, nz_s]
        have M2 := M1.go (sk n tx (p + 1) + 1)
        have F2 : ∀ a b c d e, tMF a b c d e σ (stI (stI σ 0 6 (nz (sk n tx (p + 1)))) 0 6 (nz (sk n tx (p + 1) + 1))) := fun a b c d e => (F1 a b c d e).tq (tMF_I (by omega))
        have C2 := tCo_M C (F2 0 0 0 0 0)
        generalize stI (stI σ 0 6 (nz (sk n tx (p + 1)))) 0 6 (nz (sk n tx (p + 1) + 1)) = σ2 at M2 F2 C2 ⊢
        generalize hj0 : sk n tx (p + 1) + 1 = j0 at M2 htk ⊢
        have hj0n : j0 ≤ n := by omega
        unfold fX11_readChoice
        rw [tLook C2.1 M2.B.at hj0n, bd_s, tFig, bd_s, i10]
        have M3 := M2.go (sk n tx j0)
        have F3 : ∀ a b c d e, tMF a b c d e σ (stI σ2 0 6 (nz (sk n tx j0))) := fun a b c d e => (F2 a b c d e).tq (tMF_I (by omega))
        have C3 := tCo_M C (F3 0 0 0 0 0)
        have hj1 := sk_le (n := n) (tx := tx) hj0n
        have hss0 := sk_sk (n := n) (tx := tx) j0
        have hps0 := pk_sk (n := n) (tx := tx) j0
        have hsgj := sk_ge (n := n) (tx := tx) j0
        by_cases d1 : isI (pk n tx j0) 48 57 = true
        case neg =>
          rw [if_neg d1, tStops M3.B.wr M3.B.at, bd_s, ck_t (by decide), bd_s, ck_t (by decide), show pNo n tx j0 = .error (sk n tx j0) from if_neg d1]
          exact ⟨_, rfl, by simp [gI], (F3 _ _ _ _ _).tq (tMF_I (by omega)), o + 1, by omega, by simpa [gI] using M3.B.od⟩
        have e1 : pNo n tx j0 = .ok (pNm n tx (sk n tx j0)) := if_pos d1
        obtain ⟨n1a, n1b, -, n1d, n1e, ⟨va, va1, va2, va3⟩, n1g, n1h⟩ := pNo_ok e1
        have hgtA := pNm_gt (n := n) (tx := tx) (sk n tx j0)
        have hAd : isI (tx (sk n tx j0)) 48 57 = true := by rw [(pkc_ne (n := n) (tx := tx) (i := j0) (by obtain ⟨z, z1, z2⟩ := isI_dig d1; rw [z2]; exact nz_m1 (by omega))).2]; exact d1
        rw [if_pos d1, tTakeN C3.1 M3.B.at hj1 (by rw [hps0]; exact d1), bd_s, hss0, e1, M3.B.at]
        simp only [eb]
        generalize hA : pNm n tx (sk n tx j0) = A at *
        have M4 := (M3.go A.1).oth (a := 0) (j := 12) (v := A.2.2) (Or.inr ⟨rfl, rfl⟩)
        have F4 : ∀ a b c d e, tMF a b c d e σ (stI (stI (stI σ2 0 6 (nz (sk n tx j0))) 0 6 (nz A.1)) 0 12 A.2.2) := fun a b c d e => ((F3 a b c d e).tq (tMF_I (by omega))).tq (tMF_I (by omega))
        have e12 : (stI (stI (stI σ2 0 6 (nz (sk n tx j0))) 0 6 (nz A.1)) 0 12 A.2.2).1 0 12 = A.2.2 := by simp [gI]
        generalize stI (stI (stI σ2 0 6 (nz (sk n tx j0))) 0 6 (nz A.1)) 0 12 A.2.2 = σ4 at M4 F4 e12 ⊢
        rw [e12, show (2 : Int64) = (2 : Int32).toInt64 by decide, show (5 : Int64) = (5 : Int32).toInt64 by decide, isIn11, bd_s, i10]
        -- the end, w' being noted
        have fin : ∀ (σ5 : cS) (w' : Option Nat), (w' = none → nc < 3) → tMS σ5 A.1 w' (o + 1) g b st nc dm ch → (∀ a b c d e, tMF a b c d e σ σ5) → σ5.1 0 12 = A.2.2 →
            tVR n tx nm nF σ v p o g b st nc dm (bd (fX11_readChoice_64 v (nz p) σ5) fun r10 σ9 => ck (bz r10) <| some (r10, σ9)) (eb (pTk n tx 59 A.1) fun e => .ok (e, w', st, [(2, v, [], nz ch.length, 0, 0)], (if ch.length < 3 then ch ++ [A.2.2] else ch), (97 + v) :: 63 :: (A.2.1 ++ [59]))) := by
          intro σ5 w' hw' M5 F5 e12'
          unfold fX11_readChoice_64
          rw [M5.nch, ck_n (by omega) (by omega), nz_tn (by omega), e12', wI_e]
          have B6 : tB (stI σ5 21 nc A.2.2) A.1 w' (o + 1) g := M5.B.oth (Or.inl (by decide))
          have e43 : (stI σ5 21 nc A.2.2).1 0 43 = nz nc := by simpa [gI] using M5.nch
          rw [e43, tPut B6.od (by omega), bd_s]
          have B7 := B6.put 11 (nz nc)
          rw [tPut B7.od (by omega), bd_s, wI_e]
          have B8 := B7.put 9 v
          have e43' : (stO (stO (stI σ5 21 nc A.2.2) (o + 1) 11 (nz nc)) (o + 1 + 1) 9 v).1 0 43 = nz nc := by simpa [stO, gI] using M5.nch
          rw [e43', nz_s]
          have M9 : tMS (stI (stO (stO (stI σ5 21 nc A.2.2) (o + 1) 11 (nz nc)) (o + 1 + 1) 9 v) 0 43 (nz (nc + 1))) A.1 w' (o + 1 + 1 + 1) g b st (nc + 1) dm (if ch.length < 3 then ch ++ [A.2.2] else ch) := by
            refine ⟨B8.oth (by omega), by simpa [stO, gI] using M5.bk, by simpa [stO, gI] using M5.sm, by simp [gI], by simpa [stO, gI] using M5.ndm, ?_, ?_⟩
            · refine ⟨?_, fun q => by have := hw' q; omega⟩
              have := M5.c3
              split
              · simp; omega
              · omega
            · intro x hx
              have e21 : (stI (stO (stO (stI σ5 21 nc A.2.2) (o + 1) 11 (nz nc)) (o + 1 + 1) 9 v) 0 43 (nz (nc + 1))).1 21 x = if x = nc then A.2.2 else σ5.1 21 x := by simp [stO, gI]
              rw [e21]
              have hc3 := M5.c3
              by_cases hl : ch.length < 3
              · rw [if_pos hl] at hx ⊢
                by_cases hxn : x = nc
                · rw [if_pos hxn, hxn, show nc = ch.length by omega]; simp
                · have hx2 : x < ch.length := by simp at hx; omega
                  rw [if_neg hxn, M5.cv x hx2]; simp [List.getD_eq_getElem?_getD, List.getElem?_append_left hx2]
              · rw [if_neg hl] at hx ⊢
                rw [if_neg (by omega)]; exact M5.cv x hx
          have F9 : ∀ d, tMF (o + 1) g b nc d σ (stI (stO (stO (stI σ5 21 nc A.2.2) (o + 1) 11 (nz nc)) (o + 1 + 1) 9 v) 0 43 (nz (nc + 1))) := fun d => ((((F5 _ _ _ _ _).tq (tMF_I (by omega))).tq (tMF_O (by omega))).tq (tMF_O (by omega))).tq (tMF_I (by omega))
          have O9 : tOA (stI (stO (stO (stI σ5 21 nc A.2.2) (o + 1) 11 (nz nc)) (o + 1 + 1) 9 v) 0 43 (nz (nc + 1))) (o + 1) [(11, nz nc), (9, v)] := by
            refine tOA_M (o0 := o + 1 + 1 + 1) (g0 := 0) (b0 := 0) (c0 := 0) (d0 := 0) ?_ (tMF_I (by omega)) (by simp)
            exact tOA_app (E := [(11, nz nc)]) (tOA_M (o0 := o + 1 + 1) (g0 := 0) (b0 := 0) (c0 := 0) (d0 := 0) tOA_one (tMF_O (Nat.le_refl _)) (by simp)) tOA_one
          have C9 := tCo_M C (F9 0)
          generalize stI (stO (stO (stI σ5 21 nc A.2.2) (o + 1) 11 (nz nc)) (o + 1 + 1) 9 v) 0 43 (nz (nc + 1)) = σ9 at M9 F9 O9 C9 ⊢
          rcases tTake 59 (by decide) C9.1 M9.B n1e with ⟨e, t1, t2⟩ | ⟨j, t1, t2⟩
          · rw [t1, t2, bd_s, ck_t (by decide), bd_s, ck_t (by decide)]
            exact ⟨_, rfl, by simp [gI], ((F9 _).tq (tMF_I (by omega))).tq (tMF_I (by omega)), o + 1 + 1 + 1, by omega, by simpa [gI] using M9.B.od⟩
          · obtain ⟨g1, g2, g3, g4, g5, g6⟩ := pTk_ok (by decide) t1
            rw [t1, t2, bd_s, ck_t (by decide), bd_s, ck_t (by decide)]
            have ej := (pkc_lt g1 (by decide)).2
            refine ⟨_, g, nc + 1, [(11, nz nc), (9, v)], rfl, ?_, (F9 _).tq (tMF_I (by omega)), tOA_M (o0 := o + 1 + 1 + 1) (g0 := 0) (b0 := 0) (c0 := 0) (d0 := 0) O9 (tMF_I (by omega)) (by simp), ?_, ?_, ?_, Nat.le_refl _, by simp only; omega, GI_nil, ⟨63 :: (A.2.1 ++ [59]), rfl, ?_⟩, by omega, by simp only; omega, ?_⟩
            · simp only [List.length_cons, List.length_nil, dn, List.filter_cons, List.filter_nil]
              simpa using M9.go j
            · simp [osum, osz]
            · intro hn cb
              have h3 := hw' hn
              have hc3 := M5.c3
              simp [CM, cmpl, ord1]
              congr 1; omega
            · exact ⟨fun y => absurd y (by simp only; decide), trivial⟩
            · simp only
              refine PF_pre hlt hn6 (by rw [etx]) (by decide) (by decide) (by omega) g5 GI_nil ?_
              rw [hj0]
              have hpc : PC n tx (stI σ9 0 6 (nz j)) g g j0 (sk n tx A.1) A.2.1 := by
                have := PC_num (σ := stI σ9 0 6 (nz j)) (g := g) (i := j0) n1b hAd
                rw [hA] at this; exact this
              have hsgA := sk_ge (n := n) (tx := tx) A.1
              have hpf := PF_semi (j := sk n tx A.1) (c := 59) (by omega) (by rw [sk_sk]; exact g2) hn6 (by rw [sk_sk]; exact ej) (by decide) (by decide) GI_nil hpc
              rw [sk_sk, ← g3] at hpf
              exact hpf
            · simp [dn]; omega
        have hc3 := M4.c3
        have hskj : sk n tx j0 < n := n1b
        have tl : ∀ (σ5 : cS) (w1 : Option Nat), wG n w1 → tMS σ5 A.1 w1 (o + 1) g b st nc dm ch → (∀ a b c d e, tMF a b c d e σ σ5) → σ5.1 0 12 = A.2.2 →
            tVR n tx nm nF σ v p o g b st nc dm (bd (if (σ5.1 0 43) < 3 then (fX11_readChoice_64 v (nz p) σ5) else bd (fX11_blame (nz p) σ5) fun _ σ9 => fX11_readChoice_64 v (nz p) σ9) fun r10 σ9 => ck (bz r10) <| some (r10, σ9)) (eb (pTk n tx 59 A.1) fun e => .ok (e, ntb (decide (3 ≤ ch.length)) w1 p, st, [(2, v, [], nz ch.length, 0, 0)], (if ch.length < 3 then ch ++ [A.2.2] else ch), (97 + v) :: 63 :: (A.2.1 ++ [59]))) := by
          intro σ5 w1 hw1 M5 F5 e5
          rw [M5.nch, show (3 : Int32) = nz 3 from rfl]
          by_cases h3 : nc < 3
          · rw [if_pos (by rw [nz_lt (by omega) (by omega)]; exact h3), show decide (3 ≤ ch.length) = false from decide_eq_false (by omega)]
            exact fin σ5 w1 (fun _ => h3) M5 F5 e5
          · rw [if_neg (by rw [nz_lt (by omega) (by omega)]; exact h3), tBlame M5.B.fa hw1 hn6 (by omega), bd_s, show decide (3 ≤ ch.length) = true from decide_eq_true (by omega)]
            refine fin _ _ (fun q => ?_) (M5.sFa _ nt_nn) (fun a b c d e => (F5 a b c d e).tq (tMF_I (by omega))) (by simpa [gI] using e5)
            exact absurd (ntb_none q).2 (by decide)
        by_cases hr : isI A.2.2 2 5 = true
        · rw [if_pos hr, show (!isI A.2.2 2 5) = false by rw [hr]; rfl]
          exact tl σ4 w hwg M4 F4 e12
        · rw [if_neg hr, tBlame M4.B.fa hwg hn6 (by omega), bd_s, show (!isI A.2.2 2 5) = true by simpa using hr]
          exact tl _ _ (wG_nt hwg hskj) (M4.sFa _ nt_nn) (fun a b c d e => (F4 a b c d e).tq (tMF_I (by omega))) (by simpa [gI] using e12)
      · rw [if_neg c1, if_neg c3, if_neg c2, if_neg c1, if_neg c2, if_neg c3, tStops M1.B.wr M1.B.at, bd_s, ck_t (by decide)]
        exact ⟨_, rfl, by simp [gI], (F1 _ _ _ _ _).tq (tMF_I (by omega)), o + 1, by omega, by simpa [gI] using M1.B.od⟩
end
