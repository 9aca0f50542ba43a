set_option maxRecDepth 100000
section
variable {tk n : Nat} {tx : Nat → Int32} {nm : Nat → Int32} {nF B : Nat} {sz : Int32} {a1 : Nat}
theorem tCloseE {σ : cS} {i : Nat} {w : Option Nat} {o g b st nc dm : Nat} {ch : List Int32} {cb f d : Nat} {q : ET} {b' : ST} {f8 : Nat} {σ8 : cS} {g8 nc8 : Nat} {E : List (Int32 × Int32)} {ib : Nat} {rb : List Int32} (hB : B ≤ 9000) (hP : tPS B tk n tx nm nF a1 sz d) (H : tMH B tk n tx nm nF σ i w o g b st nc dm ch (f + 1)) (hcb : cb ≤ 2 * st) (hc : pk n tx i = 63) (hd : 2 * nbr n tx i ≤ 3 * (d + 1)) (hq1 : nbr n tx q.1 + 2 ≤ nbr n tx i)
    (hG : GB n tx q.1 q.2.1 (st + 1) (cb + 1) ch b') (hwg : wG n b'.2.1) (hwm : wM w b'.2.1) (T : tTS B n tx nm nF σ i o g b nc dm cb f 1 q b' f8 σ8 g8 nc8 E ib rb) (hyes : pk n tx b'.1 = 123) :
    tMR B a1 sz n tx nm nF σ cb i o g b nc dm (f + 1) (fX11_readModel_31 a1 sz f8 1 1 σ8) (eb ((pS n tx (d + 1)).2 b (sk n tx b'.1) b'.2.1 b'.2.2.1 (cb + 1 + b'.2.2.2.1.length + 1) b'.2.2.2.2.1) fun e =>
          .ok (e.1, e.2.1, e.2.2.1, (4, 0, q.2.2.2.2, 0, 0, nz (cb + 1 + b'.2.2.2.1.length + 1)) :: (b'.2.2.2.1 ++ (5, 0, [], 0, 0, nz (cb + 1 + b'.2.2.2.1.length + 1 + e.2.2.2.1.length)) :: e.2.2.2.1), e.2.2.2.2.1, 63 :: (q.2.2.2.1 ++ (b'.2.2.2.2.2 ++ e.2.2.2.2.2)))) := by
  obtain ⟨b1, b2, b3, b4, b5, b6, b7, b8, b9, b10, b11, b12, b13⟩ := H
  obtain ⟨⟨t1, t2, t3, t4, t5⟩, t6, t7, t8, t9, t10, t11, ⟨t12, t13, t14, t15, t16⟩, ⟨t17, t18, t19, t20, t21⟩, t22, t23, t24⟩ := T
  obtain ⟨c1, c2, c3, c4, c5, c6, c7, c8, c9, c10, c11, c12, c13⟩ := hG
  have hn6 : n ≤ 600 := b6.1.2.2.2.2.2.1
  have hsg := sk_ge (n := n) (tx := tx) i
  have hsb := sk_ge (n := n) (tx := tx) ib
  obtain ⟨hlt, etx⟩ := pkc_lt t4 (by decide)
  have hnb := nbr_tk hlt
  have hnb2 := nbr_sk (n := n) (tx := tx) ib
  have hnb3 : nbr n tx b'.1 = nbr n tx (sk n tx ib + 1) := by rw [t5]
  have hnb4 := nbr_sk (n := n) (tx := tx) b'.1
  have hsb' := sk_ge (n := n) (tx := tx) b'.1
  have hsl' := sk_le (n := n) (tx := tx) c2
  obtain ⟨f8, rfl⟩ : ∃ e, f8 = e + 1 := ⟨f8 - 1, by omega⟩
  have C8 := tCo_M b6 t7
  rw [rM_cl f8 C8.1 t6 t2 (by omega) t4]
  have M9 := t6.go (sk n tx ib)
  have e18 : (stI σ8 0 6 (nz (sk n tx ib))).1 18 b = 1 := by simpa [gI] using t22
  have e20 : (stI σ8 0 6 (nz (sk n tx ib))).1 20 b = nz (o + 1 + q.2.2.2.2.length) := by simpa [gI] using t24
  obtain ⟨σ2, M2, F2, e2⟩ := tClB M9 (by omega) e18 rfl e20 (by omega)
  have F2' : ∀ x y z t u, tMF x y z t u σ8 σ2 := fun x y z t u => (tMF_I (by omega)).tq (F2 x y z t u)
  rw [← t5] at M2
  have C2 := tCo_M C8 (F2' 0 0 0 0 0)
  have M3 := M2.go (sk n tx b'.1)
  rw [e2, if_neg (by decide), if_pos rfl, tLook C2.1 M2.B.at c2, bd_s, if_pos hyes, tPut M3.B.od (by omega), bd_s, wI_e]
  have M4 := M3.put 14 0
  rw [M4.B.od]
  generalize hoe : o + 2 + q.2.2.2.2.length + E.length = oe at *
  have hol : ∀ v, (((8, 0) :: (q.2.2.2.2.map (trS (-1) nm nF) ++ (13, v) :: E)) : List (Int32 × Int32)).length = q.2.2.2.2.length + 2 + E.length := fun v => by simp; omega
  have O3 : tOA (stO (stI σ2 0 6 (nz (sk n tx b'.1))) oe 14 0) o ((8, 0) :: (q.2.2.2.2.map (trS (-1) nm nF) ++ (13, 0) :: (E ++ [(14, 0)]))) := by
    rw [show (8, 0) :: (q.2.2.2.2.map (trS (-1) nm nF) ++ (13, 0) :: (E ++ [(14, 0)])) = ((8, 0) :: (q.2.2.2.2.map (trS (-1) nm nF) ++ (13, 0) :: E)) ++ [(14, 0)] by simp]
    refine tOA_app (tOA_M (o0 := oe) (g0 := 0) (b0 := 0) (c0 := 0) (d0 := 0) (tOA_M t8 ((F2' oe 0 0 0 0).tq (tMF_I (by omega))) (by rw [hol]; omega)) (tMF_O (Nat.le_refl _)) (by rw [hol]; omega)) ?_
    rw [hol, show o + (q.2.2.2.2.length + 2 + E.length) = oe by omega]
    exact tOA_one
  have O5 := oset (v := nz (oe + 1)) O3
  rw [List.length_map] at O5
  have M5 := M4.oth (a := 3) (j := o + 1 + q.2.2.2.2.length) (v := nz (oe + 1)) (Or.inl ⟨by decide, by decide⟩)
  have F5 : ∀ y z t u, tMF o y z t u σ8 (stI (stO (stI σ2 0 6 (nz (sk n tx b'.1))) oe 14 0) 3 (o + 1 + q.2.2.2.2.length) (nz (oe + 1))) := fun y z t u => (((F2' o y z t u).tq (tMF_I (by omega))).tq (tMF_O (by omega))).tq (tMF_I (by omega))
  generalize stI (stO (stI σ2 0 6 (nz (sk n tx b'.1))) oe 14 0) 3 (o + 1 + q.2.2.2.2.length) (nz (oe + 1)) = σ5 at O5 M5 F5 ⊢
  have hsm : gSm g g8 σ8 σ5 := gSm_M (F5 g8 0 0 0) (Nat.le_refl _)
  have C5 := tCo_M C8 (F5 0 0 0 0)
  have F5' : tMF o g b nc (3 * dm) σ σ5 := t7.tr (F5 _ _ _ _) (Nat.le_refl _) t12 (Nat.le_refl _) t17 (Nat.le_refl _)
  have D5 := tDn_M (F5 0 0 0 (3 * (dm + dn b'.2.2.2.1))) _ t11 (Nat.le_refl _)
  have G5 := t14.sm hsm
  have P5 := PF_sk (by omega) (PF_br hn6 (by omega) t2 t12 t4 G5 (t15.sm hsm))
  rw [← t5] at P5
  rw [M5.B.od, nz_ps]
  obtain ⟨f8, rfl⟩ : ∃ e, f8 = e + 1 := ⟨f8 - 1, by omega⟩
  rcases tOpenBl 2 0 (nz oe) C5.1 M5 hsl' (by omega) hwg (bW_m b5 hwm (by omega)) with ⟨e, u1, u2⟩ | ⟨j, u1, σ7, u2, M7, F7, w18, w19, w20, hbw⟩
  · have hz : (pS n tx (d + 1)).2 b (sk n tx b'.1) b'.2.1 b'.2.2.1 (cb + 1 + b'.2.2.2.1.length + 1) b'.2.2.2.2.1 = .error e := by
      show eb (pTk n tx 123 (sk n tx b'.1)) _ = _
      rw [u1]; rfl
    rw [hz, u2, bd_s, ck_t (by decide), bd_s]
    exact ⟨f8, _, rfl, by simp [gI], (F5'.tq (tMF_I (by omega))).tq (tMF_I (by omega)), oe + 1, by omega, by simpa [gI] using M5.B.od⟩
  · obtain ⟨g1, g2, g3, g4, g5, g6⟩ := pTk_ok (by decide) u1
    have hz : (pS n tx (d + 1)).2 b (sk n tx b'.1) b'.2.1 b'.2.2.1 (cb + 1 + b'.2.2.2.1.length + 1) b'.2.2.2.2.1 = pBlp n tx (pS n tx d).1 b FU j (ntb (decide (5 ≤ b)) b'.2.1 (j - 1)) b'.2.2.1 (cb + 1 + b'.2.2.2.1.length + 1) [] b'.2.2.2.2.1 [123] := by
      show eb (pTk n tx 123 (sk n tx b'.1)) _ = _
      rw [u1]; rfl
    rw [u2, bd_s, ck_t (by decide), bd_s]
    rw [sk_sk] at g3
    have C7 := tCo_M C5 (F7 0 0 0 0)
    have H7 : tMH B tk n tx nm nF σ7 j (ntb (decide (5 ≤ b)) b'.2.1 (j - 1)) (oe + 1) g8 (b + 1) b'.2.2.1 nc8 (dm + dn b'.2.2.2.1) b'.2.2.2.2.1 (f8 + 1) := ⟨by omega, g5, by omega, wG_ntb hwg (by omega), hbw, C7, M7, by omega, by omega, by omega, by omega, by omega, by omega⟩
    have hr := tBody hB hP (cb := cb + 1 + b'.2.2.2.1.length + 1) H7 (by omega) (by omega)
    rw [← hz] at hr
    rcases hy : (pS n tx (d + 1)).2 b (sk n tx b'.1) b'.2.1 b'.2.2.1 (cb + 1 + b'.2.2.2.1.length + 1) b'.2.2.2.2.1 with e | z
    · rw [hy] at hr
      obtain ⟨f', σ', s1, s2, s3, s4⟩ := hr
      exact ⟨f', σ', s1, s2, (F5'.tr (F7 _ _ _ _) (Nat.le_refl _) (Nat.le_refl _) (Nat.le_refl _) (Nat.le_refl _) (Nat.le_refl _)).tr s3 (by omega) (by omega) (by omega) t17 (by omega), s4⟩
    · rw [hy] at hr
      obtain ⟨d1, d2, d3, d4, d5, d6, d7, d8, d9, d10, d11, d12, d13⟩ := (pS_facts (n := n) (tx := tx) (d + 1)).2 _ _ _ _ _ _ _ hsl' hy
      obtain ⟨f9, σ9, g9, nc9, E2, ic, rc, s1, s2, s3, s4, s5, s6, s7, s8, s9, s10, s11, s12, s13, s14, s15, s16, s17, s18, s19, s20, s21, s22⟩ := hr
      rw [s1]
      simp only [eb]
      have hsc := sk_ge (n := n) (tx := tx) ic
      obtain ⟨hltc, etc⟩ := pkc_lt s5 (by decide)
      have hnc1 := nbr_tk hltc
      have hnc2 := nbr_sk (n := n) (tx := tx) ic
      have hnc3 : nbr n tx z.1 = nbr n tx (sk n tx ic + 1) := by rw [s6]
      obtain ⟨f9, rfl⟩ : ∃ e, f9 = e + 1 := ⟨f9 - 1, by omega⟩
      have C9 := tCo_M C7 s8
      rw [rM_cl f9 C9.1 s7 s3 (by omega) s5]
      have M10 := s7.go (sk n tx ic)
      have x18 : (stI σ9 0 6 (nz (sk n tx ic))).1 18 b = 2 := by
        rw [gI, if_neg (by decide), s8.2.2.2.2.2.1 18 b (by omega) (by omega) (by omega)]; exact w18
      have x20 : (stI σ9 0 6 (nz (sk n tx ic))).1 20 b = nz oe := by
        rw [gI, if_neg (by decide), s8.2.2.2.2.2.1 20 b (by omega) (by omega) (by omega)]; exact w20
      obtain ⟨σa, Ma, Fa, ea⟩ := tClB M10 (by omega) x18 rfl x20 (by omega)
      have Fa' : ∀ x y z t u, tMF x y z t u σ9 σa := fun x y z t u => (tMF_I (by omega)).tq (Fa x y z t u)
      rw [ea, if_neg (by decide), if_neg (by decide), wI_e, Ma.B.od, bd_s]
      have F79 : tMF (oe + 1) g8 b nc8 (3 * (dm + dn b'.2.2.2.1)) σ5 σa := ((F7 _ _ _ _).tr s8 (Nat.le_refl _) (Nat.le_refl _) (by omega) (Nat.le_refl _) (Nat.le_refl _)).tq (Fa' _ _ _ _ _)
      have hol2 : ∀ v u, (((8, 0) :: (q.2.2.2.2.map (trS (-1) nm nF) ++ (13, v) :: (E ++ [(14, u)]))) : List (Int32 × Int32)).length = q.2.2.2.2.length + 2 + E.length + 1 := fun v u => by simp; omega
      have Oa : tOA σa o ((8, 0) :: (q.2.2.2.2.map (trS (-1) nm nF) ++ (13, nz (oe + 1)) :: (E ++ [(14, 0)])) ++ E2) := by
        refine tOA_app (tOA_M O5 F79 (by rw [hol2]; omega)) ?_
        rw [hol2, show o + (q.2.2.2.2.length + 2 + E.length + 1) = oe + 1 by omega]
        exact tOA_M s9 (Fa' (oe + 1 + E2.length) 0 0 0 0) (Nat.le_refl _)
      have Ob := tOA_set (A := (8, 0) :: (q.2.2.2.2.map (trS (-1) nm nF) ++ (13, nz (oe + 1)) :: E)) (a := 14) (b := 0) (D := E2) (v := nz (oe + 1 + E2.length)) (p := o) (σ := σa) (by simpa using Oa)
      rw [hol, show o + (q.2.2.2.2.length + 2 + E.length) = oe by omega] at Ob
      have Mb := Ma.oth (a := 3) (j := oe) (v := nz (oe + 1 + E2.length)) (Or.inl ⟨by decide, by decide⟩)
      have Fb : ∀ x y z t, tMF oe x y z t σa (stI σa 3 oe (nz (oe + 1 + E2.length))) := fun x y z t => tMF_I (by omega)
      generalize stI σa 3 oe (nz (oe + 1 + E2.length)) = σb at Ob Mb Fb ⊢
      have F5b : tMF oe g8 b nc8 (3 * (dm + dn b'.2.2.2.1)) σ5 σb := (tMF.rf.tr F79 (by omega) (Nat.le_refl _) (Nat.le_refl _) (Nat.le_refl _) (Nat.le_refl _)).tq (Fb _ _ _ _)
      have hsmb : gSm g g8 σ5 σb := gSm_M F5b (Nat.le_refl _)
      have hsmc : gSm g8 g9 σ9 σb := gSm_M ((Fa' 0 g9 0 0 0).tr (Fb g9 0 0 0) (Nat.zero_le _) (Nat.le_refl _) (Nat.le_refl _) (Nat.le_refl _) (Nat.le_refl _)) (Nat.le_refl _)
      have hdn : ∀ u v, dn ((4, 0, q.2.2.2.2, 0, 0, u) :: (b'.2.2.2.1 ++ (5, 0, [], 0, 0, v) :: z.2.2.2.1)) = dn b'.2.2.2.1 + dn z.2.2.2.1 := by
        intro u v
        rw [dn_cons, dn_app, dn_cons]; simp
      have hol3 : ∀ v u, ((((8, 0) :: (q.2.2.2.2.map (trS (-1) nm nF) ++ (13, v) :: E)) ++ (14, u) :: E2) : List (Int32 × Int32)).length = q.2.2.2.2.length + 2 + E.length + 1 + E2.length := fun v u => by simp; omega
      have Gb := G5.sm hsmb
      have Gc := s15.sm hsmc
      have hE2 := s10
      refine ⟨f9, σb, g9, nc9, _, rfl, by simp only; omega, ?_, F5'.tr F5b (by omega) (by omega) (Nat.le_refl _) t17 (by omega), Ob, ?_, fun hn => ?_, ?_, by omega, by simp only; omega, (Gb.wk (Nat.le_refl _) (by simp only; omega)).app (Gc.wk (by omega) (by simp only; omega)), ?_, by omega, by simp only; omega, ?_, ?_⟩
      · simp only
        rw [hol3, hdn, s6, show o + (q.2.2.2.2.length + 2 + E.length + 1 + E2.length) = oe + 1 + E2.length by omega, ← Nat.add_assoc]
        exact Mb
      · rw [hol3]; simp only [osum, osum_app]; simp [osz]; omega
      · simp only at hn ⊢
        have hn1 := d8.2 hn
        rw [CM_if2 c10 c9 d10 d9 (by omega), ← t10 hn1, show o + 2 + q.2.2.2.2.length + osum b'.2.2.2.1 = oe by omega, ← s11 hn, s10]
        simp
      · simp only
        refine ⟨fun y => absurd y (by simp only; decide), ?_⟩
        simp only [show ¬ ((4 : Int32) = 1) by decide, if_false, Nat.add_zero]
        refine tDn_app _ (tDn_M F5b _ D5 (Nat.le_refl _)) ⟨fun y => absurd y (by simp only; decide), ?_⟩
        simp only [show ¬ ((5 : Int32) = 1) by decide, if_false, Nat.add_zero]
        exact tDn_M ((Fa' 0 0 0 0 (3 * (dm + dn b'.2.2.2.1 + dn z.2.2.2.1))).tr (Fb 0 0 0 (3 * (dm + dn b'.2.2.2.1 + dn z.2.2.2.1))) (Nat.zero_le _) (Nat.le_refl _) (Nat.le_refl _) (Nat.le_refl _) (Nat.le_refl _)) _ s12 (Nat.le_refl _)
      · simp only
        rw [t16, s17, s6]
        have p1 := P5.sm hsmb
        rw [hc] at p1
        have p2 : PF n tx σb g8 g9 (sk n tx b'.1) ic (123 :: rc) := by
          refine PF_pre (c := 123) (by rw [sk_sk]; rw [sk_sk] at g2; exact g2) hn6 (by rw [sk_sk]; exact (pkc_lt hyes (by decide)).2) (by decide) (by decide) (by rw [sk_sk]; omega) s3 ?_ ?_
          · rw [sk_sk, ← g3]; exact Gc
          · rw [sk_sk, ← g3]; exact s16.sm hsmc
        have p3 := PF_br hn6 (by omega) s3 s13 s5 (Gc.wk (by omega) (Nat.le_refl _)) p2
        have p4 := PF_app t12 s13 (by omega) (by omega) (by omega) (Gb.wk (Nat.le_refl _) (by omega)) (Gc.wk (by omega) (by omega)) p1 p3
        simpa using p4
      · simp only; rw [hdn]; omega
      · simp only; rw [hol3]; omega
end
