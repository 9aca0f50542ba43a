set_option maxRecDepth 100000
section
variable {tk n : Nat} {tx : Nat → Int32} {nm : Nat → Int32} {nF B : Nat} {sz : Int32} {a1 : Nat}
theorem PF_sk {σ : cS} {g g' i j : Nat} {L : List Int32} (hij : i ≤ j) (h : PF n tx σ g g' i j L) : PF n tx σ g g' i (sk n tx j) L := by
  intro D hD
  have hsg := sk_ge (n := n) (tx := tx) j
  rw [h D (hD.sub (Nat.le_refl _) hsg), out_sk (i := j) (fun y y1 y2 => by rw [hD y (by omega) y2, (sk_blank y1 y2).2]; rfl)]
/-- the printed } -/
theorem PF_br {σ : cS} {g i ib : Nat} {g' : Nat} {L : List Int32} (hn6 : n ≤ 600) (hi : i ≤ ib) (hib : ib ≤ n) (hgg : g ≤ g') (hp : pk n tx ib = 125) (hG : GI σ g g' i ib) (h : PF n tx σ g g' i ib L) : PF n tx σ g g' i (sk n tx ib + 1) (L ++ [125]) := by
  obtain ⟨hlt, etx⟩ := pkc_lt hp (by decide)
  have hsg := sk_ge (n := n) (tx := tx) ib
  refine PF_app hgg (Nat.le_refl _) hi (by omega) (by omega) hG GI_nil h (PF_pre hlt hn6 etx (by decide) (by decide) (Nat.le_refl _) (by omega) GI_nil (fun D _ => rfl))
theorem oset {σ : cS} {o : Nat} {E : List (Int32 × Int32)} {y : List (Int32 × Int32)} {v : Int32} (h : tOA σ o ((8, 0) :: (y ++ (13, 0) :: E))) : tOA (stI σ 3 (o + 1 + y.length) v) o ((8, 0) :: (y ++ (13, v) :: E)) := by
  have := tOA_set (A := (8, 0) :: y) (a := 13) (b := 0) (v := v) (D := E) (p := o) (σ := σ) (by simpa using h)
  rw [List.length_cons, show o + (y.length + 1) = o + 1 + y.length by omega] at this
  simpa using this
theorem tCloseL {σ : cS} {i : Nat} {w : Option Nat} {o g b st nc dm : Nat} {ch : List Int32} {cb f d : Nat} {q : ET} {b' : ST} {f8 : Nat} {σ8 : cS} {g8 nc8 : Nat} {E : List (Int32 × Int32)} {ib : Nat} {rb : List Int32} (hB : B ≤ 9000) (H : tMH B tk n tx nm nF σ i w o g b st nc dm ch (f + 1)) (hcb : cb ≤ 2 * st) (hc : pk n tx i = 64)
    (hG : GB n tx q.1 q.2.1 (st + 1) (cb + 1) ch b') (T : tTS B n tx nm nF σ i o g b nc dm cb f 3 q b' f8 σ8 g8 nc8 E ib rb) :
    tMR B a1 sz n tx nm nF σ cb i o g b nc dm (f + 1) (fX11_readModel_31 a1 sz f8 1 1 σ8) (.ok (b'.1, b'.2.1, b'.2.2.1, (4, 0, q.2.2.2.2, 0, 0, nz (cb + 1 + b'.2.2.2.1.length + 1)) :: (b'.2.2.2.1 ++ [(5, 0, [], 0, 0, nz cb)]), b'.2.2.2.2.1, 64 :: (q.2.2.2.1 ++ b'.2.2.2.2.2))) := by
  obtain ⟨b1, b2, b3, b4, b5, b6, b7, b8, b9, b10, b11, b12, b13⟩ := H
  obtain ⟨⟨t1, t2, t3, t4, t5⟩, t6, t7, t8, t9, t10, t11, ⟨t12, t13, t14, t15, t16⟩, ⟨t17, t18, t19, t20, t21⟩, t22, t23, t24⟩ := T
  obtain ⟨c1, c2, c3, c4, c5, c6, c7, c8, c9, c10, c11, c12, c13⟩ := hG
  have hn6 : n ≤ 600 := b6.1.2.2.2.2.2.1
  have hsg := sk_ge (n := n) (tx := tx) i
  have hsb := sk_ge (n := n) (tx := tx) ib
  obtain ⟨hlt, etx⟩ := pkc_lt t4 (by decide)
  have hnb := nbr_tk hlt
  have hnb2 := nbr_sk (n := n) (tx := tx) ib
  have hnb3 : nbr n tx b'.1 = nbr n tx (sk n tx ib + 1) := by rw [t5]
  obtain ⟨f8, rfl⟩ : ∃ e, f8 = e + 1 := ⟨f8 - 1, by omega⟩
  have C8 := tCo_M b6 t7
  rw [rM_cl f8 C8.1 t6 t2 (by omega) t4]
  have M9 := t6.go (sk n tx ib)
  have e18 : (stI σ8 0 6 (nz (sk n tx ib))).1 18 b = 3 := by simpa [gI] using t22
  have e19 : (stI σ8 0 6 (nz (sk n tx ib))).1 19 b = nz o := by simpa [gI] using t23
  have e20 : (stI σ8 0 6 (nz (sk n tx ib))).1 20 b = nz (o + 1 + q.2.2.2.2.length) := by simpa [gI] using t24
  obtain ⟨σ2, M2, F2, e2⟩ := tClB M9 (by omega) e18 e19 e20 (by omega)
  rw [e2, if_pos rfl, tPut M2.B.od (by omega), bd_s, wI_e, bd_s]
  have F2' : ∀ x y z t u, tMF x y z t u σ8 σ2 := fun x y z t u => (tMF_I (by omega)).tq (F2 x y z t u)
  have M3 := M2.put 14 (nz o)
  rw [M3.B.od]
  have hol : ∀ v, (((8, 0) :: (q.2.2.2.2.map (trS (-1) nm nF) ++ (13, v) :: E)) : List (Int32 × Int32)).length = q.2.2.2.2.length + 2 + E.length := fun v => by simp; omega
  have O3 : tOA (stO σ2 (o + 2 + q.2.2.2.2.length + E.length) 14 (nz o)) o ((8, 0) :: (q.2.2.2.2.map (trS (-1) nm nF) ++ (13, 0) :: (E ++ [(14, nz o)]))) := by
    rw [show (8, 0) :: (q.2.2.2.2.map (trS (-1) nm nF) ++ (13, 0) :: (E ++ [(14, nz o)])) = ((8, 0) :: (q.2.2.2.2.map (trS (-1) nm nF) ++ (13, 0) :: E)) ++ [(14, nz o)] by simp]
    refine tOA_app (tOA_M (o0 := o + 2 + q.2.2.2.2.length + E.length) (g0 := 0) (b0 := 0) (c0 := 0) (d0 := 0) (tOA_M t8 (F2' (o + 2 + q.2.2.2.2.length + E.length) 0 0 0 0) (by rw [hol]; omega)) (tMF_O (Nat.le_refl _)) (by rw [hol]; omega)) ?_
    rw [hol, show o + (q.2.2.2.2.length + 2 + E.length) = o + 2 + q.2.2.2.2.length + E.length by omega]
    exact tOA_one
  have O4 := oset (v := nz (o + 2 + q.2.2.2.2.length + E.length + 1)) O3
  rw [List.length_map] at O4
  have M4 := M3.oth (a := 3) (j := o + 1 + q.2.2.2.2.length) (v := nz (o + 2 + q.2.2.2.2.length + E.length + 1)) (Or.inl ⟨by decide, by decide⟩)
  have F4 : ∀ y z t u, tMF o y z t u σ8 (stI (stO σ2 (o + 2 + q.2.2.2.2.length + E.length) 14 (nz o)) 3 (o + 1 + q.2.2.2.2.length) (nz (o + 2 + q.2.2.2.2.length + E.length + 1))) := fun y z t u => ((F2' o y z t u).tq (tMF_O (by omega))).tq (tMF_I (by omega))
  generalize stI (stO σ2 (o + 2 + q.2.2.2.2.length + E.length) 14 (nz o)) 3 (o + 1 + q.2.2.2.2.length) (nz (o + 2 + q.2.2.2.2.length + E.length + 1)) = σ9 at O4 M4 F4 ⊢
  have hsm : gSm g g8 σ8 σ9 := gSm_M (F4 g8 0 0 0) (Nat.le_refl _)
  have hdn : dn ((4, 0, q.2.2.2.2, 0, 0, nz (cb + 1 + b'.2.2.2.1.length + 1)) :: (b'.2.2.2.1 ++ [(5, 0, [], 0, 0, nz cb)])) = dn b'.2.2.2.1 := by
    rw [dn_cons, dn_app, dn_cons]; simp [dn]
  have hol2 : ∀ v, (((8, 0) :: (q.2.2.2.2.map (trS (-1) nm nF) ++ (13, v) :: (E ++ [(14, nz o)]))) : List (Int32 × Int32)).length = q.2.2.2.2.length + 2 + E.length + 1 := fun v => by simp; omega
  refine ⟨f8, σ9, g8, nc8, _, rfl, by simp only; omega, ?_, t7.tr (F4 _ _ _ _) (Nat.le_refl _) t12 (Nat.le_refl _) t17 (Nat.le_refl _), O4, ?_, fun hn => ?_, ?_, t12, by simp only; omega, (t14.sm hsm).wk (Nat.le_refl _) (by simp only; omega), ?_, t17, by simp only; omega, ?_, ?_⟩
  · simp only
    rw [hol2, hdn, t5, show o + (q.2.2.2.2.length + 2 + E.length + 1) = o + 2 + q.2.2.2.2.length + E.length + 1 by omega]
    exact M4
  · rw [hol2]; simp only [osum, osum_app]; simp [osz]; omega
  · simp only at hn ⊢
    rw [CM_loop c10 c9 (by omega), ← t10 hn, t9]
  · simp only
    refine ⟨fun y => absurd y (by simp only; decide), ?_⟩
    simp only [show ¬ ((4 : Int32) = 1) by decide, if_false, Nat.add_zero]
    exact tDn_app _ (tDn_M (F4 0 0 0 (3 * (dm + dn b'.2.2.2.1))) _ t11 (Nat.le_refl _)) ⟨fun y => absurd y (by simp only; decide), trivial⟩
  · simp only
    rw [t16, t5]
    have := PF_br hn6 (by omega) t2 t12 t4 (t14.sm hsm) (t15.sm hsm)
    rw [hc] at this
    simpa using this
  · simp only; rw [hdn]; omega
  · simp only; rw [hol2]; omega
theorem tCloseI {σ : cS} {i : Nat} {w : Option Nat} {o g b st nc dm : Nat} {ch : List Int32} {cb f : Nat} {q : ET} {b' : ST} {f8 : Nat} {σ8 : cS} {g8 nc8 : Nat} {E : List (Int32 × Int32)} {ib : Nat} {rb : List Int32} (hB : B ≤ 9000) (H : tMH B tk n tx nm nF σ i w o g b st nc dm ch (f + 1)) (hcb : cb ≤ 2 * st) (hc : pk n tx i = 63)
    (hG : GB n tx q.1 q.2.1 (st + 1) (cb + 1) ch b') (T : tTS B n tx nm nF σ i o g b nc dm cb f 1 q b' f8 σ8 g8 nc8 E ib rb) (hno : pk n tx b'.1 ≠ 123) :
    tMR B a1 sz n tx nm nF σ cb i o g b nc dm (f + 1) (fX11_readModel_31 a1 sz f8 1 1 σ8) (.ok (sk n tx b'.1, b'.2.1, b'.2.2.1, (4, 0, q.2.2.2.2, 0, 0, nz (cb + 1 + b'.2.2.2.1.length)) :: b'.2.2.2.1, b'.2.2.2.2.1, 63 :: (q.2.2.2.1 ++ b'.2.2.2.2.2))) := by
  obtain ⟨b1, b2, b3, b4, b5, b6, b7, b8, b9, b10, b11, b12, b13⟩ := H
  obtain ⟨⟨t1, t2, t3, t4, t5⟩, t6, t7, t8, t9, t10, t11, ⟨t12, t13, t14, t15, t16⟩, ⟨t17, t18, t19, t20, t21⟩, t22, t23, t24⟩ := T
  obtain ⟨c1, c2, c3, c4, c5, c6, c7, c8, c9, c10, c11, c12, c13⟩ := hG
  have hn6 : n ≤ 600 := b6.1.2.2.2.2.2.1
  have hsg := sk_ge (n := n) (tx := tx) i
  have hsb := sk_ge (n := n) (tx := tx) ib
  obtain ⟨hlt, etx⟩ := pkc_lt t4 (by decide)
  have hnb := nbr_tk hlt
  have hnb2 := nbr_sk (n := n) (tx := tx) ib
  have hnb3 : nbr n tx b'.1 = nbr n tx (sk n tx ib + 1) := by rw [t5]
  have hnb4 := nbr_sk (n := n) (tx := tx) b'.1
  have hsb' := sk_ge (n := n) (tx := tx) b'.1
  have hsl' := sk_le (n := n) (tx := tx) c2
  obtain ⟨f8, rfl⟩ : ∃ e, f8 = e + 1 := ⟨f8 - 1, by omega⟩
  have C8 := tCo_M b6 t7
  rw [rM_cl f8 C8.1 t6 t2 (by omega) t4]
  have M9 := t6.go (sk n tx ib)
  have e18 : (stI σ8 0 6 (nz (sk n tx ib))).1 18 b = 1 := by simpa [gI] using t22
  have e20 : (stI σ8 0 6 (nz (sk n tx ib))).1 20 b = nz (o + 1 + q.2.2.2.2.length) := by simpa [gI] using t24
  obtain ⟨σ2, M2, F2, e2⟩ := tClB M9 (by omega) e18 rfl e20 (by omega)
  have F2' : ∀ x y z t u, tMF x y z t u σ8 σ2 := fun x y z t u => (tMF_I (by omega)).tq (F2 x y z t u)
  rw [← t5] at M2
  have C2 := tCo_M C8 (F2' 0 0 0 0 0)
  rw [e2, if_neg (by decide), if_pos rfl, tLook C2.1 M2.B.at c2, bd_s, if_neg hno, wI_e, bd_s]
  have M3 := M2.go (sk n tx b'.1)
  rw [M3.B.od]
  have hol : ∀ v, (((8, 0) :: (q.2.2.2.2.map (trS (-1) nm nF) ++ (13, v) :: E)) : List (Int32 × Int32)).length = q.2.2.2.2.length + 2 + E.length := fun v => by simp; omega
  have O3 : tOA (stI σ2 0 6 (nz (sk n tx b'.1))) o ((8, 0) :: (q.2.2.2.2.map (trS (-1) nm nF) ++ (13, 0) :: E)) := 
    tOA_M (o0 := o + 2 + q.2.2.2.2.length + E.length) (g0 := 0) (b0 := 0) (c0 := 0) (d0 := 0) (tOA_M t8 (F2' (o + 2 + q.2.2.2.2.length + E.length) 0 0 0 0) (by rw [hol]; omega)) (tMF_I (by omega)) (by rw [hol]; omega)
  have O4 := oset (v := nz (o + 2 + q.2.2.2.2.length + E.length)) O3
  rw [List.length_map] at O4
  have M4 := M3.oth (a := 3) (j := o + 1 + q.2.2.2.2.length) (v := nz (o + 2 + q.2.2.2.2.length + E.length)) (Or.inl ⟨by decide, by decide⟩)
  have F4 : ∀ y z t u, tMF o y z t u σ8 (stI (stI σ2 0 6 (nz (sk n tx b'.1))) 3 (o + 1 + q.2.2.2.2.length) (nz (o + 2 + q.2.2.2.2.length + E.length))) := fun y z t u => ((F2' o y z t u).tq (tMF_I (by omega))).tq (tMF_I (by omega))
  generalize stI (stI σ2 0 6 (nz (sk n tx b'.1))) 3 (o + 1 + q.2.2.2.2.length) (nz (o + 2 + q.2.2.2.2.length + E.length)) = σ9 at O4 M4 F4 ⊢
  have hsm : gSm g g8 σ8 σ9 := gSm_M (F4 g8 0 0 0) (Nat.le_refl _)
  have hdn : dn ((4, 0, q.2.2.2.2, 0, 0, nz (cb + 1 + b'.2.2.2.1.length)) :: b'.2.2.2.1) = dn b'.2.2.2.1 := by
    rw [dn_cons]; simp
  refine ⟨f8, σ9, g8, nc8, _, rfl, by simp only; omega, ?_, t7.tr (F4 _ _ _ _) (Nat.le_refl _) t12 (Nat.le_refl _) t17 (Nat.le_refl _), O4, ?_, fun hn => ?_, ?_, t12, by simp only; omega, (t14.sm hsm).wk (Nat.le_refl _) (by simp only; omega), ?_, t17, by simp only; omega, ?_, ?_⟩
  · simp only
    rw [hol, hdn, show o + (q.2.2.2.2.length + 2 + E.length) = o + 2 + q.2.2.2.2.length + E.length by omega]
    exact M4
  · rw [hol]; simp only [osum]; simp [osz]; omega
  · simp only at hn ⊢
    rw [CM_if1 c10 c9 (by omega), ← t10 hn, t9]
  · simp only
    refine ⟨fun y => absurd y (by simp only; decide), ?_⟩
    simp only [show ¬ ((4 : Int32) = 1) by decide, if_false, Nat.add_zero]
    exact tDn_M (F4 0 0 0 (3 * (dm + dn b'.2.2.2.1))) _ t11 (Nat.le_refl _)
  · simp only
    refine PF_sk (by omega) ?_
    rw [t16, t5]
    have := PF_br hn6 (by omega) t2 t12 t4 (t14.sm hsm) (t15.sm hsm)
    rw [hc] at this
    simpa using this
  · simp only; rw [hdn]; omega
  · simp only; rw [hol]; omega
end
