set_option maxRecDepth 100000
section
variable {tk n : Nat} {tx : Nat → Int32} {nm : Nat → Int32} {nF B : Nat} {sz : Int32} {a1 : Nat}
/-- a variable's statement and what is asked, behind the head -/
theorem tStV {σ σ4 : cS} {i : Nat} {w : Option Nat} {o g b st nc dm : Nat} {ch : List Int32} {cb f : Nat} (hB : B ≤ 9000) (H : tMH B tk n tx nm nF σ i w o g b st nc dm ch (f + 1)) (hv : isI (pk n tx i) 97 102 = true)
    (M4 : tMS σ4 (sk n tx i + 1) (ntb (decide (40 < st + 1)) w (sk n tx i)) (o + 1) g b (st + 1) nc dm ch) (F4 : ∀ x y z t, tMF o x y z t σ σ4) (O4 : tOA σ4 o [(8, 0)]) (hw4 : wG n (ntb (decide (40 < st + 1)) w (sk n tx i))) :
    tMR B a1 sz n tx nm nF σ cb i o g b nc dm (f + 1) (bd (bd (fX11_readVar (pk n tx i - 97) (nz (sk n tx i)) σ4) fun r19 σ18 => ck (bz r19) <| some (r19, σ18)) fun r σ1 => fX11_readModel_31 a1 sz f r 1 σ1) (pAs n tx (pk n tx i - 97) (sk n tx i) (ntb (decide (40 < st + 1)) w (sk n tx i)) (st + 1) ch) := by
  obtain ⟨b1, b2, b3, b4, b5, b6, b7, b8, b9, b10, b11, b12, b13⟩ := H
  have hn6 : n ≤ 600 := b6.1.2.2.2.2.2.1
  have hsg := sk_ge (n := n) (tx := tx) i
  have hsl := sk_le (n := n) (tx := tx) b2
  have hns := nbr_sk (n := n) (tx := tx) i
  obtain ⟨a, ha1, ha2, ea⟩ := isI_lo7 (a := 97) (b := 102) hv (by omega) (by omega)
  have hne : pk n tx i ≠ -1 := by rw [ea]; exact nz_m1 (by omega)
  obtain ⟨hlt, etx⟩ := pkc_ne hne
  have htk := nbr_tk (n := n) (tx := tx) (i := i) hlt
  have C4 := tCo_M b6 (F4 0 0 0 0)
  have hvV : vV (pk n tx i - 97) := ⟨a - 97, by omega, by rw [ea]; exact nz_sub (b := 97) ha1⟩
  have hbk : 97 + (pk n tx i - 97) = pk n tx i := by rw [ea]; rw [show (97 : Int32) = nz 97 from rfl, nz_sub ha1, nz_add]; congr 1; omega
  have hx : isI (pk n tx i) 48 57 = false ∧ bl (pk n tx i) = false := by
    rw [ea]
    have : a = 97 ∨ a = 98 ∨ a = 99 ∨ a = 100 ∨ a = 101 ∨ a = 102 := by omega
    rcases this with h | h | h | h | h | h <;> rw [h] <;> decide
  have hr := tVarS (p := sk n tx i) (v := pk n tx i - 97) hB C4 M4 hlt (by omega) (by omega) hw4 (by omega) (by omega) (by omega) (by omega)
  rcases hq : pAs n tx (pk n tx i - 97) (sk n tx i) (ntb (decide (40 < st + 1)) w (sk n tx i)) (st + 1) ch with e | q
  · rw [hq] at hr
    obtain ⟨σ', r1, r2, r3, r4⟩ := hr
    rw [r1, bd_s, ck_t (by decide), bd_s]
    obtain ⟨f, rfl⟩ : ∃ e, f = e + 1 := ⟨f - 1, by omega⟩
    exact ⟨f, σ', rfl, r2, (F4 _ _ _ _).tr r3 (by omega) (by omega) (by omega) (by omega) (by omega), r4⟩
  · rw [hq] at hr
    obtain ⟨σ', g', nc', E, r1, r2, r3, r4, r5, r6, r7, r8, r9, r10, ⟨L, r11, r12⟩, r13, r14, r15⟩ := hr
    obtain ⟨c1, c2, c3, c4, c5, c6, c7, c8, c9, c10, c11, c12, c13⟩ := pAs_facts (cb := 0) hvV hlt (by omega) hq
    have hnd := nbr_diffA (n := n) (tx := tx) (i := i) (j := q.1) (by omega)
    have hos : osum q.2.2.2.1 ≤ psz q.2.2.2.1 + 3 := by
      obtain ⟨c, hc⟩ := List.length_eq_one_iff.mp c4
      rw [hc]; simp only [osum, psz]
      have := osz_le c; omega
    rw [r1, bd_s, ck_t (by decide), bd_s]
    refine ⟨f, σ', g', nc', (8, 0) :: E, rfl, by omega, ?_, (F4 _ _ _ _).tr r3 (by omega) (by omega) (by omega) (by omega) (by omega), ?_, ?_, fun hn => (r6 hn cb).symm, r7, r8, r9, r10.wk (by omega) (Nat.le_refl _), ?_, r13, r14, r15, ?_⟩
    · rw [List.length_cons, show o + (E.length + 1) = o + 1 + E.length by omega, c3]; exact r2
    · exact tOA_app (E := [(8, 0)]) (tOA_M O4 r3 (by simp)) r4
    · rw [List.length_cons]; exact r5
    · rw [r11, hbk]
      exact PF_pre hlt hn6 (by rw [etx]) hx.1 hx.2 (by omega) c2 r10 r12
    · rw [List.length_cons]; omega
/-- what is asked, behind the head -/
theorem tStQ {σ σ4 : cS} {i : Nat} {w : Option Nat} {o g b st nc dm : Nat} {ch : List Int32} {cb f : Nat} (hB : B ≤ 9000) (H : tMH B tk n tx nm nF σ i w o g b st nc dm ch (f + 1)) (hv : pk n tx i = 35)
    (M4 : tMS σ4 (sk n tx i + 1) (ntb (decide (40 < st + 1)) w (sk n tx i)) (o + 1) g b (st + 1) nc dm ch) (F4 : ∀ x y z t, tMF o x y z t σ σ4) (O4 : tOA σ4 o [(8, 0)]) (hw4 : wG n (ntb (decide (40 < st + 1)) w (sk n tx i))) :
    tMR B a1 sz n tx nm nF σ cb i o g b nc dm (f + 1) (bd (bd (fX11_readE σ4) fun r7 σ6 => if r7 = 0 then (some (0, σ6)) else (bd (fX11_put 12 0 σ6) fun _ σ14 => bd (fX11_take 59 σ14) fun r17 σ16 => ck (bz r17) <| some (r17, σ16))) fun r σ1 => fX11_readModel_31 a1 sz f r 1 σ1) (eb (pSum n tx (-1) (sk n tx i + 1) (ntb (decide (40 < st + 1)) w (sk n tx i))) fun q => eb (pTk n tx 59 q.1) fun e => .ok (e, q.2.1, st + 1, [(3, 0, q.2.2.2.2, 0, 0, 0)], ch, 35 :: (q.2.2.2.1 ++ [59]))) := by
  obtain ⟨b1, b2, b3, b4, b5, b6, b7, b8, b9, b10, b11, b12, b13⟩ := H
  have hn6 : n ≤ 600 := b6.1.2.2.2.2.2.1
  have hsg := sk_ge (n := n) (tx := tx) i
  have hsl := sk_le (n := n) (tx := tx) b2
  have hns := nbr_sk (n := n) (tx := tx) i
  have hne : pk n tx i ≠ -1 := by rw [hv]; decide
  obtain ⟨hlt, etx⟩ := pkc_ne hne
  have htk := nbr_tk (n := n) (tx := tx) (i := i) hlt
  have C4 := tCo_M b6 (F4 0 0 0 0)
  obtain ⟨f, rfl⟩ : ∃ e, f = e + 1 := ⟨f - 1, by omega⟩
  rcases tReadE (i := sk n tx i + 1) hB C4 M4.B (by omega) hw4 (by omega) (by omega) (by omega) with ⟨e, h1, σ', r1, r2, r3, o', r4, r5⟩ | ⟨q, h1, σ5, g', r1, r2, r3, r4, r5, r6, r7, r8⟩
  · rw [h1, r1, bd_s, if_pos rfl, bd_s]
    exact ⟨f, σ', rfl, r2.1, (F4 _ _ _ _).tr (tMF_E r3) (by omega) (by omega) (Nat.le_refl _) (Nat.le_refl _) (Nat.le_refl _), o', by omega, r5⟩
  · obtain ⟨f1, f2, f3, f4, f5, f6⟩ := pSum_facts (by omega) h1
    have hnd := nbr_diffA (n := n) (tx := tx) (i := sk n tx i + 1) (j := q.1) (by omega)
    have M5 := tMS_E M4 r2 r3 f5.2
    have M6 := M5.put 12 0
    rw [h1, r1, bd_s, if_neg (by decide), tPut M5.B.od (by omega), bd_s]
    have F5 : ∀ x y z, tMF o g x y z σ σ5 := fun x y z => (F4 g x y z).tr (tMF_E r3) (by omega) (Nat.le_refl _) (Nat.le_refl _) (Nat.le_refl _) (Nat.le_refl _)
    have F6 : ∀ x y z, tMF o g x y z σ (stO σ5 (o + 1 + q.2.2.2.2.length) 12 0) := fun x y z => (F5 x y z).tq (tMF_O (by omega))
    have C6 := tCo_M b6 (F6 0 0 0)
    have O6 : tOA (stO σ5 (o + 1 + q.2.2.2.2.length) 12 0) o ((8, 0) :: (q.2.2.2.2.map (trS (-1) nm nF) ++ [(12, 0)])) := by
      refine tOA_app (E := [(8, 0)]) (tOA_M (o0 := o + 1) (g0 := 0) (b0 := 0) (c0 := 0) (d0 := 0) (tOA_M O4 (tMF_E (b0 := 0) (c0 := 0) (d0 := 0) r3) (by simp)) (tMF_O (by omega)) (by simp)) (tOA_app ?_ ?_)
      · exact tOA_M (o0 := o + 1 + q.2.2.2.2.length) (g0 := 0) (b0 := 0) (c0 := 0) (d0 := 0) r4 (tMF_O (by omega)) (by simp)
      · rw [List.length_map]; exact tOA_one
    have hsm : gSm g g' σ5 (stO σ5 (o + 1 + q.2.2.2.2.length) 12 0) := gSm_M (o0 := 0) (g0 := g') (b0 := 0) (c0 := 0) (d0 := 0) (tMF_O (by omega)) (Nat.le_refl _)
    have G6 := r7.sm hsm
    have P6 := r8.sm hsm
    simp only [eb]
    generalize stO σ5 (o + 1 + q.2.2.2.2.length) 12 0 = σ6 at M6 F6 C6 O6 G6 P6 ⊢
    rcases tTake 59 (by decide) C6.1 M6.B f2 with ⟨e, t1, t2⟩ | ⟨j, t1, t2⟩
    · rw [t1, t2, bd_s, ck_t (by decide), bd_s]
      exact ⟨f, _, rfl, by simp [gI], ((F6 _ _ _).tq (tMF_I (by omega))).tq (tMF_I (by omega)), o + 1 + q.2.2.2.2.length + 1, by omega, by simpa [gI] using M6.B.od⟩
    · obtain ⟨g1, g2, g3, g4, g5, g6⟩ := pTk_ok (by decide) t1
      rw [t1, t2, bd_s, ck_t (by decide), bd_s]
      have hsj := sk_ge (n := n) (tx := tx) q.1
      have hsm7 : gSm g g' σ6 (stI σ6 0 6 (nz j)) := gSm_M (o0 := 0) (g0 := g') (b0 := 0) (c0 := 0) (d0 := 0) (tMF_I (by omega)) (Nat.le_refl _)
      have hcl : (((8, 0) :: (q.2.2.2.2.map (trS (-1) nm nF) ++ [(12, 0)])) : List (Int32 × Int32)).length = q.2.2.2.2.length + 2 := by simp
      refine ⟨f + 1, _, g', nc, (8, 0) :: (q.2.2.2.2.map (trS (-1) nm nF) ++ [(12, 0)]), rfl, by simp only; omega, ?_, (F6 _ _ _).tq (tMF_I (by omega)), tOA_M (o0 := o + 1 + q.2.2.2.2.length + 1) (g0 := 0) (b0 := 0) (c0 := 0) (d0 := 0) O6 (tMF_I (by omega)) (by rw [hcl]; omega), ?_, fun hn => ?_, ?_, r5, by simp only; omega, (G6.sm hsm7).wk (by omega) (by simp only; omega), ?_, Nat.le_refl _, by simp only; omega, ?_, ?_⟩
      · rw [hcl, show o + (q.2.2.2.2.length + 2) = o + 1 + q.2.2.2.2.length + 1 by omega]
        simpa [dn] using M6.go j
      · rw [hcl]; simp [osum, osz]
      · simp [CM, cmpl, ord1]
      · exact ⟨fun y => absurd y (by simp only; decide), trivial⟩
      · simp only
        refine PF_pre hlt hn6 (by rw [etx, hv]) (by decide) (by decide) (by omega) (by omega) ((G6.sm hsm7).wk (Nat.le_refl _) (by omega)) ?_
        rw [g3]
        rw [g3] at hsm7
        exact PF_semi (by omega) g2 hn6 (pkc_lt g1 (by decide)).2 (by decide) (by decide) (G6.sm hsm7) (P6.sm hsm7)
      · simp [dn]; omega
      · rw [hcl]; simp only; omega
end
