set_option maxRecDepth 100000
section
variable {tk n : Nat} {tx : Nat → Int32} {nm : Nat → Int32} {nF B : Nat} {sz : Int32} {a1 : Nat}
/-- a test stands and its block is read up to its } -/
def tTS (B n : Nat) (tx : Nat → Int32) (nm : Nat → Int32) (nF : Nat) (σ : cS) (i o g b nc dm cb f : Nat) (so : Int32) (q : ET) (b' : ST) (f8 : Nat) (σ8 : cS) (g8 nc8 : Nat) (E : List (Int32 × Int32)) (ib : Nat) (rb : List Int32) : Prop :=
  (f + 1 + nbr n tx ib ≤ f8 + nbr n tx i ∧ ib ≤ n ∧ sk n tx i < ib ∧ pk n tx ib = 125 ∧ b'.1 = sk n tx ib + 1) ∧
  tMS σ8 ib b'.2.1 (o + 2 + q.2.2.2.2.length + E.length) g8 (b + 1) b'.2.2.1 nc8 (dm + dn b'.2.2.2.1) b'.2.2.2.2.1 ∧ tMF o g b nc (3 * dm) σ σ8 ∧ tOA σ8 o ((8, 0) :: (q.2.2.2.2.map (trS (-1) nm nF) ++ (13, 0) :: E)) ∧ E.length = osum b'.2.2.2.1 ∧ (b'.2.1 = none → E = CM (trS (-1) nm nF) (o + 2 + q.2.2.2.2.length) (cb + 1) dm b'.2.2.2.1) ∧ tDn σ8 dm b'.2.2.2.1 ∧
  (g ≤ g8 ∧ g8 ≤ ib ∧ GI σ8 g g8 i ib ∧ PF n tx σ8 g g8 i ib (pk n tx i :: (q.2.2.2.1 ++ 123 :: rb)) ∧ b'.2.2.2.2.2 = 123 :: (rb ++ [125])) ∧
  (nc ≤ nc8 ∧ 2 * nc8 ≤ ib ∧ 3 * (dm + dn b'.2.2.2.1) ≤ ib ∧ o + 2 + q.2.2.2.2.length + E.length ≤ B + 3 * ib ∧ b'.2.2.1 ≤ ib) ∧
  σ8.1 18 b = so ∧ σ8.1 19 b = nz o ∧ σ8.1 20 b = nz (o + 1 + q.2.2.2.2.length)
theorem tTest {σ σ4 : cS} {i : Nat} {w : Option Nat} {o g b st nc dm : Nat} {ch : List Int32} {cb f d : Nat} {so : Int32} (hB : B ≤ 9000) (hP : tPS B tk n tx nm nF a1 sz d) (H : tMH B tk n tx nm nF σ i w o g b st nc dm ch (f + 1)) (hcb : cb ≤ 2 * st) (hd : 2 * nbr n tx i ≤ 3 * (d + 1)) (hlt : sk n tx i < n) (hx : isI (pk n tx i) 48 57 = false ∧ bl (pk n tx i) = false)
    (M4 : tMS σ4 (sk n tx i + 1) (ntb (decide (40 < st + 1)) w (sk n tx i)) (o + 1) g b (st + 1) nc dm ch) (F4 : ∀ x y z t, tMF o x y z t σ σ4) (O4 : tOA σ4 o [(8, 0)]) (hw4 : wG n (ntb (decide (40 < st + 1)) w (sk n tx i))) (K' : ET → ST → SR)
    (hK : ∀ q b' f8 σ8 g8 nc8 E ib rb, pSum n tx (-1) (sk n tx i + 1) (ntb (decide (40 < st + 1)) w (sk n tx i)) = .ok q → (pS n tx (d + 1)).2 b q.1 q.2.1 (st + 1) (cb + 1) ch = .ok b' → tTS B n tx nm nF σ i o g b nc dm cb f so q b' f8 σ8 g8 nc8 E ib rb → tMR B a1 sz n tx nm nF σ cb i o g b nc dm (f + 1) (fX11_readModel_31 a1 sz f8 1 1 σ8) (K' q b')) :
    tMR B a1 sz n tx nm nF σ cb i o g b nc dm (f + 1) (bd (bd (fX11_readE σ4) fun r7 σ6 => if r7 = 0 then (some (0, σ6)) else bd (fX11_put 13 0 σ6) fun _ σ8 => bd (fX11_openBlock so (nz o) ((σ8.1 0 11) - 1) σ8) fun r13 σ12 => ck (bz r13) <| some (r13, σ12)) fun r σ1 => fX11_readModel_31 a1 sz f r 1 σ1) (eb (pSum n tx (-1) (sk n tx i + 1) (ntb (decide (40 < st + 1)) w (sk n tx i))) fun q => eb ((pS n tx (d + 1)).2 b q.1 q.2.1 (st + 1) (cb + 1) ch) fun b' => K' q b') := by
  obtain ⟨b1, b2, b3, b4, b5, b6, b7, b8, b9, b10, b11, b12, b13⟩ := H
  have hn6 : n ≤ 600 := b6.1.2.2.2.2.2.1
  have hsg := sk_ge (n := n) (tx := tx) i
  have hsl := sk_le (n := n) (tx := tx) b2
  have hns := nbr_sk (n := n) (tx := tx) i
  have htk := nbr_tk (n := n) (tx := tx) (i := i) hlt
  have C4 := tCo_M b6 (F4 0 0 0 0)
  obtain ⟨f, rfl⟩ : ∃ e, f = e + 1 := ⟨f - 1, by omega⟩
  have hwm4 : wM w (ntb (decide (40 < st + 1)) w (sk n tx i)) := wM_ntb
  rcases tReadE (i := sk n tx i + 1) hB C4 M4.B (by omega) hw4 (by omega) (by omega) (by omega) with ⟨e, h1, σ', r1, r2, r3, o', r4, r5⟩ | ⟨q, h1, σ5, g', r1, r2, r3, r4, r5, r6, r7, r8⟩
  · rw [h1, r1, bd_s, if_pos rfl, bd_s]
    exact ⟨f, σ', rfl, r2.1, (F4 _ _ _ _).tr (tMF_E r3) (by omega) (by omega) (Nat.le_refl _) (Nat.le_refl _) (Nat.le_refl _), o', by omega, r5⟩
  · obtain ⟨f1, f2, f3, f4, f5, f6⟩ := pSum_facts (by omega) h1
    have hwm := hwm4.tr (pSum_m h1)
    have hp0 := f4.cl.1
    have hnd := nbr_diffA (n := n) (tx := tx) (i := sk n tx i + 1) (j := q.1) (by omega)
    have M5 := tMS_E M4 r2 r3 f5.2
    have M6 := M5.put 13 0
    rw [r1, bd_s, if_neg (by decide), tPut M5.B.od (by omega), bd_s]
    have F5 : ∀ x y z, tMF o g x y z σ σ5 := fun x y z => (F4 g x y z).tr (tMF_E r3) (by omega) (Nat.le_refl _) (Nat.le_refl _) (Nat.le_refl _) (Nat.le_refl _)
    have F6 : ∀ x y z, tMF o g x y z σ (stO σ5 (o + 1 + q.2.2.2.2.length) 13 0) := fun x y z => (F5 x y z).tq (tMF_O (by omega))
    have C6 := tCo_M b6 (F6 0 0 0)
    have O6 : tOA (stO σ5 (o + 1 + q.2.2.2.2.length) 13 0) o ((8, 0) :: (q.2.2.2.2.map (trS (-1) nm nF) ++ [(13, 0)])) := by
      refine tOA_app (E := [(8, 0)]) (tOA_M (o0 := o + 1) (g0 := 0) (b0 := 0) (c0 := 0) (d0 := 0) (tOA_M O4 (tMF_E (b0 := 0) (c0 := 0) (d0 := 0) r3) (by simp)) (tMF_O (by omega)) (by simp)) (tOA_app ?_ ?_)
      · exact tOA_M (o0 := o + 1 + q.2.2.2.2.length) (g0 := 0) (b0 := 0) (c0 := 0) (d0 := 0) r4 (tMF_O (by omega)) (by simp)
      · rw [List.length_map]; exact tOA_one
    have hsm : gSm g g' σ5 (stO σ5 (o + 1 + q.2.2.2.2.length) 13 0) := gSm_M (o0 := 0) (g0 := g') (b0 := 0) (c0 := 0) (d0 := 0) (tMF_O (by omega)) (Nat.le_refl _)
    have G6 := r7.sm hsm
    have P6 := r8.sm hsm
    have hcl : (((8, 0) :: (q.2.2.2.2.map (trS (-1) nm nF) ++ [(13, 0)])) : List (Int32 × Int32)).length = q.2.2.2.2.length + 2 := by simp
    rw [h1]
    simp only [eb]
    generalize stO σ5 (o + 1 + q.2.2.2.2.length) 13 0 = σ6 at M6 F6 C6 O6 G6 P6 ⊢
    rw [M6.B.od, nz_ps]
    rcases tOpenBl so (nz o) (nz (o + 1 + q.2.2.2.2.length)) C6.1 M6 f2 (by omega) (f5.1 hw4) (bW_m b5 hwm (by omega)) with ⟨e, t1, t2⟩ | ⟨j, t1, σ7, t2, M7, F7, e18, e19, e20, hbw⟩
    · have hz : (pS n tx (d + 1)).2 b q.1 q.2.1 (st + 1) (cb + 1) ch = .error e := by
        show eb (pTk n tx 123 q.1) _ = _
        rw [t1]; rfl
      rw [hz, t2, bd_s, ck_t (by decide), bd_s]
      exact ⟨f, _, rfl, by simp [gI], ((F6 _ _ _).tq (tMF_I (by omega))).tq (tMF_I (by omega)), o + 1 + q.2.2.2.2.length + 1, by omega, by simpa [gI] using M6.B.od⟩
    · obtain ⟨g1, g2, g3, g4, g5, g6⟩ := pTk_ok (by decide) t1
      have hz : (pS n tx (d + 1)).2 b q.1 q.2.1 (st + 1) (cb + 1) ch = pBlp n tx (pS n tx d).1 b FU j (ntb (decide (5 ≤ b)) q.2.1 (j - 1)) (st + 1) (cb + 1) [] ch [123] := by
        show eb (pTk n tx 123 q.1) _ = _
        rw [t1]; rfl
      rw [t2, bd_s, ck_t (by decide), bd_s]
      have hsj := sk_ge (n := n) (tx := tx) q.1
      have C7 := tCo_M C6 (F7 0 0 0 0)
      have H7 : tMH B tk n tx nm nF σ7 j (ntb (decide (5 ≤ b)) q.2.1 (j - 1)) (o + 1 + q.2.2.2.2.length + 1) g' (b + 1) (st + 1) nc dm ch (f + 1) := ⟨by omega, g5, by omega, wG_ntb (f5.1 hw4) (by omega), hbw, C7, M7, by omega, by omega, by omega, by omega, by omega, by omega⟩
      have hr := tBody hB hP (cb := cb + 1) H7 (by omega) (by omega)
      rw [← hz] at hr
      have hwt := hz
      rcases hy : (pS n tx (d + 1)).2 b q.1 q.2.1 (st + 1) (cb + 1) ch with e | b'
      · rw [hy] at hr
        obtain ⟨f', σ', s1, s2, s3, s4⟩ := hr
        exact ⟨f', σ', s1, s2, ((F6 _ _ _).tr (F7 _ _ _ _) (Nat.le_refl _) (Nat.le_refl _) (Nat.le_refl _) (Nat.le_refl _) (Nat.le_refl _)).tr s3 (by omega) (by omega) (by omega) (Nat.le_refl _) (Nat.le_refl _), s4⟩
      · rw [hy] at hr
        obtain ⟨f8, σ8, g8, nc8, E, ib, rb, s1, s2, s3, s4, s5, s6, s7, s8, s9, s10, s11, s12, s13, s14, s15, s16, s17, s18, s19, s20, s21, s22⟩ := hr
        rw [s1]
        have hnd2 := nbr_diffA (n := n) (tx := tx) (i := sk n tx i + 1) (j := j) (by omega)
        have F68 : tMF (o + 2 + q.2.2.2.2.length) g' b nc (3 * dm) σ6 σ8 := (F7 _ _ _ _).tr s8 (by omega) (by omega) (by omega) (Nat.le_refl _) (Nat.le_refl _)
        have hsm8 : gSm g g' σ6 σ8 := gSm_M F68 (Nat.le_refl _)
        have G8 := G6.sm hsm8
        have P8 := P6.sm hsm8
        refine hK q b' f8 σ8 g8 nc8 E ib rb h1 hy ⟨⟨by omega, s3, by omega, s5, s6⟩, ?_, (F6 _ _ _).tr F68 (by omega) (by omega) (Nat.le_refl _) (Nat.le_refl _) (Nat.le_refl _), ?_, s10, fun hn => ?_, s12, ⟨by omega, s14, ?_, ?_, s17⟩, ⟨s18, s19, s20, by omega, s22⟩, ?_, ?_, ?_⟩
        · rw [show o + 2 + q.2.2.2.2.length + E.length = o + 1 + q.2.2.2.2.length + 1 + E.length by omega]; exact s7
        · rw [show (8, 0) :: (q.2.2.2.2.map (trS (-1) nm nF) ++ (13, 0) :: E) = ((8, 0) :: (q.2.2.2.2.map (trS (-1) nm nF) ++ [(13, 0)])) ++ E by simp]
          refine tOA_app (tOA_M O6 F68 (by rw [hcl]; omega)) ?_
          rw [hcl, show o + (q.2.2.2.2.length + 2) = o + 1 + q.2.2.2.2.length + 1 by omega]
          exact s9
        · rw [s11 hn, show o + 1 + q.2.2.2.2.length + 1 = o + 2 + q.2.2.2.2.length by omega]
        · exact (G8.wk (by omega) (by omega)).app (s15.wk (by omega) (Nat.le_refl _))
        · have ej := (pkc_lt g1 (by decide)).2
          have p1 := PF_semi (by omega) g2 hn6 ej (by decide) (by decide) G8 P8
          rw [← g3] at p1
          have p2 := PF_app r5 s13 (by omega) s4 (by omega) (G8.wk (Nat.le_refl _) (by omega)) s15 p1 s16
          rw [List.append_assoc] at p2
          exact PF_pre hlt hn6 (by unfold pk; rw [if_pos hlt]) hx.1 hx.2 (by omega) s3 ((G8.wk (Nat.le_refl _) (by omega)).app (s15.wk (by omega) (Nat.le_refl _))) p2
        · rw [s8.2.2.2.2.2.1 18 b (by omega) (by omega) (by omega)]; exact e18
        · rw [s8.2.2.2.2.2.1 19 b (by omega) (by omega) (by omega)]; exact e19
        · rw [s8.2.2.2.2.2.1 20 b (by omega) (by omega) (by omega)]; exact e20
end
