set_option maxRecDepth 100000
theorem osum_le (C : List Cd) : osum C ≤ psz C + 3 * C.length := by
  induction C with
  | nil => simp [osum]
  | cons c C ih =>
    simp only [osum, psz, List.length_cons]
    have : osz c ≤ c.2.2.1.length + 3 := by
      unfold osz
      split
      · omega
      · split <;> omega
    omega
theorem tFns_f {σ σ' : cS} (h15 : σ'.1 15 = σ.1 15) (h16 : ∀ j, σ'.1 16 j = σ.1 16 j) (h17 : ∀ j, σ'.1 17 j = σ.1 17 j) {o1 : Nat} (h2 : ∀ j, j < o1 → σ'.1 2 j = σ.1 2 j) (h3 : ∀ j, j < o1 → σ'.1 3 j = σ.1 3 j) (F : List Fn) : ∀ {k o : Nat}, o + fo F ≤ o1 → tFns σ k o F → tFns σ' k o F := by
  induction F with
  | nil => intro k o _ _; trivial
  | cons f F ih =>
    intro k o ho h
    simp only [fo] at ho
    obtain ⟨⟨a1, a2, a3, a4⟩, a5⟩ := h
    refine ⟨⟨by rw [h15]; exact a1, by rw [h16]; exact a2, by rw [h17]; exact a3, fun j e hj => ?_⟩, ih (by omega) a5⟩
    have hjl := (List.getElem?_eq_some_iff.mp hj).1
    rw [List.length_append, List.length_map, List.length_singleton] at hjl
    rw [h15] at hj
    rw [h2 _ (by omega), h3 _ (by omega)]
    exact a4 j e hj
section
variable {f n1 : Nat} {tx1 : Nat → Int32} {n2 : Nat} {tx2 : Nat → Int32} {n3 : Nat} {tx3 : Nat → Int32} {R : List Int32} {cs : Nat → Int32} {C : List Cd} {ch : List Int32} {F : List Fn} {Y : List Sy} {r1 r3 : List Int32}
theorem tTe_f {t t' : cS} {A S n : Nat} {tx : Nat → Int32} (h : tTe t A S f n tx) (h1 : ∀ j, t'.1 A j = t.1 A j) (h2 : ∀ j, t'.1 S j = t.1 S j) : tTe t' A S f n tx := by
  obtain ⟨a1, a2, a3, a4⟩ := h
  exact ⟨by rw [h2]; exact a1, a2, a3, fun k hk => by rw [h1]; exact a4 k hk⟩
theorem tFz_f {t t' : cS} (h : tFz t f n1 tx1 n2 tx2 n3 tx3 R cs) (h1 : ∀ o j, 23 ≤ o → o ≤ 31 → t'.1 o j = t.1 o j) : tFz t' f n1 tx1 n2 tx2 n3 tx3 R cs := by
  obtain ⟨a1, a2, a3, a4, ⟨a5, a6, a7, a8⟩, a9⟩ := h
  exact ⟨a1, tTe_f a2 (fun j => h1 _ _ (by omega) (by omega)) (fun j => h1 _ _ (by omega) (by omega)), tTe_f a3 (fun j => h1 _ _ (by omega) (by omega)) (fun j => h1 _ _ (by omega) (by omega)), tTe_f a4 (fun j => h1 _ _ (by omega) (by omega)) (fun j => h1 _ _ (by omega) (by omega)), ⟨by rw [h1 _ _ (by omega) (by omega)]; exact a5, a6, a7, fun j hj => by rw [h1 _ _ (by omega) (by omega)]; exact a8 j hj⟩, fun k hk => by rw [h1 _ _ (by omega) (by omega)]; exact a9 k hk⟩
theorem fPp.tr {a b c : cS} (h : fPp a b) (h' : fPp b c) : fPp a c := ⟨h'.1.trans h.1, fun o j e => (h'.2.1 o j e).trans (h.2.1 o j e), fun o j e => (h'.2.2.1 o j e).trans (h.2.2.1 o j e), fun j e => (h'.2.2.2 j e).trans (h.2.2.2 j e)⟩
theorem fPp_0 {t : cS} {j : Nat} {v : Int32} (hj : j = 11 ∨ j = 37 ∨ j = 57 ∨ j = 58 ∨ j = 65) : fPp t (stI t 0 j v) := ⟨rfl, fun _ _ _ => rfl, fun o k h => by rw [gI, if_neg (by omega)], fun k h => by rw [gI, if_pos rfl, if_neg (by omega)]⟩
theorem fPp_w {t t' : cS} (h1 : t'.2 = t.2) (h2 : ∀ o j, o ≠ 32 → t'.1 o j = t.1 o j) : fPp t t' := ⟨by rw [h1], fun _ _ _ => by rw [h1], fun o j h => h2 o j (by omega), fun j _ => h2 0 j (by decide)⟩
theorem fPp_G {x : Nat} {t t' : cS} (h : tRG x t t') : fPp t t' := ⟨h.1, h.2.1, fun o j e => h.2.2.1 o j (by omega) (by omega), fun j e => h.2.2.2.1 j (by omega)⟩
theorem fPp_L {x : Nat} {t t' : cS} (h : tRL x t t') : fPp t t' := ⟨h.1, h.2.1, fun o j e => h.2.2.1 o j (by omega) (by omega), fun j e => h.2.2.2.1 j (by omega)⟩
theorem fPp_T {t t' : cS} (h : fTt t t') : fPp t t' := ⟨by rw [h.1], fun _ _ _ => by rw [h.1], fun o j e => h.2.1 o j (by omega) (by omega) (by omega), fun j e => h.2.2 j (by omega) (by omega) (by omega)⟩
theorem fPp.z {t t' : cS} (h : fPp t t') (hz : tFz t f n1 tx1 n2 tx2 n3 tx3 R cs) : tFz t' f n1 tx1 n2 tx2 n3 tx3 R cs := tFz_f hz (fun o j a b => h.2.2.1 o j (by omega))
theorem tP43 {t : cS} (hz : tFz t f n1 tx1 n2 tx2 n3 tx3 R cs) (hM : rdM n1 tx1 = .ok (C, ch, r1)) (hQ : rdQ n3 tx3 = .ok (Y, r3)) (hF : F.length ≤ 12 ∧ fo F ≤ 400 ∧ ∀ g ∈ F, fnV g) (h11 : t.1 0 11 = nz (fo F)) (h37 : t.1 0 37 = nz F.length) (hFn : tFns t 0 0 F) :
    ∃ t' o p, fX11_prepare_43 (nz f) t = some ((), t') ∧ fPp t t' ∧ tQn t' (t'.1 15) f o p C ch Y F R cs := by
  have hf := hz.1
  obtain ⟨v1, -, -, -⟩ := rdM_v hz.2.1.2.2.1 hM
  obtain ⟨u1, u2, -, -, -⟩ := rdQ_v hz.2.2.2.1.2.2.1 hQ
  have hos := osum_le C
  have hC1 : C.length ≤ 80 := v1.1
  have hC2 : psz C ≤ 400 := v1.2.1
  have hY4 : Y.length ≤ 400 := u2
  unfold fX11_prepare_43
  rw [wI_e, h11, ck_n hf (by omega), nz_tn (by omega)]
  have P1 : fPp t (stI t 0 57 (nz (fo F))) := fPp_0 (by omega)
  have e11 : (stI t 0 57 (nz (fo F))).1 0 11 = nz (fo F) := by simpa [gI] using h11
  have e37 : (stI t 0 57 (nz (fo F))).1 0 37 = nz F.length := by simpa [gI] using h37
  have e57 : (stI t 0 57 (nz (fo F))).1 0 57 = nz (fo F) := by simp [gI]
  have hFn1 : tFns (stI t 0 57 (nz (fo F))) 0 0 F := tFns_f (o1 := fo F) (by funext j; simp [gI]) (fun j => by simp [gI]) (fun j => by simp [gI]) (fun j _ => by simp [gI]) (fun j _ => by simp [gI]) F (by omega) hFn
  generalize stI t 0 57 (nz (fo F)) = t1 at P1 e11 e37 e57 hFn1 ⊢
  have z1 := P1.z hz
  -- the model
  obtain ⟨t2, a1, a2, a3, a4⟩ := tWork (A := 23) (S := 24) ⟨by decide, by have : (twLa 23).2 = 16000 := by decide +kernel
                                                                          omega⟩ (by decide) (by decide) z1.2.1
  rw [z1.2.1.1, a1, bd_s]
  have P2 := P1.tr (fPp_w a2 a3)
  have hm := tRdM (nm := t2.1 15) (nF := F.length) a4 z1.2.1.2.2.1 (o := fo F) (by rw [a3 0 11 (by decide)]; exact e11) (by omega) rfl (by omega) (by rw [a3 0 37 (by decide)]; exact e37)
  rw [hM] at hm
  obtain ⟨t3, b1, b2, b3⟩ := hm
  simp only at b3
  rw [b1, bd_s, wI_e]
  have P3 := P2.tr (fPp_G b2)
  obtain ⟨b31, b32, b33, b34, b35, b36, b37⟩ := b3
  rw [b33, ck_n hf (by omega)]
  have P4 := P3.tr (fPp_0 (t := t3) (j := 58) (v := nz (fo F + osum C + 1)) (by omega))
  have hN3 : ∀ j, t3.1 15 j = t2.1 15 j := fun j => b2.2.2.1 15 j (by decide) (by omega)
  -- the question
  have z4 := P4.z hz
  have e28 : (stI t3 0 58 (nz (fo F + osum C + 1))).1 28 f = nz n3 := z4.2.2.2.1.1
  obtain ⟨t5, c1, c2, c3, c4⟩ := tWork (A := 27) (S := 28) ⟨by decide, by have : (twLa 27).2 = 16000 := by decide +kernel
                                                                          omega⟩ (by decide) (by decide) z4.2.2.2.1
  rw [e28, c1, bd_s]
  have P5 := P4.tr (fPp_w c2 c3)
  have e5 : ∀ o j, o ≠ 32 → ¬ (o = 0 ∧ j = 58) → t5.1 o j = t3.1 o j := fun o j h1 h2 => by
    rw [c3 o j h1, gI]
    by_cases ho : o = 0
    · rw [if_pos ho, if_neg (fun z => h2 ⟨ho, z⟩)]
    · rw [if_neg ho]
  have e58 : t5.1 0 58 = nz (fo F + osum C + 1) := by rw [c3 0 58 (by decide)]; simp [gI]
  have h15 : t5.1 15 = t2.1 15 := by funext j; rw [e5 15 j (by decide) (by omega), hN3 j]
  have hq := tRdQ (nm := t2.1 15) (nF := F.length) c4 z4.2.2.2.1.2.2.1 (o := fo F + osum C + 1) (by rw [e5 0 11 (by decide) (by omega)]; exact b33) (by omega) h15 (by omega) (by rw [e5 0 37 (by decide) (by omega), b2.2.2.2.1 37 (by omega), a3 0 37 (by decide)]; exact e37)
  rw [hQ] at hq
  obtain ⟨t6, d1, d2, d3, d4⟩ := hq
  simp only at d3
  rw [d1, bd_s, wI_e]
  have P6 := P5.tr (fPp_G d2)
  obtain ⟨d31, d32, d33, d34⟩ := d3
  have P7 := P6.tr (fPp_0 (t := t6) (j := 65) (v := nz f) (by omega))
  have e7 : ∀ o j, o ≠ 0 → (stI t6 0 65 (nz f)).1 o j = t6.1 o j := fun o j ho => by rw [gI, if_neg ho]
  have h15' : (stI t6 0 65 (nz f)).1 15 = t2.1 15 := by funext j; rw [e7 15 j (by decide), d2.2.2.1 15 j (by decide) (by omega), h15]
  have z7 := P7.z hz
  have W7 : tRow (stI t6 0 65 (nz f)) f R := ⟨hf, by simp [gI], z7.2.2.2.2.1.1, z7.2.2.2.2.1.2.1, z7.2.2.2.2.1.2.2.1, z7.2.2.2.2.1.2.2.2⟩
  have F7 : tFu (stI t6 0 65 (nz f)) 0 F := by
    refine ⟨?_, hF.1, by omega, by omega, ?_, hF.2.2⟩
    · have : (stI t6 0 65 (nz f)).1 0 37 = t6.1 0 37 := by simp [gI]
      rw [this, d2.2.2.2.1 37 (by omega), e5 0 37 (by decide) (by omega), b2.2.2.2.1 37 (by omega), a3 0 37 (by decide)]; exact e37
    · refine tFns_f (σ := t1) (o1 := fo F) ?_ ?_ ?_ ?_ ?_ F (by omega) hFn1
      · rw [h15']; funext j; rw [a3 15 j (by decide)]
      · intro j; rw [e7 16 j (by decide), d2.2.2.1 16 j (by decide) (by omega), e5 16 j (by decide) (by omega), b2.2.2.1 16 j (by decide) (by omega), a3 16 j (by decide)]
      · intro j; rw [e7 17 j (by decide), d2.2.2.1 17 j (by decide) (by omega), e5 17 j (by decide) (by omega), b2.2.2.1 17 j (by decide) (by omega), a3 17 j (by decide)]
      · intro j hj; rw [e7 2 j (by decide), d2.2.2.2.2 2 j (by omega) (by omega), e5 2 j (by decide) (by omega), b2.2.2.2.2 2 j (by omega) hj, a3 2 j (by decide)]
      · intro j hj; rw [e7 3 j (by decide), d2.2.2.2.2 3 j (by omega) (by omega), e5 3 j (by decide) (by omega), b2.2.2.2.2 3 j (by omega) hj, a3 3 j (by decide)]
  obtain ⟨t8, g1, g2, g3⟩ := tTabl (a1 := nz f) F.length 0 FU (stI t6 0 65 (nz f)) (by omega) (by unfold FU; omega) (Nat.zero_le _) F7 W7 (fun j x hj => by omega)
  have g1' : fX11_prepare_114 (nz f) FU 0 (stI t6 0 65 (nz f)) = some ((), t8) := g1
  rw [g1']
  have P8 := P7.tr (fPp_T g2)
  have z8 := P8.z hz
  have h158 : t8.1 15 = t2.1 15 := by rw [← h15']; funext j; exact g2.2.1 15 j (by decide) (by decide) (by decide)
  have F8 : tFu t8 0 F := by
    obtain ⟨q1, q2, q3, q4, q5, q6⟩ := F7
    exact ⟨by rw [g2.2.2 37 (by decide) (by decide) (by decide)]; exact q1, q2, q3, q4, tFns_T g2 F q5, q6⟩
  have W8 := tRow_T W7 g2
  have k0 : ∀ j, j ≠ 61 → j ≠ 63 → j ≠ 64 → j ≠ 65 → t8.1 0 j = t6.1 0 j := fun j q1 q2 q3 q4 => by rw [g2.2.2 j q1 q2 q3, gI, if_pos rfl, if_neg q4]
  have ko : ∀ o j, o ≠ 0 → o ≠ 34 → o ≠ 35 → t8.1 o j = t6.1 o j := fun o j q1 q2 q3 => by rw [g2.2.1 o j q1 q2 q3, e7 o j q1]
  refine ⟨t8, fo F, fo F + osum C + 1, rfl, P8, ⟨hf, ?_, ?_, by omega, by omega, u2, W8.2.1⟩, ⟨v1, u1, ?_, ?_, ?_⟩, ⟨hF.1, hF.2.2, fun c a ha => tCal_eq F8 (Nat.le_refl _) (g := fv F (nuf R)) (fun j x hj hx => g3 j x hj hx) ha⟩, ⟨W8.2.2.2.1, W8.2.2.2.2.1, W8.2.2.1, fun a ha => tNu_eq W8 ha⟩, z8.2.2.2.2.2⟩
  · rw [k0 57 (by decide) (by decide) (by decide) (by decide), d2.2.2.2.1 57 (by omega), e5 0 57 (by decide) (by omega), b2.2.2.2.1 57 (by omega), a3 0 57 (by decide)]; exact e57
  · rw [k0 58 (by decide) (by decide) (by decide) (by decide), d2.2.2.2.1 58 (by omega)]; exact e58
  · rw [h158]
    intro j e hj
    have hjl := (List.getElem?_eq_some_iff.mp hj).1
    have hcl : (CM (trS (-1) (t2.1 15) F.length) (fo F) 0 0 C).length = osum C := cmpl_len _ _ v1.2.2.1
    rw [List.length_append, hcl, List.length_singleton] at hjl
    rw [ko 2 _ (by decide) (by decide) (by decide), ko 3 _ (by decide) (by decide) (by decide), d2.2.2.2.2 2 _ (by omega) (by omega), d2.2.2.2.2 3 _ (by omega) (by omega), e5 2 _ (by decide) (by omega), e5 3 _ (by decide) (by omega)]
    exact b32 j e hj
  · rw [h158]
    intro j e hj
    rw [ko 2 _ (by decide) (by decide) (by decide), ko 3 _ (by decide) (by decide) (by decide)]
    exact d32 j e hj
  · exact tDn_f (fun j => by rw [ko 22 j (by decide) (by decide) (by decide), d4 j, e5 22 j (by decide) (by omega)]) C b34
/-- THE TWIN PREPARES what is frozen -/
theorem tPrep {t : cS} (hz : tFz t f n1 tx1 n2 tx2 n3 tx3 R cs) (hr : rdA n1 tx1 n2 tx2 n3 tx3 C ch F Y r1 r3) :
    ∃ t' o p, fX11_prepare (nz f) t = some ((), t') ∧ fPp t t' ∧ tQn t' (t'.1 15) f o p C ch Y F R cs := by
  obtain ⟨hM, hL, hQ⟩ := hr
  have hf := hz.1
  unfold fX11_prepare
  rw [wI_e, wI_e, ck_n hf (by omega), nz_tn (by omega)]
  have P1 : fPp t (stI (stI t 0 11 0) 0 37 0) := (fPp_0 (by omega)).tr (fPp_0 (by omega))
  have e11 : (stI (stI t 0 11 0) 0 37 0).1 0 11 = nz 0 := by simp [gI]; rfl
  have e37 : (stI (stI t 0 11 0) 0 37 0).1 0 37 = nz 0 := by simp [gI]; rfl
  generalize stI (stI t 0 11 0) 0 37 0 = t1 at P1 e11 e37 ⊢
  have z1 := P1.z hz
  have h2n := z1.2.2.1.2.1
  rw [z1.2.2.1.1]
  rcases hL with ⟨rfl, rfl⟩ | ⟨r2, hL⟩
  · rw [if_pos (by decide)]
    obtain ⟨t', o, p, g1, g2, g3⟩ := tP43 (F := []) z1 hM hQ ⟨by simp, by simp [fo], fun g hg => by cases hg⟩ e11 e37 trivial
    exact ⟨t', o, p, g1, P1.tr g2, g3⟩
  · obtain ⟨w1, w2, w3, -, -, -⟩ := rdL_w z1.2.2.1.2.2.1 hL
    rw [if_neg (by rw [nz_le0 (by omega)]; omega), ck_n hf (by omega)]
    obtain ⟨t2, a1, a2, a3, a4⟩ := tWork (A := 25) (S := 26) ⟨by decide, by have : (twLa 25).2 = 16000 := by decide +kernel
                                                                            omega⟩ (by decide) (by decide) z1.2.2.1
    rw [a1, bd_s]
    have P2 := P1.tr (fPp_w a2 a3)
    have hl := tRdL a4 z1.2.2.1.2.2.1 (o := 0) (by rw [a3 0 11 (by decide)]; exact e11) (by omega)
    rw [hL] at hl
    obtain ⟨t3, b1, b2, b3⟩ := hl
    simp only at b3
    rw [b1, bd_s]
    have P3 := P2.tr (fPp_L b2)
    obtain ⟨t', o, p, g1, g2, g3⟩ := tP43 (F := F) (P3.z hz) hM hQ ⟨w1, w2, rdL_v hL⟩ (by rw [b3.2.2.2.1, Nat.zero_add]) b3.2.1 b3.2.2.1
    exact ⟨t', o, p, g1, P3.tr g2, g3⟩
end
