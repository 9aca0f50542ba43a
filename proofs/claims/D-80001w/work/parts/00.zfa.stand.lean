set_option maxRecDepth 100000
/-! ===== THE COMPONENT: a question is made to stand for a model, a library, a row ===== -/
/-- what standing for changes -/
def fSd (σ σ' : cS) : Prop := σ'.2 = σ.2 ∧ ∀ y j, y < 21 ∨ (73 < y ∧ y ≠ 83 ∧ y ≠ 84) → σ'.1 y j = σ.1 y j
theorem fSd.tr {a b c : cS} (h : fSd a b) (h' : fSd b c) : fSd a c := ⟨h'.1.trans h.1, fun y j e => (h'.2 y j e).trans (h.2 y j e)⟩
theorem cp22 : cpLa 22 = (1, 3) ∧ cpLa 37 = (1, 3) ∧ cpLa 52 = (1, 3) ∧ cpLa 21 = (1, 4) ∧ cpLa 6 = (1, 3) := by decide +kernel
theorem fSd_p {s o a : Nat} {σ σ' : cS} (h : cCp s σ o a σ') (ho : o = 22 ∨ o = 37 ∨ o = 52) : fSd σ σ' := ⟨h.1, fun y j e => h.2.1 y j (by omega)⟩
/-- functions at 52: of a library, or none -/
def cFs (σ : cS) (F : List Fn) : Prop := σ.1 52 16 = nz F.length ∧ F.length ≤ 12 ∧ fsz F ≤ 400 ∧ cFn σ 52 0 0 F ∧ ∃ s, s ≤ 600 ∧ σ.1 52 18 = nz s
/-- what stands for: the handle and edition of a thing -/
def hdE (σ : cS) (x : Option Nat) (k : Nat) : Int32 := match x with
  | none => 0
  | some a => σ.1 a k
theorem cSt2 {σ : cS} {k : Nat} {x : Option Nat} (hk : k = 0 ∨ k = 2 ∨ k = 4) (hx : ∀ a, x = some a → isTh a = true ∧ 86 < a) :
    ∃ σ', fX0_standFor_2 (nz k) x σ = some ((), σ') ∧ σ'.2 = σ.2 ∧ (∀ y j, ¬ (y = 70 ∧ (j = k ∨ j = k + 1)) → σ'.1 y j = σ.1 y j) ∧ σ'.1 70 k = hdE σ x 1 ∧ σ'.1 70 (k + 1) = hdE σ x 2 := by
  have key : ∀ (v w : Int32), (stI (stI σ 70 k v) 70 (k + 1) w).2 = σ.2 ∧ (∀ y j, ¬ (y = 70 ∧ (j = k ∨ j = k + 1)) → (stI (stI σ 70 k v) 70 (k + 1) w).1 y j = σ.1 y j) ∧ (stI (stI σ 70 k v) 70 (k + 1) w).1 70 k = v ∧ (stI (stI σ 70 k v) 70 (k + 1) w).1 70 (k + 1) = w := by
    intro v w
    refine ⟨rfl, fun y j hy => ?_, ?_, ?_⟩
    · rw [gI, gI]
      by_cases h70 : y = 70
      · rw [if_pos h70, if_neg (by omega), if_pos h70, if_neg (by omega)]
      · rw [if_neg h70, if_neg h70]
    · rw [gI, if_pos rfl, if_neg (by omega), gI, if_pos rfl, if_pos rfl]
    · rw [gI, if_pos rfl, if_pos rfl]
  unfold fX0_standFor_2
  cases x with
  | none =>
    show ∃ σ', fX0_standFor_2_20 (nz k) none none 0 (nz k) σ = _ ∧ _
    unfold fX0_standFor_2_20
    rw [ck_n (show k < 6 by omega) (by omega), nz_tn (by omega), wI_e]
    show ∃ σ', (ck (inB (nz k + 1) 6) _) = _ ∧ _
    rw [nz_s, ck_n (show k + 1 < 6 by omega) (by omega), nz_tn (by omega), wI_e]
    exact ⟨_, rfl, key 0 0⟩
  | some a =>
    obtain ⟨h1, h2⟩ := hx a rfl
    show ∃ σ', (ck (isTh a) (fX0_standFor_2_20 (nz k) (some a) (some a) (σ.1 a 1) (nz k) σ)) = _ ∧ _
    rw [ck_t h1]
    unfold fX0_standFor_2_20
    rw [ck_n (show k < 6 by omega) (by omega), nz_tn (by omega), wI_e]
    show ∃ σ', (ck (isTh a) _) = _ ∧ _
    rw [ck_t h1, nz_s, ck_n (show k + 1 < 6 by omega) (by omega), nz_tn (by omega), wI_e]
    have e : (stI σ 70 k (σ.1 a 1)).1 a 2 = σ.1 a 2 := by rw [gI, if_neg (by omega)]
    rw [e]
    exact ⟨_, rfl, key (σ.1 a 1) (σ.1 a 2)⟩
section
variable {σ : cS} {m : Nat} {C : List Cd} {ch r1 : List Int32} {Y : List Sy} {r3 : List Int32} {F : List Fn} {R : List Int32} {cs : Nat → Int32}
theorem cSd99 {a1 : Nat} {a2 a3 x2 x3 : Option Nat} (hm : 86 < a1) (hq2 : isQ 6 x2 = true) (hq3 : isQ 8 x3 = true) (hth : isTh a1 = true) (h2 : ∀ a, x2 = some a → isTh a = true ∧ 86 < a) (h3 : ∀ a, x3 = some a → isTh a = true ∧ 86 < a) (hF : cFs σ F) (hFv : ∀ f ∈ F, fnV f) (hR : σ.1 21 8 = nz R.length ∧ R.length ≤ 20 ∧ (∀ x ∈ R, nV x) ∧ ∀ j, j < R.length → σ.1 68 j = R.getD j 0) (hM : cTM σ 22 C ch r1) (hY : cTQ σ 37 Y r3) (hcs : ∀ k, k < 3 → σ.1 (a1 + 16) k = cs k ∧ nV (cs k)) :
    ∃ σ', fX0_standFor_99 a1 a2 a3 x2 x3 σ = some ((), σ') ∧ fSd σ σ' ∧ cQs σ' 21 C ch r1 Y r3 F R cs ∧ (σ'.1 70 0 = σ.1 a1 1 ∧ σ'.1 70 1 = σ.1 a1 2 ∧ σ'.1 70 2 = hdE σ x2 1 ∧ σ'.1 70 3 = hdE σ x2 2 ∧ σ'.1 70 4 = hdE σ x3 1 ∧ σ'.1 70 5 = hdE σ x3 2) := by
  unfold fX0_standFor_99
  rw [ck_t hq2, ck_t hq3, ck_t (by decide), wA_e]
  have n1 : ∀ y j, y ≠ 69 → (stA σ 69 (va_cpy (σ.1 (a1 + 16)) (σ.1 69) (0 : Int32).toNatClampNeg (0 : Int32).toNatClampNeg (3 : Int32).toNatClampNeg)).1 y j = σ.1 y j := fun y j hy => by rw [gA, if_neg hy]
  have g1 : ∀ k, k < 3 → (stA σ 69 (va_cpy (σ.1 (a1 + 16)) (σ.1 69) (0 : Int32).toNatClampNeg (0 : Int32).toNatClampNeg (3 : Int32).toNatClampNeg)).1 69 k = cs k := fun k hk => by
    rw [gA, if_pos rfl, cpz, if_pos (by rw [show (3 : Int32).toNatClampNeg = 3 from rfl]; exact hk)]; exact (hcs k hk).1
  have l1 : (stA σ 69 (va_cpy (σ.1 (a1 + 16)) (σ.1 69) (0 : Int32).toNatClampNeg (0 : Int32).toNatClampNeg (3 : Int32).toNatClampNeg)).2 = σ.2 := rfl
  generalize stA σ 69 (va_cpy (σ.1 (a1 + 16)) (σ.1 69) (0 : Int32).toNatClampNeg (0 : Int32).toNatClampNeg (3 : Int32).toNatClampNeg) = σ1 at n1 g1 l1 ⊢
  have hE : ∀ (τ : cS) (x : Option Nat) (k : Nat), (∀ a, x = some a → isTh a = true ∧ 86 < a) → (∀ y j, 86 < y → τ.1 y j = σ.1 y j) → hdE τ x k = hdE σ x k := by
    intro τ x k hx hτ
    cases x with
    | none => rfl
    | some a => exact hτ a k (hx a rfl).2
  obtain ⟨σ2, b1, b2, b3, b4, b5⟩ := cSt2 (σ := σ1) (k := 0) (x := some a1) (by omega) (fun a ha => by cases ha; exact ⟨hth, hm⟩)
  rw [show (0 : Int32) = nz 0 from rfl, b1, bd_s]
  obtain ⟨σ3, c1, c2, c3, c4, c5⟩ := cSt2 (σ := σ2) (k := 2) (x := x2) (by omega) h2
  rw [show (2 : Int32) = nz 2 from rfl, c1, bd_s]
  obtain ⟨σ4, d1, d2, d3, d4, d5⟩ := cSt2 (σ := σ3) (k := 4) (x := x3) (by omega) h3
  rw [show (4 : Int32) = nz 4 from rfl, d1, bd_s]
  have n4 : ∀ y j, y ≠ 69 → y ≠ 70 → σ4.1 y j = σ.1 y j := fun y j h1 h2 => by rw [d3 y j (by omega), c3 y j (by omega), b3 y j (by omega), n1 y j h1]
  have Q4 : cQF σ4 F R := by
    obtain ⟨q1, q2, q3, q4, q5⟩ := hF
    exact ⟨by rw [n4 _ _ (by decide) (by decide)]; exact q1, q2, q3, cFn_g (fun x j hx => n4 _ _ (by omega) (by omega)) F q4, hFv, by rw [n4 _ _ (by decide) (by decide)]; exact hR.1, hR.2.1, hR.2.2.1, fun j hj => by rw [n4 _ _ (by decide) (by decide)]; exact hR.2.2.2 j hj⟩
  obtain ⟨σ5, e1, e2, e3⟩ := cTabu Q4
  rw [e1, bd_s]
  have n5 : ∀ y j, y ≠ 67 → y ≠ 69 → y ≠ 70 → y ≠ 83 → y ≠ 84 → σ5.1 y j = σ.1 y j := fun y j h0 h1 h2 h3 h4 => by rw [e2.2 y j h0 h3 h4, n4 y j h1 h2]
  have k70 : ∀ j, σ5.1 70 j = σ4.1 70 j := fun j => e2.2 70 j (by decide) (by decide) (by decide)
  obtain ⟨s, s1, s2⟩ := hF.2.2.2.2
  refine ⟨σ5, rfl, ⟨by rw [e2.1, d2, c2, b2, l1], fun y j hy => n5 y j (by omega) (by omega) (by omega) (by omega) (by omega)⟩, ⟨cTM_g (fun x j hx => n5 _ _ (by omega) (by omega) (by omega) (by omega) (by omega)) hM, cTQ_g (fun x j hx => n5 _ _ (by omega) (by omega) (by omega) (by omega) (by omega)) hY, ⟨s, s1, by rw [n5 _ _ (by decide) (by decide) (by decide) (by decide) (by decide)]; exact s2⟩, ⟨by rw [n5 _ _ (by decide) (by decide) (by decide) (by decide) (by decide)]; exact hF.1, fun j hj => ?_, fun j x hj hx => e3 j x hj hx⟩, ⟨by rw [n5 _ _ (by decide) (by decide) (by decide) (by decide) (by decide)]; exact hR.1, fun j hj => by rw [n5 _ _ (by decide) (by decide) (by decide) (by decide) (by decide)]; exact hR.2.2.2 j hj⟩, fun k hk => ⟨?_, (hcs k hk).2⟩⟩, ?_, ?_, ?_, ?_, ?_, ?_⟩
  · rw [n5 _ _ (by decide) (by decide) (by decide) (by decide) (by decide)]
    obtain ⟨p, -, q2, -⟩ := cFn_k F hF.2.2.2.1 (List.getElem?_eq_getElem hj)
    rw [Nat.zero_add] at q2
    rw [show 21 + 31 + 10 = 52 + 10 from rfl, q2]; unfold fnm
    rw [List.getD_eq_getElem?_getD, List.getElem?_eq_getElem hj]; rfl
  · rw [e2.2 _ _ (by decide) (by decide) (by decide), d3 _ _ (by omega), c3 _ _ (by omega), b3 _ _ (by omega)]; exact g1 k hk
  · rw [k70, d3 _ _ (by omega), c3 _ _ (by omega), b4]; exact n1 _ _ (by omega)
  · rw [k70, d3 _ _ (by omega), c3 _ _ (by omega), show (1 : Nat) = 0 + 1 from rfl, b5]; exact n1 _ _ (by omega)
  · rw [k70, d3 _ _ (by omega), c4]; exact hE σ2 x2 1 h2 (fun y j hy => by rw [b3 _ _ (by omega), n1 _ _ (by omega)])
  · rw [k70, d3 _ _ (by omega), show (3 : Nat) = 2 + 1 from rfl, c5]; exact hE σ2 x2 2 h2 (fun y j hy => by rw [b3 _ _ (by omega), n1 _ _ (by omega)])
  · rw [k70, d4]; exact hE σ3 x3 1 h3 (fun y j hy => by rw [c3 _ _ (by omega), b3 _ _ (by omega), n1 _ _ (by omega)])
  · rw [k70, show (5 : Nat) = 4 + 1 from rfl, d5]; exact hE σ3 x3 2 h3 (fun y j hy => by rw [c3 _ _ (by omega), b3 _ _ (by omega), n1 _ _ (by omega)])
/-- a row, or none -/
def cRw (σ : cS) (x : Option Nat) (R : List Int32) : Prop := match x with
  | none => R = []
  | some a => σ.1 a 4 = nz R.length ∧ ∀ j, j < R.length → σ.1 (a + 1) j = R.getD j 0
/-- THE COMPONENT stands for model m, library x2, row x3 -/
theorem cSd {x2 x3 : Option Nat} {r2 : List Int32} (hm : 86 < m) (hlm : cpLa m = (1, 7)) (hlm1 : cpLa (m + 1) = (1, 3)) (hth : isTh m = true) (hq2 : isQ 6 x2 = true) (hq3 : isQ 8 x3 = true) (h2 : ∀ a, x2 = some a → (isTh a = true ∧ 86 < a) ∧ cpLa (a + 1) = (1, 3) ∧ cTL σ (a + 1) F r2) (h20 : x2 = none → F = []) (hFv : ∀ f ∈ F, fnV f) (h3 : ∀ a, x3 = some a → isTh a = true ∧ 86 < a) (hR : cRw σ x3 R) (hR2 : R.length ≤ 20 ∧ ∀ x ∈ R, nV x) (hM : cTM σ (m + 1) C ch r1) (hY : cTQ σ 6 Y r3) (hcs : ∀ k, k < 3 → σ.1 (m + 16) k = cs k ∧ nV (cs k)) :
    ∃ σ', fX0_standFor m x2 x3 σ = some ((), σ') ∧ fSd σ σ' ∧ cQs σ' 21 C ch r1 Y r3 F R cs ∧ (σ'.1 70 0 = σ.1 m 1 ∧ σ'.1 70 1 = σ.1 m 2 ∧ σ'.1 70 2 = hdE σ x2 1 ∧ σ'.1 70 3 = hdE σ x2 2 ∧ σ'.1 70 4 = hdE σ x3 1 ∧ σ'.1 70 5 = hdE σ x3 2) := by
  obtain ⟨p22, p37, p52, p21, p6⟩ := cp22
  unfold fX0_standFor
  rw [ck_d hlm, ck_t hq2, ck_t hq3]
  obtain ⟨σ1, b1, b2⟩ := cBec (o := 22) (a := m + 1) (s := r1.length) (by omega) hlm1 hM.2.2.2.2.2.2.2.1 hM.2.2.2.2.2.2.2.2.1
  rw [b1, bd_s]
  have f1 := fSd_p b2 (by omega)
  obtain ⟨σ2, c1, c2⟩ := cBec (σ := σ1) (o := 37) (a := 6) (s := r3.length) (by omega) p6 (by rw [f1.2 _ _ (by omega)]; exact hY.2.2.2.1) hY.2.2.2.2.1
  rw [c1, bd_s]
  have f2 := f1.tr (fSd_p c2 (by omega))
  unfold fX3_clear
  rw [wI_e, wI_e, wI_e, wI_e, wI_e, bd_s]
  have n3 : ∀ y j, y ≠ 52 → (stI (stI (stI (stI (stI σ2 52 3 0) 52 9 0) 52 11 0) 52 16 0) 52 18 0).1 y j = σ2.1 y j := fun y j hy => by simp [gI, hy]
  have e16 : (stI (stI (stI (stI (stI σ2 52 3 0) 52 9 0) 52 11 0) 52 16 0) 52 18 0).1 52 16 = nz 0 := by simp [gI]; rfl
  have e18 : (stI (stI (stI (stI (stI σ2 52 3 0) 52 9 0) 52 11 0) 52 16 0) 52 18 0).1 52 18 = nz 0 := by simp [gI]; rfl
  have l3 : (stI (stI (stI (stI (stI σ2 52 3 0) 52 9 0) 52 11 0) 52 16 0) 52 18 0).2 = σ2.2 := rfl
  generalize stI (stI (stI (stI (stI σ2 52 3 0) 52 9 0) 52 11 0) 52 16 0) 52 18 0 = σ3 at n3 e16 e18 l3 ⊢
  have f3 : fSd σ σ3 := f2.tr ⟨l3, fun y j hy => n3 y j (by omega)⟩
  have M3 : cTM σ3 22 C ch r1 := cTM_g (fun x j hx => by rw [n3 _ _ (by omega), c2.2.1 _ _ (by omega)]) (cTM_p b2 rfl hM)
  have Y3 : cTQ σ3 37 Y r3 := cTQ_g (fun x j hx => n3 _ _ (by omega)) (cTQ_p c2 rfl (cTQ_g (fun x j hx => f1.2 _ _ (by omega)) hY))
  -- the library
  have lib : ∃ σ4, (mq x2 (fX0_standFor_56 m x2 x3 none x3 σ3) fun k7 => bd (fX3_become 52 (k7 + 1) σ3) fun _ σ8 => fX0_standFor_56 m x2 x3 (some k7) x3 σ8) = fX0_standFor_56 m x2 x3 x2 x3 σ4 ∧ fSd σ σ4 ∧ cTM σ4 22 C ch r1 ∧ cTQ σ4 37 Y r3 ∧ cFs σ4 F := by
    cases x2 with
    | none =>
      have hF := h20 rfl
      subst hF
      exact ⟨σ3, rfl, f3, M3, Y3, e16, by simp, by simp [fsz], trivial, 0, by omega, e18⟩
    | some k =>
      obtain ⟨⟨t1, t2⟩, t3, t4⟩ := h2 k rfl
      have t4' : cTL σ3 (k + 1) F r2 := cTL_g (fun x j hx => f3.2 _ _ (by omega)) t4
      obtain ⟨σ4, d1, d2⟩ := cBec (σ := σ3) (o := 52) (a := k + 1) (s := r2.length) (by omega) t3 t4'.2.2.2.2.1 t4'.2.2.2.2.2.1
      refine ⟨σ4, ?_, f3.tr (fSd_p d2 (by omega)), cTM_g (fun x j hx => d2.2.1 _ _ (by omega)) M3, cTQ_g (fun x j hx => d2.2.1 _ _ (by omega)) Y3, ?_⟩
      · show (bd (fX3_become 52 (k + 1) σ3) fun _ σ8 => fX0_standFor_56 m (some k) x3 (some k) x3 σ8) = _
        rw [d1, bd_s]
      · obtain ⟨q1, q2, q3, q4, q5⟩ := cTL_p d2 rfl t4'
        exact ⟨q1, q2, q3, q4, r2.length, q5.2.1, q5.1⟩
  obtain ⟨σ4, g1, f4, M4, Y4, F4⟩ := lib
  rw [g1]
  unfold fX0_standFor_56
  rw [ck_t hq2, ck_t hq3, wI_e]
  have n5 : ∀ y j, y ≠ 21 → (stI σ4 21 8 0).1 y j = σ4.1 y j := fun y j hy => by rw [gI, if_neg hy]
  have e5 : (stI σ4 21 8 0).1 21 8 = nz 0 := by simp [gI]; rfl
  have f5 : fSd σ (stI σ4 21 8 0) := f4.tr ⟨rfl, fun y j hy => n5 y j (by omega)⟩
  have M5 : cTM (stI σ4 21 8 0) 22 C ch r1 := cTM_g (fun x j hx => n5 _ _ (by omega)) M4
  have Y5 : cTQ (stI σ4 21 8 0) 37 Y r3 := cTQ_g (fun x j hx => n5 _ _ (by omega)) Y4
  have F5 : cFs (stI σ4 21 8 0) F := by
    obtain ⟨q1, q2, q3, q4, s, q5, q6⟩ := F4
    exact ⟨by rw [n5 _ _ (by decide)]; exact q1, q2, q3, cFn_g (fun x j hx => n5 _ _ (by omega)) F q4, s, q5, by rw [n5 _ _ (by decide)]; exact q6⟩
  generalize stI σ4 21 8 0 = σ5 at n5 e5 f5 M5 Y5 F5 ⊢
  have row : ∃ σ6, (mq x3 (fX0_standFor_99 m x2 x3 x2 none σ5) fun k2 => ck (cpB 0 0 (σ5.1 k2 4) 20 20) <| wA σ5 68 (va_cpy (σ5.1 (k2 + 1)) (σ5.1 68) (0 : Int32).toNatClampNeg (0 : Int32).toNatClampNeg (σ5.1 k2 4).toNatClampNeg) fun σ3 => wI σ3 21 8 (σ3.1 k2 4) fun σ4 => fX0_standFor_99 m x2 x3 x2 (some k2) σ4) = fX0_standFor_99 m x2 x3 x2 x3 σ6 ∧ fSd σ σ6 ∧ cTM σ6 22 C ch r1 ∧ cTQ σ6 37 Y r3 ∧ cFs σ6 F ∧ (σ6.1 21 8 = nz R.length ∧ R.length ≤ 20 ∧ (∀ x ∈ R, nV x) ∧ ∀ j, j < R.length → σ6.1 68 j = R.getD j 0) := by
    cases x3 with
    | none =>
      have hR0 : R = [] := hR
      subst hR0
      exact ⟨σ5, rfl, f5, M5, Y5, F5, e5, hR2.1, hR2.2, fun j hj => by simp at hj⟩
    | some k =>
      obtain ⟨t1, t2⟩ := h3 k rfl
      obtain ⟨u1, u2⟩ := hR
      have e4 : σ5.1 k 4 = nz R.length := by rw [f5.2 _ _ (by omega)]; exact u1
      have hR20 := hR2.1
      have n6 : ∀ y j, y ≠ 68 → y ≠ 21 → (stI (stA σ5 68 (va_cpy (σ5.1 (k + 1)) (σ5.1 68) (0 : Int32).toNatClampNeg (0 : Int32).toNatClampNeg R.length)) 21 8 (nz R.length)).1 y j = σ5.1 y j := fun y j h1 h2 => by rw [gI, if_neg h2, gA, if_neg h1]
      refine ⟨stI (stA σ5 68 (va_cpy (σ5.1 (k + 1)) (σ5.1 68) (0 : Int32).toNatClampNeg (0 : Int32).toNatClampNeg R.length)) 21 8 (nz R.length), ?_, f5.tr ⟨rfl, fun y j hy => n6 y j (by omega) (by omega)⟩, cTM_g (fun x j hx => n6 _ _ (by omega) (by omega)) M5, cTQ_g (fun x j hx => n6 _ _ (by omega) (by omega)) Y5, ?_, ?_, hR2.1, hR2.2, fun j hj => ?_⟩
      · show (ck (cpB 0 0 (σ5.1 k 4) 20 20) _) = _
        rw [e4, ck_t (cpB_n hR2.1 hR2.1 (by omega)), nz_tn (by omega), wA_e]
        have : (stA σ5 68 (va_cpy (σ5.1 (k + 1)) (σ5.1 68) (0 : Int32).toNatClampNeg (0 : Int32).toNatClampNeg R.length)).1 k 4 = nz R.length := by rw [gA, if_neg (by omega)]; exact e4
        rw [this, wI_e]
      · obtain ⟨q1, q2, q3, q4, s, q5, q6⟩ := F5
        exact ⟨by rw [n6 _ _ (by decide) (by decide)]; exact q1, q2, q3, cFn_g (fun x j hx => n6 _ _ (by omega) (by omega)) F q4, s, q5, by rw [n6 _ _ (by decide) (by decide)]; exact q6⟩
      · simp [gI]
      · rw [gI, if_neg (by decide), gA, if_pos rfl, cpz, if_pos hj, f5.2 _ _ (by omega)]; exact u2 j hj
  obtain ⟨σ6, r1', f6, M6, Y6, F6, R6⟩ := row
  rw [r1']
  obtain ⟨σ7, s1, s2, s3, s4⟩ := cSd99 (a1 := m) (a2 := x2) (a3 := x3) (x2 := x2) (x3 := x3) hm hq2 hq3 hth (fun a ha => (h2 a ha).1) h3 F6 hFv R6 M6 Y6 (cs := cs) (fun k hk => ⟨by rw [f6.2 _ _ (by omega)]; exact (hcs k hk).1, (hcs k hk).2⟩)
  have hE : ∀ (x : Option Nat) (k : Nat), (∀ a, x = some a → isTh a = true ∧ 86 < a) → hdE σ6 x k = hdE σ x k := by
    intro x k hx
    cases x with
    | none => rfl
    | some a => exact f6.2 a k (by have := (hx a rfl).2; omega)
  refine ⟨σ7, s1, f6.tr s2, s3, ?_⟩
  rw [hE x2 1 (fun a ha => (h2 a ha).1), hE x2 2 (fun a ha => (h2 a ha).1), hE x3 1 h3, hE x3 2 h3, f6.2 m 1 (by omega), f6.2 m 2 (by omega)] at s4
  exact s4
end
