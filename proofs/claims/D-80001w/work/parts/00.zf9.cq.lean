set_option maxRecDepth 100000
/-! ===== THE COMPONENT: what a question holds ===== -/
/-! texts over what leaves their cells -/
section
variable {σ σ' : cS} {b : Nat}
theorem cPA_g (h : ∀ x j, x ≤ 14 → σ'.1 (b + x) j = σ.1 (b + x) j) {p : Nat} {E : List Pt} (hA : cPA σ b p E) : cPA σ' b p E := fun k e hk => by
  obtain ⟨x1, x2, x3⟩ := hA k e hk
  exact ⟨by rw [h 1 _ (by omega)]; exact x1, by rw [h 2 _ (by omega)]; exact x2, by rw [h 3 _ (by omega)]; exact x3⟩
theorem cTP_g (h : ∀ x j, x ≤ 14 → σ'.1 (b + x) j = σ.1 (b + x) j) {r : List Int32} (hA : cTP σ b r) : cTP σ' b r := ⟨(h 0 18 (by omega)).trans hA.1, hA.2.1, fun k hk => by rw [h 14 k (by omega)]; exact hA.2.2 k hk⟩
theorem cCd_gg (h : ∀ x j, x ≤ 14 → σ'.1 (b + x) j = σ.1 (b + x) j) (C : List Cd) : ∀ {k p : Nat}, cCd σ b k p C → cCd σ' b k p C := by
  induction C with
  | nil => intro k p _; trivial
  | cons c C ih =>
    intro k p hc
    obtain ⟨⟨g1, g2, g3, g4, g5, g6⟩, g7⟩ := hc
    refine ⟨⟨by rw [h 4 _ (by omega)]; exact g1, by rw [h 5 _ (by omega)]; exact g2, fun q => ?_, fun q => ?_, fun q => ?_, fun q => ?_⟩, ih g7⟩
    · obtain ⟨x1, x2, x3⟩ := g3 q
      exact ⟨by rw [h 6 _ (by omega)]; exact x1, by rw [h 7 _ (by omega)]; exact x2, cPA_g h x3⟩
    · obtain ⟨x1, x2⟩ := g4 q
      exact ⟨by rw [h 6 _ (by omega)]; exact x1, by rw [h 7 _ (by omega)]; exact x2⟩
    · rw [h 6 _ (by omega)]; exact g5 q
    · rw [h 8 _ (by omega)]; exact g6 q
theorem cTM_g (h : ∀ x j, x ≤ 14 → σ'.1 (b + x) j = σ.1 (b + x) j) {C : List Cd} {ch r : List Int32} (hA : cTM σ b C ch r) : cTM σ' b C ch r := by
  obtain ⟨a1, a2, a3, a4, a5, a6, a7, a8⟩ := hA
  exact ⟨(h 0 9 (by omega)).trans a1, a2, a3, cCd_gg h C a4, (h 0 11 (by omega)).trans a5, a6, fun k hk => by rw [h 9 k (by omega)]; exact a7 k hk, cTP_g h a8⟩
theorem cTQ_g (h : ∀ x j, x ≤ 14 → σ'.1 (b + x) j = σ.1 (b + x) j) {y : List Sy} {r : List Int32} (hA : cTQ σ b y r) : cTQ σ' b y r := by
  obtain ⟨a1, a2, a3, a4⟩ := hA
  exact ⟨by rw [h 7 0 (by omega)]; exact a1, a2, cPA_g h a3, cTP_g h a4⟩
theorem cFn_g (h : ∀ x j, x ≤ 14 → σ'.1 (b + x) j = σ.1 (b + x) j) (F : List Fn) : ∀ {k p : Nat}, cFn σ b k p F → cFn σ' b k p F := by
  induction F with
  | nil => intro k p _; trivial
  | cons f F ih =>
    intro k p hc
    obtain ⟨h1, h2, h3, h4, h5, h6⟩ := hc
    exact ⟨by rw [h 10 _ (by omega)]; exact h1, by rw [h 11 _ (by omega)]; exact h2, by rw [h 12 _ (by omega)]; exact h3, by rw [h 13 _ (by omega)]; exact h4, cPA_g h h5, ih h6⟩
theorem cTL_g (h : ∀ x j, x ≤ 14 → σ'.1 (b + x) j = σ.1 (b + x) j) {F : List Fn} {r : List Int32} (hA : cTL σ b F r) : cTL σ' b F r := by
  obtain ⟨a1, a2, a3, a4, a5⟩ := hA
  exact ⟨(h 0 16 (by omega)).trans a1, a2, a3, cFn_g h F a4, cTP_g h a5⟩
end
/-- a question's texts, functions, row, settings at o -/
def cQs (σ : cS) (o : Nat) (C : List Cd) (ch r1 : List Int32) (Y : List Sy) (r3 : List Int32) (F : List Fn) (R : List Int32) (cs : Nat → Int32) : Prop :=
  cTM σ (o + 1) C ch r1 ∧ cTQ σ (o + 16) Y r3 ∧ (∃ s, s ≤ 600 ∧ σ.1 (o + 31) 18 = nz s) ∧
  (σ.1 (o + 31) 16 = nz F.length ∧ (∀ j, j < F.length → σ.1 (o + 31 + 10) j = fnm F j) ∧ ∀ j x, j < F.length → x < 100 → σ.1 (o + 46) (100 * j + x) = fv F (nuf R) j (nz x)) ∧
  (σ.1 o 8 = nz R.length ∧ ∀ j, j < R.length → σ.1 (o + 47) j = R.getD j 0) ∧ ∀ k, k < 3 → σ.1 (o + 48) k = cs k ∧ nV (cs k)
def qOk (C : List Cd) (ch : List Int32) (Y : List Sy) (F : List Fn) (R : List Int32) : Prop := cOk C ch ∧ sV Y ∧ F.length ≤ 12 ∧ (∀ f ∈ F, fnV f) ∧ R.length ≤ 20 ∧ ∀ x ∈ R, nV x
section
variable {σ σ' : cS} {o a : Nat} {C : List Cd} {ch r1 : List Int32} {Y : List Sy} {r3 : List Int32} {F : List Fn} {R : List Int32} {cs : Nat → Int32}
theorem cQn_of (h : cQs σ o C ch r1 Y r3 F R cs) (hk : qOk C ch Y F R) (hl : cpLa o = (1, 4) ∧ cpLa (o + 1) = (1, 3) ∧ cpLa (o + 16) = (1, 3) ∧ (o + 50 < 74 ∨ 86 < o)) : cQn σ o C ch Y F R := by
  obtain ⟨a1, a2, a3, ⟨a4, a5, a6⟩, ⟨a7, a8⟩, a9⟩ := h
  obtain ⟨k1, k2, k3, k4, k5, k6⟩ := hk
  exact ⟨hl, ⟨a1.1, k1, a1.2.2.2.1⟩, ⟨a2.1, a2.2.1, k2, a2.2.2.1⟩, ⟨a4, k3, k4, a5, a6⟩, a7, k5, k6, a8⟩
/-- a question stands over what leaves its cells -/
theorem cQs_f (h : cQs σ o C ch r1 Y r3 F R cs) (h1 : ∀ x j, 1 ≤ x → x ≤ 48 → σ'.1 (o + x) j = σ.1 (o + x) j) (h2 : σ'.1 o 8 = σ.1 o 8) : cQs σ' o C ch r1 Y r3 F R cs := by
  obtain ⟨a1, a2, a3, ⟨a4, a5, a6⟩, ⟨a7, a8⟩, a9⟩ := h
  obtain ⟨s, s1, s2⟩ := a3
  exact ⟨cTM_g (fun x j hx => by rw [Nat.add_assoc, h1 (1 + x) j (by omega) (by omega)]) a1, cTQ_g (fun x j hx => by rw [Nat.add_assoc, h1 (16 + x) j (by omega) (by omega)]) a2, ⟨s, s1, by rw [h1 31 18 (by omega) (by omega)]; exact s2⟩, ⟨by rw [h1 31 16 (by omega) (by omega)]; exact a4, fun j hj => by rw [Nat.add_assoc, h1 (31 + 10) j (by omega) (by omega), ← Nat.add_assoc]; exact a5 j hj, fun j x hj hx => by rw [h1 46 _ (by omega) (by omega)]; exact a6 j x hj hx⟩, ⟨by rw [h2]; exact a7, fun j hj => by rw [h1 47 j (by omega) (by omega)]; exact a8 j hj⟩, fun k hk => by rw [h1 48 k (by omega) (by omega)]; exact a9 k hk⟩
/-- what a question's copy changes -/
def fQb (o : Nat) (σ σ' : cS) : Prop := σ'.2.2 = σ.2.2 ∧ (∀ y j, y ≠ o + 50 → σ'.2.1 y j = σ.2.1 y j) ∧ (∀ y j, y < o ∨ o + 51 < y → σ'.1 y j = σ.1 y j) ∧ (∀ j, j ≠ 8 → j ≠ 14 → σ'.1 o j = σ.1 o j)
theorem cQbec (hd : a + 52 < o ∨ o + 52 < a) (hF : F.length ≤ 12) (hR : R.length ≤ 20) (hl : cpLa a = (1, 4) ∧ cpLa (a + 1) = (1, 3) ∧ cpLa (a + 16) = (1, 3) ∧ cpLa (a + 31) = (1, 3)) (h : cQs σ a C ch r1 Y r3 F R cs) :
    ∃ σ', fX5_become o a σ = some ((), σ') ∧ fQb o σ σ' ∧ cQs σ' o C ch r1 Y r3 F R cs ∧ (∀ j, j < 6 → σ'.1 (o + 49) j = σ.1 (a + 49) j) ∧ (∀ j, j < 100 → σ'.2.1 (o + 50) j = σ.2.1 (a + 50) j) ∧ (∀ j, j < 4 → σ'.1 (o + 51) j = σ.1 (a + 51) j) ∧ σ'.1 o 14 = 0 := by
  obtain ⟨a1, a2, ⟨s, s1, s2⟩, ⟨a4, a5, a6⟩, ⟨a7, a8⟩, a9⟩ := h
  unfold fX5_become
  rw [ck_d hl.1]
  obtain ⟨σ1, b1, b2⟩ := cBec (o := o + 1) (a := a + 1) (s := r1.length) (by omega) hl.2.1 a1.2.2.2.2.2.2.2.1 a1.2.2.2.2.2.2.2.2.1
  rw [b1, bd_s]
  have e1 : ∀ y j, y < o + 1 ∨ o + 1 + 14 < y → σ1.1 y j = σ.1 y j := b2.2.1
  obtain ⟨σ2, c1, c2⟩ := cBec (σ := σ1) (o := o + 16) (a := a + 16) (s := r3.length) (by omega) hl.2.2.1 (by rw [e1 _ _ (by omega)]; exact a2.2.2.2.1) a2.2.2.2.2.1
  rw [c1, bd_s]
  have e2 : ∀ y j, y < o + 16 ∨ o + 16 + 14 < y → σ2.1 y j = σ1.1 y j := c2.2.1
  obtain ⟨σ3, d1, d2⟩ := cBec (σ := σ2) (o := o + 31) (a := a + 31) (s := s) (by omega) hl.2.2.2 (by rw [e2 _ _ (by omega), e1 _ _ (by omega)]; exact s2) s1
  rw [d1, bd_s]
  have e3 : ∀ y j, y < o + 31 ∨ o + 31 + 14 < y → σ3.1 y j = σ2.1 y j := d2.2.1
  -- the three texts
  have M3 : cTM σ3 (o + 1) C ch r1 := by
    exact cTM_g (fun x j hx => by rw [e3 _ j (by omega), e2 _ j (by omega)]) (cTM_p b2 rfl a1)
  have Q3 : cTQ σ3 (o + 16) Y r3 := by
    exact cTQ_g (fun x j hx => e3 _ j (by omega)) (cTQ_p c2 rfl (cTQ_g (fun x j hx => e1 _ j (by omega)) a2))
  have fa : ∀ y j, y < o + 1 ∨ o + 45 < y → σ3.1 y j = σ.1 y j := fun y j hy => by rw [e3 y j (by omega), e2 y j (by omega), e1 y j (by omega)]
  have fm : ∀ y j, a + 31 ≤ y → y ≤ a + 45 → σ2.1 y j = σ.1 y j := fun y j h1 h2 => by rw [e2 y j (by omega), e1 y j (by omega)]
  have S3 : σ3.1 (o + 31) 18 = nz s := by rw [d2.2.2.2.2.2.2.2 18 (by omega), fm _ _ (by omega) (by omega)]; exact s2
  have F3 : σ3.1 (o + 31) 16 = nz F.length := by rw [d2.2.2.2.2.2.2.2 16 (by omega), fm _ _ (by omega) (by omega)]; exact a4
  have N3 : ∀ j, j < F.length → σ3.1 (o + 31 + 10) j = fnm F j := fun j hj => by rw [d2.2.2.2.2.2.1 10 j (by omega) (by omega) (by omega), fm _ _ (by omega) (by omega)]; exact a5 j hj
  have L3 : σ3.2 = σ.2 := by rw [d2.1, c2.1, b2.1]
  clear b1 b2 c1 c2 d1 d2 e1 e2 e3 fm
  rw [ck_t (by decide), wA_e, ck_t (by decide), wA_e, wI_e, ck_t (by decide), wA_e, ck_t (by decide), wA_e, ck_t (by decide), wB_e, ck_t (by decide), wA_e, wI_e]
  -- tables
  have g46 : ∀ j, j < 1200 → (stA σ3 (o + 46) (va_cpy (σ3.1 (a + 46)) (σ3.1 (o + 46)) (0 : Int32).toNatClampNeg (0 : Int32).toNatClampNeg (1200 : Int32).toNatClampNeg)).1 (o + 46) j = σ.1 (a + 46) j := fun j hj => by
    rw [gA, if_pos rfl, cpz, if_pos (by rw [show (1200 : Int32).toNatClampNeg = 1200 from rfl]; exact hj), fa _ _ (by omega)]
  have n46 : ∀ y j, y ≠ o + 46 → (stA σ3 (o + 46) (va_cpy (σ3.1 (a + 46)) (σ3.1 (o + 46)) (0 : Int32).toNatClampNeg (0 : Int32).toNatClampNeg (1200 : Int32).toNatClampNeg)).1 y j = σ3.1 y j := fun y j hy => by rw [gA, if_neg hy]
  have l46 : (stA σ3 (o + 46) (va_cpy (σ3.1 (a + 46)) (σ3.1 (o + 46)) (0 : Int32).toNatClampNeg (0 : Int32).toNatClampNeg (1200 : Int32).toNatClampNeg)).2 = σ.2 := L3
  generalize stA σ3 (o + 46) (va_cpy (σ3.1 (a + 46)) (σ3.1 (o + 46)) (0 : Int32).toNatClampNeg (0 : Int32).toNatClampNeg (1200 : Int32).toNatClampNeg) = σ4 at g46 n46 l46 ⊢
  have g47 : ∀ j, j < 20 → (stA σ4 (o + 47) (va_cpy (σ4.1 (a + 47)) (σ4.1 (o + 47)) (0 : Int32).toNatClampNeg (0 : Int32).toNatClampNeg (20 : Int32).toNatClampNeg)).1 (o + 47) j = σ.1 (a + 47) j := fun j hj => by
    rw [gA, if_pos rfl, cpz, if_pos (by rw [show (20 : Int32).toNatClampNeg = 20 from rfl]; exact hj), n46 _ _ (by omega), fa _ _ (by omega)]
  have n47 : ∀ y j, y ≠ o + 47 → (stA σ4 (o + 47) (va_cpy (σ4.1 (a + 47)) (σ4.1 (o + 47)) (0 : Int32).toNatClampNeg (0 : Int32).toNatClampNeg (20 : Int32).toNatClampNeg)).1 y j = σ4.1 y j := fun y j hy => by rw [gA, if_neg hy]
  have l47 : (stA σ4 (o + 47) (va_cpy (σ4.1 (a + 47)) (σ4.1 (o + 47)) (0 : Int32).toNatClampNeg (0 : Int32).toNatClampNeg (20 : Int32).toNatClampNeg)).2 = σ.2 := l46
  generalize stA σ4 (o + 47) (va_cpy (σ4.1 (a + 47)) (σ4.1 (o + 47)) (0 : Int32).toNatClampNeg (0 : Int32).toNatClampNeg (20 : Int32).toNatClampNeg) = σ5 at g47 n47 l47 ⊢
  have f8 : σ5.1 a 8 = nz R.length := by rw [n47 _ _ (by omega), n46 _ _ (by omega), fa _ _ (by omega)]; exact a7
  rw [f8]
  have g8 : (stI σ5 o 8 (nz R.length)).1 o 8 = nz R.length := by rw [gI, if_pos rfl, if_pos rfl]
  have n8 : ∀ y j, ¬ (y = o ∧ j = 8) → (stI σ5 o 8 (nz R.length)).1 y j = σ5.1 y j := fun y j hy => by
    rw [gI]
    by_cases h0 : y = o
    · rw [if_pos h0, if_neg (fun z => hy ⟨h0, z⟩)]
    · rw [if_neg h0]
  have l8 : (stI σ5 o 8 (nz R.length)).2 = σ.2 := l47
  generalize stI σ5 o 8 (nz R.length) = σ6 at g8 n8 l8 ⊢
  have g48 : ∀ j, j < 3 → (stA σ6 (o + 48) (va_cpy (σ6.1 (a + 48)) (σ6.1 (o + 48)) (0 : Int32).toNatClampNeg (0 : Int32).toNatClampNeg (3 : Int32).toNatClampNeg)).1 (o + 48) j = σ.1 (a + 48) j := fun j hj => by
    rw [gA, if_pos rfl, cpz, if_pos (by rw [show (3 : Int32).toNatClampNeg = 3 from rfl]; exact hj), n8 _ _ (by omega), n47 _ _ (by omega), n46 _ _ (by omega), fa _ _ (by omega)]
  have n48 : ∀ y j, y ≠ o + 48 → (stA σ6 (o + 48) (va_cpy (σ6.1 (a + 48)) (σ6.1 (o + 48)) (0 : Int32).toNatClampNeg (0 : Int32).toNatClampNeg (3 : Int32).toNatClampNeg)).1 y j = σ6.1 y j := fun y j hy => by rw [gA, if_neg hy]
  have l48 : (stA σ6 (o + 48) (va_cpy (σ6.1 (a + 48)) (σ6.1 (o + 48)) (0 : Int32).toNatClampNeg (0 : Int32).toNatClampNeg (3 : Int32).toNatClampNeg)).2 = σ.2 := l8
  generalize stA σ6 (o + 48) (va_cpy (σ6.1 (a + 48)) (σ6.1 (o + 48)) (0 : Int32).toNatClampNeg (0 : Int32).toNatClampNeg (3 : Int32).toNatClampNeg) = σ7 at g48 n48 l48 ⊢
  have g49 : ∀ j, j < 6 → (stA σ7 (o + 49) (va_cpy (σ7.1 (a + 49)) (σ7.1 (o + 49)) (0 : Int32).toNatClampNeg (0 : Int32).toNatClampNeg (6 : Int32).toNatClampNeg)).1 (o + 49) j = σ.1 (a + 49) j := fun j hj => by
    rw [gA, if_pos rfl, cpz, if_pos (by rw [show (6 : Int32).toNatClampNeg = 6 from rfl]; exact hj), n48 _ _ (by omega), n8 _ _ (by omega), n47 _ _ (by omega), n46 _ _ (by omega), fa _ _ (by omega)]
  have n49 : ∀ y j, y ≠ o + 49 → (stA σ7 (o + 49) (va_cpy (σ7.1 (a + 49)) (σ7.1 (o + 49)) (0 : Int32).toNatClampNeg (0 : Int32).toNatClampNeg (6 : Int32).toNatClampNeg)).1 y j = σ7.1 y j := fun y j hy => by rw [gA, if_neg hy]
  have l49 : (stA σ7 (o + 49) (va_cpy (σ7.1 (a + 49)) (σ7.1 (o + 49)) (0 : Int32).toNatClampNeg (0 : Int32).toNatClampNeg (6 : Int32).toNatClampNeg)).2 = σ.2 := l48
  generalize stA σ7 (o + 49) (va_cpy (σ7.1 (a + 49)) (σ7.1 (o + 49)) (0 : Int32).toNatClampNeg (0 : Int32).toNatClampNeg (6 : Int32).toNatClampNeg) = σ8 at g49 n49 l49 ⊢
  have g50 : ∀ j, j < 100 → (stB σ8 (o + 50) (va_cpy (σ8.2.1 (a + 50)) (σ8.2.1 (o + 50)) (0 : Int32).toNatClampNeg (0 : Int32).toNatClampNeg (100 : Int32).toNatClampNeg)).2.1 (o + 50) j = σ.2.1 (a + 50) j := fun j hj => by
    rw [gB, if_pos rfl, cpz, if_pos (by rw [show (100 : Int32).toNatClampNeg = 100 from rfl]; exact hj), l49]
  have n50 : ∀ y j, y ≠ o + 50 → (stB σ8 (o + 50) (va_cpy (σ8.2.1 (a + 50)) (σ8.2.1 (o + 50)) (0 : Int32).toNatClampNeg (0 : Int32).toNatClampNeg (100 : Int32).toNatClampNeg)).2.1 y j = σ.2.1 y j := fun y j hy => by rw [gB, if_neg hy, l49]
  have i50 : ∀ y j, (stB σ8 (o + 50) (va_cpy (σ8.2.1 (a + 50)) (σ8.2.1 (o + 50)) (0 : Int32).toNatClampNeg (0 : Int32).toNatClampNeg (100 : Int32).toNatClampNeg)).1 y j = σ8.1 y j := fun _ _ => rfl
  have r50 : (stB σ8 (o + 50) (va_cpy (σ8.2.1 (a + 50)) (σ8.2.1 (o + 50)) (0 : Int32).toNatClampNeg (0 : Int32).toNatClampNeg (100 : Int32).toNatClampNeg)).2.2 = σ.2.2 := by
    show σ8.2.2 = _
    rw [l49]
  generalize stB σ8 (o + 50) (va_cpy (σ8.2.1 (a + 50)) (σ8.2.1 (o + 50)) (0 : Int32).toNatClampNeg (0 : Int32).toNatClampNeg (100 : Int32).toNatClampNeg) = σ9 at g50 n50 i50 r50 ⊢
  refine ⟨_, rfl, ?_, ?_, ?_, ?_, ?_, ?_⟩
  · refine ⟨r50, fun y j hy => n50 y j hy, fun y j hy => ?_, fun j h1 h2 => ?_⟩
    · rw [gI, if_neg (by omega), gA, if_neg (by omega), i50, n49 _ _ (by omega), n48 _ _ (by omega), n8 _ _ (by omega), n47 _ _ (by omega), n46 _ _ (by omega), fa _ _ (by omega)]
    · rw [gI, if_pos rfl, if_neg h2, gA, if_neg (by omega), i50, n49 _ _ (by omega), n48 _ _ (by omega), n8 _ _ (by omega), n47 _ _ (by omega), n46 _ _ (by omega), fa _ _ (by omega)]
  · have fr : ∀ y j, o + 1 ≤ y → y ≤ o + 45 → (stI (stA σ9 (o + 51) (va_cpy (σ9.1 (a + 51)) (σ9.1 (o + 51)) (0 : Int32).toNatClampNeg (0 : Int32).toNatClampNeg (4 : Int32).toNatClampNeg)) o 14 0).1 y j = σ3.1 y j := fun y j h1 h2 => by
      rw [gI, if_neg (by omega), gA, if_neg (by omega), i50, n49 _ _ (by omega), n48 _ _ (by omega), n8 _ _ (by omega), n47 _ _ (by omega), n46 _ _ (by omega)]
    have fx : ∀ y j, y ≠ o → y ≠ o + 51 → (stI (stA σ9 (o + 51) (va_cpy (σ9.1 (a + 51)) (σ9.1 (o + 51)) (0 : Int32).toNatClampNeg (0 : Int32).toNatClampNeg (4 : Int32).toNatClampNeg)) o 14 0).1 y j = σ8.1 y j := fun y j h1 h2 => by
      rw [gI, if_neg h1, gA, if_neg h2, i50]
    refine ⟨cTM_g (fun x j hx => fr _ j (by omega) (by omega)) M3, cTQ_g (fun x j hx => fr _ j (by omega) (by omega)) Q3, ⟨s, s1, by rw [fr _ _ (by omega) (by omega)]; exact S3⟩, ⟨by rw [fr _ _ (by omega) (by omega)]; exact F3, fun j hj => by rw [fr _ _ (by omega) (by omega)]; exact N3 j hj, fun j x hj hx => ?_⟩, ⟨?_, fun j hj => ?_⟩, fun k hk => ?_⟩
    · rw [fx _ _ (by omega) (by omega), n49 _ _ (by omega), n48 _ _ (by omega), n8 _ _ (by omega), n47 _ _ (by omega), g46 _ (by omega)]; exact a6 j x hj hx
    · rw [gI, if_pos rfl, if_neg (by decide), gA, if_neg (by omega), i50, n49 _ _ (by omega), n48 _ _ (by omega)]; exact g8
    · rw [fx _ _ (by omega) (by omega), n49 _ _ (by omega), n48 _ _ (by omega), n8 _ _ (by omega), g47 _ (by omega)]; exact a8 j hj
    · rw [fx _ _ (by omega) (by omega), n49 _ _ (by omega), g48 _ hk]; exact a9 k hk
  · intro j hj
    rw [gI, if_neg (by omega), gA, if_neg (by omega), i50]
    exact g49 j hj
  · exact g50
  · intro j hj
    rw [gI, if_neg (by omega), gA, if_pos rfl, cpz, if_pos (by rw [show (4 : Int32).toNatClampNeg = 4 from rfl]; exact hj), i50, n49 _ _ (by omega), n48 _ _ (by omega), n8 _ _ (by omega), n47 _ _ (by omega), n46 _ _ (by omega), fa _ _ (by omega)]
  · rw [gI, if_pos rfl, if_pos rfl]
end
