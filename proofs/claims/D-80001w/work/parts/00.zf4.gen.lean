set_option maxRecDepth 100000
/-! ===== SAMPLERS: draws by a generator ===== -/
theorem and15 (x : Int32) : ∃ i, i < 16 ∧ x &&& 15 = nz i := by
  refine ⟨(x.toBitVec.toNat) % 16, Nat.mod_lt _ (by omega), ?_⟩
  apply Int32.toBitVec_inj.mp
  apply BitVec.eq_of_toNat_eq
  rw [Int32.toBitVec_and, BitVec.toNat_and]
  show x.toBitVec.toNat &&& 15 = ((x.toBitVec.toNat) % 16) % 2 ^ 32
  rw [show (15 : Nat) = 2 ^ 4 - 1 from rfl, Nat.and_two_pow_sub_one_eq_mod]
  omega
theorem shr16 (g : Int32) : (((g.toUInt32 >>> ((16 : Int32).toUInt32 &&& Int32.toUInt32 31)).toInt32) &&& (15 : Int32) : Int32) = ((g >>> ((16 : Int32) &&& 31)) &&& (15 : Int32) : Int32) := by
  apply Int32.toBitVec_inj.mp
  rw [Int32.toBitVec_and, Int32.toBitVec_and]
  have e1 : ((g.toUInt32 >>> ((16 : Int32).toUInt32 &&& Int32.toUInt32 31)).toInt32).toBitVec = g.toBitVec >>> 16 := rfl
  have e2 : (g >>> ((16 : Int32) &&& 31)).toBitVec = g.toBitVec.sshiftRight 16 := rfl
  rw [e1, e2]
  apply BitVec.eq_of_getLsbD_eq
  intro i hi
  rw [BitVec.getLsbD_and, BitVec.getLsbD_and]
  by_cases h4 : i < 4
  · rw [BitVec.getLsbD_ushiftRight, BitVec.getLsbD_sshiftRight]
    congr 1
    simp [show ¬ 32 ≤ i by omega, show 16 + i < 32 by omega]
  · have : (15 : Int32).toBitVec.getLsbD i = false := by
      show (15#32).getLsbD i = false
      rw [BitVec.getLsbD_ofNat]
      have : Nat.testBit 15 i = false := Nat.testBit_lt_two_pow (by
        have : 2 ^ 4 ≤ 2 ^ i := Nat.pow_le_pow_right (by omega) (by omega)
        omega)
      rw [this, Bool.and_false]
    rw [this, Bool.and_false, Bool.and_false]
def nxg (g : Int32) : Int32 := g * 1103515245 + 12345
def rvg (g : Int32) : Nat := ((nxg g >>> ((16 : Int32) &&& 31)) &&& (15 : Int32)).toNatClampNeg
theorem rvg_e (g : Int32) : ((nxg g >>> ((16 : Int32) &&& 31)) &&& (15 : Int32) : Int32) = nz (rvg g) ∧ rvg g < 16 := by
  obtain ⟨i, h1, h2⟩ := and15 (nxg g >>> ((16 : Int32) &&& 31))
  unfold rvg
  rw [h2, nz_tn (by omega)]
  exact ⟨rfl, h1⟩
def orG (g : Int32) (c : Cd) : Nat × Int32 := (if rvg g < dw c 0 then 0 else if rvg g < dw c 0 + dw c 1 then 1 else 2, nxg g)
def RpG (_f : Nat → Int32) (x72 x73 _x76 : Int32) (g : Int32) (_d : Nat) : Prop := x72 = 1 ∧ x73 = g
theorem orG_w {ch : List Int32} {c : Cd} {g : Int32} (hv : cdV c) (hw : cdW ch c) (h1 : c.1 = 1) : (orG g c).1 < 3 ∧ dw c (orG g c).1 ≠ 0 := by
  have hs := (dw_16 hv hw h1).1
  have hr := (rvg_e g).2
  unfold orG
  simp only
  by_cases a : rvg g < dw c 0
  · rw [if_pos a]; exact ⟨by omega, by omega⟩
  · rw [if_neg a]
    by_cases b : rvg g < dw c 0 + dw c 1
    · rw [if_pos b]; exact ⟨by omega, by omega⟩
    · rw [if_neg b]; exact ⟨by omega, by omega⟩
theorem drG {C : List Cd} {ch : List Int32} (hC : cOk C ch) : drO C orG RpG := by
  intro σ g d p w hd hp h1 hw hR h67 h71 h22
  obtain ⟨r1, r2⟩ := hR
  have hcv := hC.2.2.1 _ (cdA_mem hp)
  have hcw := hC.2.2.2.2.2.1 _ (cdA_mem hp)
  obtain ⟨s1, s2, s3, s4⟩ := dw_16 hcv hcw h1
  have hD := dn_take C p hC.1
  obtain ⟨q1, q2⟩ := rvg_e g
  have hdw : ∀ j, j < 3 → dw (cdA C p) j < 100 := by
    intro j hj
    have : j = 0 ∨ j = 1 ∨ j = 2 := by omega
    rcases this with q | q | q <;> rw [q] <;> omega
  unfold fX11_drawn
  rw [r1, if_neg (by decide), r2, wI_e]
  have e73 : (stI σ 0 73 (g * 1103515245 + 12345)).1 0 73 = nxg g := by simp [gI]; rfl
  have e22 : ∀ j, j < 3 → (stI σ 0 73 (g * 1103515245 + 12345)).1 22 (3 * dn (C.take p) + j) = nz (dw (cdA C p) j) := fun j hj => by
    rw [gI, if_neg (by decide)]; exact h22 j hj
  have e67 : (stI σ 0 73 (g * 1103515245 + 12345)).1 0 67 = nz d := by simpa [gI] using h67
  have e72 : (stI σ 0 73 (g * 1103515245 + 12345)).1 0 72 = 1 := by simpa [gI] using r1
  have e71 : (stI σ 0 73 (g * 1103515245 + 12345)).2.1 0 71 = nl (w * 16 ^ (7 - d)) := h71
  have F0 : ∀ o j, o ≠ 0 → (stI σ 0 73 (g * 1103515245 + 12345)).1 o j = σ.1 o j := fun o j ho => by rw [gI, if_neg ho]
  have F1 : ∀ j, j ≠ 73 → (stI σ 0 73 (g * 1103515245 + 12345)).1 0 j = σ.1 0 j := fun j hj => by rw [gI, if_pos rfl, if_neg hj]
  have F2 : (stI σ 0 73 (g * 1103515245 + 12345)).2 = σ.2 := rfl
  rw [e73, shr16, q1, show (3 : Int32) = nz 3 from rfl, nz_mul, ck_n (show 3 * dn (C.take p) < 1200 by omega) (by omega), nz_tn (by omega)]
  have e220 := e22 0 (by omega)
  rw [Nat.add_zero] at e220
  rw [e220]
  generalize stI σ 0 73 (g * 1103515245 + 12345) = τ at e73 e22 e67 e72 e71 F0 F1 F2 e220 ⊢
  have fin : ∀ j, j = (orG g (cdA C p)).1 → j < 3 → ∃ σ', fX11_drawn_119 (nz (dn (C.take p))) (nz j) τ = some (nz (orG g (cdA C p)).1, σ') ∧ (orG g (cdA C p)).1 < 3 ∧ fDr d σ σ' ∧ σ'.1 36 d = nz (orG g (cdA C p)).1 ∧ σ'.1 37 d = nz (dn (C.take p)) ∧ σ'.1 0 67 = nz (d + 1) ∧ σ'.2.1 0 71 = nl (w * dw (cdA C p) (orG g (cdA C p)).1 * 16 ^ (7 - (d + 1))) ∧ RpG (σ'.1 36) (σ'.1 0 72) (σ'.1 0 73) (σ'.1 0 76) (orG g (cdA C p)).2 (d + 1) := by
    intro j hj hj3
    rw [← hj]
    obtain ⟨σ', a1, a2, a3, a4, a5, a6, a7⟩ := tDr119 hd hD hj3 hw e67 e71 (e22 j hj3) (hdw j hj3)
    refine ⟨σ', a1, hj3, ⟨by rw [a2.1, F2], fun o k h => by rw [a2.2.1 o k h, F2], fun o k h h' => by rw [a2.2.2.1 o k h h', F0 o k h], fun k h h' => by rw [a2.2.2.2 k h h', F1 k h']⟩, a3, a4, a5, a6, ?_, ?_⟩
    · rw [a2.2.2.2 72 (by decide) (by decide)]; exact e72
    · rw [a7]; exact e73
  have st : ∀ j x f, fX11_drawn_46 (nz (dn (C.take p))) (f + 1) (nz j) (nz (rvg g)) (nz x) τ = if nz (rvg g) < nz x then fX11_drawn_119 (nz (dn (C.take p))) (nz j) τ else ck (inB (nz (3 * dn (C.take p) + (j + 1))) 1200) (fX11_drawn_46 (nz (dn (C.take p))) f (nz (j + 1)) (nz (rvg g)) (nz x + τ.1 22 (nz (3 * dn (C.take p) + (j + 1))).toNatClampNeg) τ) := by
    intro j x f
    conv => lhs; unfold fX11_drawn_46
    rw [nz_s, show (3 : Int32) = nz 3 from rfl, nz_mul, nz_add]
  obtain ⟨f, hf⟩ : ∃ f, FU = f + 3 := ⟨FU - 3, by unfold FU; omega⟩
  rw [hf, show (0 : Int32) = nz 0 from rfl, st 0 (dw (cdA C p) 0) (f + 2)]
  by_cases a : rvg g < dw (cdA C p) 0
  · rw [if_pos (by rw [nz_lt (by omega) (by omega)]; exact a)]
    exact fin 0 (by unfold orG; simp only; rw [if_pos a]) (by omega)
  · rw [if_neg (by rw [nz_lt (by omega) (by omega)]; exact a), ck_n (show 3 * dn (C.take p) + (0 + 1) < 1200 by omega) (by omega), nz_tn (by omega), show τ.1 22 (3 * dn (C.take p) + (0 + 1)) = nz (dw (cdA C p) 1) from e22 1 (by omega), nz_add, st (0 + 1) _ (f + 1)]
    by_cases b : rvg g < dw (cdA C p) 0 + dw (cdA C p) 1
    · rw [if_pos (by rw [nz_lt (by omega) (by omega)]; exact b)]
      exact fin (0 + 1) (by unfold orG; simp only; rw [if_neg a, if_pos b]) (by omega)
    · rw [if_neg (by rw [nz_lt (by omega) (by omega)]; exact b), ck_n (show 3 * dn (C.take p) + (0 + 1 + 1) < 1200 by omega) (by omega), nz_tn (by omega), show τ.1 22 (3 * dn (C.take p) + (0 + 1 + 1)) = nz (dw (cdA C p) 2) from e22 2 (by omega), nz_add, st (0 + 1 + 1) _ f, if_pos (by rw [nz_lt (by omega) (by omega)]; omega)]
      exact fin (0 + 1 + 1) (by unfold orG; simp only; rw [if_neg a, if_neg b]) (by omega)
/-- a sampler's run is one of all runs -/
theorem ru_leaf {C : List Cd} {ch : List Int32} (hC : cOk C ch) (cl : Int32 → Int32 → Int32) (nu : Int32 → Int32) (cs : Nat → Int32) (Y : List Sy) : ∀ (k : Nat) (c : Cfg) (n w : Nat) (g : Int32) (H : Hs), 1 ≤ k → k + n = 61 → lK (ru C cl nu cs orG k c n w g H).1.1 (lvs C cl nu cs Y k c n) := by
  intro k
  induction k with
  | zero => intro c n w g H h; omega
  | succ k ih =>
    intro c n w g H _ hk
    show lK (if _ then _ else _ : Rn × Int32).1.1 (if _ then _ else _)
    by_cases h1 : C.length ≤ jp C c.1
    · rw [if_pos h1, if_pos h1]
      exact lK_one.mpr rfl
    rw [if_neg h1, if_neg h1]
    by_cases h2 : n = 60
    · rw [if_pos h2, if_pos h2]
      exact lK_one.mpr rfl
    rw [if_neg h2, if_neg h2]
    by_cases h3 : (cdA C (jp C c.1)).1 = 1
    · rw [if_pos h3, if_pos h3]
      by_cases h4 : c.2.2.1 = 7
      · rw [if_pos h4, if_pos h4]
        exact lK_one.mpr rfl
      rw [if_neg h4, if_neg h4]
      obtain ⟨o1, o2⟩ := orG_w (g := g) (hC.2.2.1 _ (cdA_mem (by omega))) (hC.2.2.2.2.2.1 _ (cdA_mem (by omega))) h3
      obtain ⟨l, l1, l2⟩ := ih (jp C c.1 + 1, c.2.1.set (cdA C (jp C c.1)).2.1.toNatClampNeg (nz (orG g (cdA C (jp C c.1))).1), c.2.2.1 + 1, c.2.2.2) (n + 1) (w * dw (cdA C (jp C c.1)) (orG g (cdA C (jp C c.1))).1) (orG g (cdA C (jp C c.1))).2 (((orG g (cdA C (jp C c.1))).1, jp C c.1) :: H) (by omega) (by omega)
      refine ⟨(l.1, l.2.1, l.2.2.1, l.2.2.2.1, dw (cdA C (jp C c.1)) (orG g (cdA C (jp C c.1))).1 * l.2.2.2.2), List.mem_flatMap.mpr ⟨(orG g (cdA C (jp C c.1))).1, List.mem_range.mpr o1, ?_⟩, l2⟩
      rw [if_neg o2]
      exact List.mem_map.mpr ⟨l, l1, rfl⟩
    · rw [if_neg h3, if_neg h3]
      exact ih _ (n + 1) w g H (by omega) (by omega)
