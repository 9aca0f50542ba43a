set_option maxRecDepth 100000
/-! ===== THE COMPONENT: a text becomes another ===== -/
theorem cpB_n {s a b : Nat} (ha : s ≤ a) (hb : s ≤ b) (hs : s < 2147483648) : cpB 0 0 (nz s) a b = true := by
  unfold cpB
  have h0 : decide (nz s < 0) = false := decide_eq_false (nz_ge0 hs)
  rw [h0, nz_tn hs, show (0 : Int32).toNatClampNeg = 0 from rfl, Nat.zero_add, decide_eq_true ha, decide_eq_true hb]
  decide
/-- cells of D have come from a to o -/
def cIv (σ : cS) (o a : Nat) (D : Nat → Nat → Prop) (τ : cS) : Prop := τ.2 = σ.2 ∧ (∀ y j, y < o ∨ o + 14 < y → τ.1 y j = σ.1 y j) ∧ ∀ x j, x ≤ 14 → D x j → τ.1 (o + x) j = σ.1 (a + x) j
section
variable {σ τ : cS} {o a : Nat} {D : Nat → Nat → Prop}
theorem cIv_A (hd : a + 14 < o ∨ o + 14 < a) (h : cIv σ o a D τ) {i n : Nat} (hi : 1 ≤ i ∧ i ≤ 14) : cIv σ o a (fun x j => D x j ∨ (x = i ∧ j < n)) (stA τ (o + i) (va_cpy (τ.1 (a + i)) (τ.1 (o + i)) (0 : Int32).toNatClampNeg (0 : Int32).toNatClampNeg n)) := by
  refine ⟨h.1, fun y j hy => ?_, fun x j hx hD => ?_⟩
  · rw [gA, if_neg (by omega)]; exact h.2.1 y j hy
  · rw [gA]
    by_cases hxi : x = i
    · subst hxi
      rw [if_pos rfl, cpz]
      by_cases hj : j < n
      · rw [if_pos hj]; exact h.2.1 _ _ (by omega)
      · rw [if_neg hj]
        rcases hD with q | q
        · exact h.2.2 x j hx q
        · exact absurd q.2 hj
    · rw [if_neg (by omega)]
      rcases hD with q | q
      · exact h.2.2 x j hx q
      · exact absurd q.1 hxi
theorem cIv_I (hd : a + 14 < o ∨ o + 14 < a) (h : cIv σ o a D τ) {m : Nat} : cIv σ o a (fun x j => D x j ∨ (x = 0 ∧ j = m)) (stI τ o m (τ.1 a m)) := by
  refine ⟨h.1, fun y j hy => ?_, fun x j hx hD => ?_⟩
  · rw [gI, if_neg (by omega)]; exact h.2.1 y j hy
  · rw [gI]
    by_cases hx0 : x = 0
    · subst hx0
      rw [Nat.add_zero, Nat.add_zero, if_pos rfl]
      by_cases hj : j = m
      · rw [if_pos hj, hj]; exact h.2.1 _ _ (by omega)
      · rw [if_neg hj]
        rcases hD with q | q
        · exact h.2.2 0 j hx q
        · exact absurd q.2 hj
    · rw [if_neg (by omega)]
      rcases hD with q | q
      · exact h.2.2 x j hx q
      · exact absurd q.1 hx0
end
/-- the text at o is the one that stood at a (printed signs: s) -/
def cCp (s : Nat) (σ : cS) (o a : Nat) (σ' : cS) : Prop := σ'.2 = σ.2 ∧ (∀ y j, y < o ∨ o + 14 < y → σ'.1 y j = σ.1 y j) ∧ (∀ x j, 1 ≤ x → x ≤ 3 → j < 402 → σ'.1 (o + x) j = σ.1 (a + x) j) ∧ (∀ x j, 4 ≤ x → x ≤ 8 → j < 96 → σ'.1 (o + x) j = σ.1 (a + x) j) ∧ (∀ j, j < 3 → σ'.1 (o + 9) j = σ.1 (a + 9) j) ∧ (∀ x j, 10 ≤ x → x ≤ 13 → j < 12 → σ'.1 (o + x) j = σ.1 (a + x) j) ∧ (∀ j, j < s → σ'.1 (o + 14) j = σ.1 (a + 14) j) ∧ (∀ j, j = 3 ∨ j = 9 ∨ j = 11 ∨ j = 16 ∨ j = 18 → σ'.1 o j = σ.1 a j)
theorem cBec {σ : cS} {o a s : Nat} (hd : a + 14 < o ∨ o + 14 < a) (hla : cpLa a = (1, 3)) (h18 : σ.1 a 18 = nz s) (hs : s ≤ 600) : ∃ σ', fX3_become o a σ = some ((), σ') ∧ cCp s σ o a σ' := by
  have h0 : cIv σ o a (fun _ _ => False) σ := ⟨rfl, fun _ _ _ => rfl, fun _ _ _ h => h.elim⟩
  have t : ∀ n : Nat, cpB 0 0 402 402 402 = true ∧ cpB 0 0 96 96 96 = true ∧ cpB 0 0 3 3 3 = true ∧ cpB 0 0 12 12 12 = true := fun _ => by decide
  obtain ⟨t1, t2, t3, t4⟩ := t 0
  unfold fX3_become
  rw [ck_d hla, ck_t t1, wA_e, ck_t t1, wA_e, ck_t t1, wA_e, wI_e, ck_t t2, wA_e, ck_t t2, wA_e, ck_t t2, wA_e, ck_t t2, wA_e, ck_t t2, wA_e, wI_e, ck_t t3, wA_e, wI_e, ck_t t4, wA_e, ck_t t4, wA_e, ck_t t4, wA_e, ck_t t4, wA_e, wI_e]
  have k1 := cIv_A hd h0 (i := 1) (n := (402 : Int32).toNatClampNeg) (by omega)
  have k2 := cIv_A hd k1 (i := 2) (n := (402 : Int32).toNatClampNeg) (by omega)
  have k3 := cIv_A hd k2 (i := 3) (n := (402 : Int32).toNatClampNeg) (by omega)
  have k4 := cIv_I hd k3 (m := 3)
  have k5 := cIv_A hd k4 (i := 4) (n := (96 : Int32).toNatClampNeg) (by omega)
  have k6 := cIv_A hd k5 (i := 5) (n := (96 : Int32).toNatClampNeg) (by omega)
  have k7 := cIv_A hd k6 (i := 6) (n := (96 : Int32).toNatClampNeg) (by omega)
  have k8 := cIv_A hd k7 (i := 7) (n := (96 : Int32).toNatClampNeg) (by omega)
  have k9 := cIv_A hd k8 (i := 8) (n := (96 : Int32).toNatClampNeg) (by omega)
  have k10 := cIv_I hd k9 (m := 9)
  have k11 := cIv_A hd k10 (i := 9) (n := (3 : Int32).toNatClampNeg) (by omega)
  have k12 := cIv_I hd k11 (m := 11)
  have k13 := cIv_A hd k12 (i := 10) (n := (12 : Int32).toNatClampNeg) (by omega)
  have k14 := cIv_A hd k13 (i := 11) (n := (12 : Int32).toNatClampNeg) (by omega)
  have k15 := cIv_A hd k14 (i := 12) (n := (12 : Int32).toNatClampNeg) (by omega)
  have k16 := cIv_A hd k15 (i := 13) (n := (12 : Int32).toNatClampNeg) (by omega)
  have k17 := cIv_I hd k16 (m := 16)
  clear k1 k2 k3 k4 k5 k6 k7 k8 k9 k10 k11 k12 k13 k14 k15 k16
  revert k17
  generalize stI _ o 16 _ = τ
  intro k17
  have e18 : τ.1 a 18 = nz s := by rw [k17.2.1 a 18 (by omega)]; exact h18
  rw [e18, ck_t (cpB_n hs hs (by omega)), wA_e, wI_e, nz_tn (by omega)]
  have k18 := cIv_A hd k17 (i := 14) (n := s) (by omega)
  have k19 := cIv_I hd k18 (m := 18)
  refine ⟨_, rfl, k19.1, k19.2.1, fun x j h1 h2 hj => ?_, fun x j h1 h2 hj => ?_, fun j hj => ?_, fun x j h1 h2 hj => ?_, fun j hj => ?_, fun j hj => ?_⟩
  · have hx : x = 1 ∨ x = 2 ∨ x = 3 := by omega
    rcases hx with rfl | rfl | rfl
    · exact k19.2.2 1 j (by omega) (Or.inl (Or.inl (Or.inl (Or.inl (Or.inl (Or.inl (Or.inl (Or.inl (Or.inl (Or.inl (Or.inl (Or.inl (Or.inl (Or.inl (Or.inl (Or.inl (Or.inl (Or.inl (Or.inr ⟨rfl, hj⟩)))))))))))))))))))
    · exact k19.2.2 2 j (by omega) (Or.inl (Or.inl (Or.inl (Or.inl (Or.inl (Or.inl (Or.inl (Or.inl (Or.inl (Or.inl (Or.inl (Or.inl (Or.inl (Or.inl (Or.inl (Or.inl (Or.inl (Or.inr ⟨rfl, hj⟩))))))))))))))))))
    · exact k19.2.2 3 j (by omega) (Or.inl (Or.inl (Or.inl (Or.inl (Or.inl (Or.inl (Or.inl (Or.inl (Or.inl (Or.inl (Or.inl (Or.inl (Or.inl (Or.inl (Or.inl (Or.inl (Or.inr ⟨rfl, hj⟩)))))))))))))))))
  · have hx : x = 4 ∨ x = 5 ∨ x = 6 ∨ x = 7 ∨ x = 8 := by omega
    rcases hx with rfl | rfl | rfl | rfl | rfl
    · exact k19.2.2 4 j (by omega) (Or.inl (Or.inl (Or.inl (Or.inl (Or.inl (Or.inl (Or.inl (Or.inl (Or.inl (Or.inl (Or.inl (Or.inl (Or.inl (Or.inl (Or.inr ⟨rfl, hj⟩)))))))))))))))
    · exact k19.2.2 5 j (by omega) (Or.inl (Or.inl (Or.inl (Or.inl (Or.inl (Or.inl (Or.inl (Or.inl (Or.inl (Or.inl (Or.inl (Or.inl (Or.inl (Or.inr ⟨rfl, hj⟩))))))))))))))
    · exact k19.2.2 6 j (by omega) (Or.inl (Or.inl (Or.inl (Or.inl (Or.inl (Or.inl (Or.inl (Or.inl (Or.inl (Or.inl (Or.inl (Or.inl (Or.inr ⟨rfl, hj⟩)))))))))))))
    · exact k19.2.2 7 j (by omega) (Or.inl (Or.inl (Or.inl (Or.inl (Or.inl (Or.inl (Or.inl (Or.inl (Or.inl (Or.inl (Or.inl (Or.inr ⟨rfl, hj⟩))))))))))))
    · exact k19.2.2 8 j (by omega) (Or.inl (Or.inl (Or.inl (Or.inl (Or.inl (Or.inl (Or.inl (Or.inl (Or.inl (Or.inl (Or.inr ⟨rfl, hj⟩)))))))))))
  · exact k19.2.2 9 j (by omega) (Or.inl (Or.inl (Or.inl (Or.inl (Or.inl (Or.inl (Or.inl (Or.inl (Or.inr ⟨rfl, hj⟩)))))))))
  · have hx : x = 10 ∨ x = 11 ∨ x = 12 ∨ x = 13 := by omega
    rcases hx with rfl | rfl | rfl | rfl
    · exact k19.2.2 10 j (by omega) (Or.inl (Or.inl (Or.inl (Or.inl (Or.inl (Or.inl (Or.inr ⟨rfl, hj⟩)))))))
    · exact k19.2.2 11 j (by omega) (Or.inl (Or.inl (Or.inl (Or.inl (Or.inl (Or.inr ⟨rfl, hj⟩))))))
    · exact k19.2.2 12 j (by omega) (Or.inl (Or.inl (Or.inl (Or.inl (Or.inr ⟨rfl, hj⟩)))))
    · exact k19.2.2 13 j (by omega) (Or.inl (Or.inl (Or.inl (Or.inr ⟨rfl, hj⟩))))
  · exact k19.2.2 14 j (by omega) (Or.inl (Or.inr ⟨rfl, hj⟩))
  · rcases hj with rfl | rfl | rfl | rfl | rfl
    · exact k19.2.2 0 3 (by omega) (Or.inl (Or.inl (Or.inl (Or.inl (Or.inl (Or.inl (Or.inl (Or.inl (Or.inl (Or.inl (Or.inl (Or.inl (Or.inl (Or.inl (Or.inl (Or.inr ⟨rfl, rfl⟩))))))))))))))))
    · exact k19.2.2 0 9 (by omega) (Or.inl (Or.inl (Or.inl (Or.inl (Or.inl (Or.inl (Or.inl (Or.inl (Or.inl (Or.inr ⟨rfl, rfl⟩))))))))))
    · exact k19.2.2 0 11 (by omega) (Or.inl (Or.inl (Or.inl (Or.inl (Or.inl (Or.inl (Or.inl (Or.inr ⟨rfl, rfl⟩))))))))
    · exact k19.2.2 0 16 (by omega) (Or.inl (Or.inl (Or.inr ⟨rfl, rfl⟩)))
    · exact k19.2.2 0 18 (by omega) (Or.inr ⟨rfl, rfl⟩)
section
variable {s : Nat} {σ σ' : cS} {o a : Nat}
theorem cPA_p (h : cCp s σ o a σ') {p : Nat} {E : List Pt} (hE : p + E.length ≤ 402) (hA : cPA σ a p E) : cPA σ' o p E := fun k e hk => by
  have := (List.getElem?_eq_some_iff.mp hk).1
  obtain ⟨x1, x2, x3⟩ := hA k e hk
  exact ⟨by rw [h.2.2.1 1 _ (by omega) (by omega) (by omega)]; exact x1, by rw [h.2.2.1 2 _ (by omega) (by omega) (by omega)]; exact x2, by rw [h.2.2.1 3 _ (by omega) (by omega) (by omega)]; exact x3⟩
theorem cTP_p (h : cCp s σ o a σ') {r : List Int32} (hr : r.length = s) (hA : cTP σ a r) : cTP σ' o r := ⟨by rw [h.2.2.2.2.2.2.2 18 (by omega)]; exact hA.1, hA.2.1, fun k hk => by rw [h.2.2.2.2.2.2.1 k (by omega)]; exact hA.2.2 k hk⟩
theorem cCd_p (h : cCp s σ o a σ') (C : List Cd) : ∀ {k p : Nat}, k + C.length ≤ 96 → p + psz C ≤ 402 → cCd σ a k p C → cCd σ' o k p C := by
  induction C with
  | nil => intro k p _ _ _; trivial
  | cons c C ih =>
    intro k p hk hp hc
    simp only [List.length_cons] at hk
    simp only [psz] at hp
    obtain ⟨⟨h1, h2, h3, h4, h5, h6⟩, h7⟩ := hc
    have e : ∀ x, 4 ≤ x → x ≤ 8 → σ'.1 (o + x) k = σ.1 (a + x) k := fun x q1 q2 => h.2.2.2.1 x k q1 q2 (by omega)
    refine ⟨⟨by rw [e 4 (by omega) (by omega)]; exact h1, by rw [e 5 (by omega) (by omega)]; exact h2, fun q => ?_, fun q => ?_, fun q => ?_, fun q => ?_⟩, ih (by omega) (by omega) h7⟩
    · obtain ⟨x1, x2, x3⟩ := h3 q
      exact ⟨by rw [e 6 (by omega) (by omega)]; exact x1, by rw [e 7 (by omega) (by omega)]; exact x2, cPA_p h (by rw [bld_len]; omega) x3⟩
    · obtain ⟨x1, x2⟩ := h4 q
      exact ⟨by rw [e 6 (by omega) (by omega)]; exact x1, by rw [e 7 (by omega) (by omega)]; exact x2⟩
    · rw [e 6 (by omega) (by omega)]; exact h5 q
    · rw [e 8 (by omega) (by omega)]; exact h6 q
theorem cTM_p {C : List Cd} {ch r : List Int32} (h : cCp s σ o a σ') (hr : r.length = s) (hA : cTM σ a C ch r) : cTM σ' o C ch r := by
  obtain ⟨a1, a2, a3, a4, a5, a6, a7, a8⟩ := hA
  exact ⟨by rw [h.2.2.2.2.2.2.2 9 (by omega)]; exact a1, a2, a3, cCd_p h C (by omega) (by omega) a4, by rw [h.2.2.2.2.2.2.2 11 (by omega)]; exact a5, a6, fun k hk => by rw [h.2.2.2.2.1 k (by omega)]; exact a7 k hk, cTP_p h hr a8⟩
theorem cTQ_p {y : List Sy} {r : List Int32} (h : cCp s σ o a σ') (hr : r.length = s) (hA : cTQ σ a y r) : cTQ σ' o y r := by
  obtain ⟨a1, a2, a3, a4⟩ := hA
  exact ⟨by rw [h.2.2.2.1 7 0 (by omega) (by omega) (by omega)]; exact a1, a2, cPA_p h (by rw [bld_len]; omega) a3, cTP_p h hr a4⟩
theorem cFn_p (h : cCp s σ o a σ') (F : List Fn) : ∀ {k p : Nat}, k + F.length ≤ 12 → p + fsz F ≤ 402 → cFn σ a k p F → cFn σ' o k p F := by
  induction F with
  | nil => intro k p _ _ _; trivial
  | cons f F ih =>
    intro k p hk hp hc
    simp only [List.length_cons] at hk
    simp only [fsz] at hp
    obtain ⟨h1, h2, h3, h4, h5, h6⟩ := hc
    have e : ∀ x, 10 ≤ x → x ≤ 13 → σ'.1 (o + x) k = σ.1 (a + x) k := fun x q1 q2 => h.2.2.2.2.2.1 x k q1 q2 (by omega)
    exact ⟨by rw [e 10 (by omega) (by omega)]; exact h1, by rw [e 11 (by omega) (by omega)]; exact h2, by rw [e 12 (by omega) (by omega)]; exact h3, by rw [e 13 (by omega) (by omega)]; exact h4, cPA_p h (by rw [bld_len]; omega) h5, ih (by omega) (by omega) h6⟩
theorem cTL_p {F : List Fn} {r : List Int32} (h : cCp s σ o a σ') (hr : r.length = s) (hA : cTL σ a F r) : cTL σ' o F r := by
  obtain ⟨a1, a2, a3, a4, a5⟩ := hA
  exact ⟨by rw [h.2.2.2.2.2.2.2 16 (by omega)]; exact a1, a2, a3, cFn_p h F (by omega) (by omega) a4, cTP_p h hr a5⟩
end
