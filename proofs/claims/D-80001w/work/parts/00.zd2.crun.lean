set_option maxRecDepth 100000
/-! ===== THE COMPONENT'S RUNS: one statement ===== -/
/-- a question stands at o -/
def cQn (σ : cS) (o : Nat) (C : List Cd) (ch : List Int32) (Y : List Sy) (F : List Fn) (R : List Int32) : Prop :=
  (cpLa o = (1, 4) ∧ cpLa (o + 1) = (1, 3) ∧ cpLa (o + 16) = (1, 3) ∧ (o + 50 < 74 ∨ 86 < o)) ∧
  (σ.1 (o + 1) 9 = nz C.length ∧ cOk C ch ∧ cCd σ (o + 1) 0 0 C) ∧
  (σ.1 (o + 23) 0 = nz (Y.length - 1) ∧ Y.length ≤ 400 ∧ sV Y ∧ cPA σ (o + 16) 0 (bld 0 Y []).1) ∧
  (σ.1 (o + 31) 16 = nz F.length ∧ F.length ≤ 12 ∧ (∀ f ∈ F, fnV f) ∧ (∀ j, j < F.length → σ.1 (o + 31 + 10) j = fnm F j) ∧ (∀ j x, j < F.length → x < 100 → σ.1 (o + 46) (100 * j + x) = fv F (nuf R) j (nz x))) ∧
  σ.1 o 8 = nz R.length ∧ R.length ≤ 20 ∧ (∀ x ∈ R, nV x) ∧ (∀ j, j < R.length → σ.1 (o + 47) j = R.getD j 0)
/-- only these change -/
def fRu (σ σ' : cS) : Prop := σ'.2 = σ.2 ∧ ∀ o j, o ≠ 83 → o ≠ 84 → ¬ (o = 74 ∧ 20 ≤ j ∧ j ≤ 22) → σ'.1 o j = σ.1 o j
theorem fRu.rf {σ : cS} : fRu σ σ := ⟨rfl, fun _ _ _ _ _ => rfl⟩
theorem fRu.tr {σ σ1 σ2 : cS} (h : fRu σ σ1) (h' : fRu σ1 σ2) : fRu σ σ2 := ⟨h'.1.trans h.1, fun o j a b c => (h'.2 o j a b c).trans (h.2 o j a b c)⟩
theorem fRu_I {σ : cS} {o j : Nat} {v : Int32} (h : o = 83 ∨ o = 84 ∨ (o = 74 ∧ 20 ≤ j ∧ j ≤ 22)) : fRu σ (stI σ o j v) := ⟨rfl, fun a k h1 h2 h3 => by
  rw [gI]
  by_cases ha : a = o
  · rw [if_pos ha, if_neg (by omega)]
  · rw [if_neg ha]⟩
theorem fRu_84 {σ σ' : cS} (h : f84 σ σ') : fRu σ σ' := ⟨h.1, fun o j _ c _ => h.2 o j c⟩
/-- frames over which a question stands -/
def fQ (σ σ' : cS) : Prop := ∀ o j, o < 74 ∨ 86 < o → σ'.1 o j = σ.1 o j
theorem fRu.q {σ σ' : cS} (h : fRu σ σ') : fQ σ σ' := fun o j ho => h.2 o j (by omega) (by omega) (by omega)
theorem cPA_Q {σ σ' : cS} {o p : Nat} {E : List Pt} (h : cPA σ o p E) (hf : fQ σ σ') (ho : o + 3 < 74 ∨ 86 < o) : cPA σ' o p E := fun k e hk => by
  obtain ⟨a, b, c⟩ := h k e hk
  exact ⟨by rw [hf _ _ (by omega)]; exact a, by rw [hf _ _ (by omega)]; exact b, by rw [hf _ _ (by omega)]; exact c⟩
theorem cCd_Q {σ σ' : cS} {o : Nat} (hf : fQ σ σ') (ho : o + 9 < 74 ∨ 86 < o) (C : List Cd) : ∀ {k p : Nat}, cCd σ o k p C → cCd σ' o k p C := by
  induction C with
  | nil => intro k p _; trivial
  | cons c C ih =>
    intro k p h
    obtain ⟨⟨h1, h2, h3, h4, h5, h6⟩, h7⟩ := h
    have e : ∀ x y, x ≤ 9 → σ'.1 (o + x) y = σ.1 (o + x) y := fun x y hx => hf _ _ (by omega)
    refine ⟨⟨by rw [e _ _ (by omega)]; exact h1, by rw [e _ _ (by omega)]; exact h2, fun q => ?_, fun q => ?_, fun q => ?_, fun q => ?_⟩, ih h7⟩
    · obtain ⟨a, b, d⟩ := h3 q
      exact ⟨by rw [e _ _ (by omega)]; exact a, by rw [e _ _ (by omega)]; exact b, cPA_Q d hf (by omega)⟩
    · obtain ⟨a, b⟩ := h4 q
      exact ⟨by rw [e _ _ (by omega)]; exact a, by rw [e _ _ (by omega)]; exact b⟩
    · rw [e _ _ (by omega)]; exact h5 q
    · rw [e _ _ (by omega)]; exact h6 q
theorem cQn_Q {σ σ' : cS} {o : Nat} {C : List Cd} {ch : List Int32} {Y : List Sy} {F : List Fn} {R : List Int32} (h : cQn σ o C ch Y F R) (hf : fQ σ σ') : cQn σ' o C ch Y F R := by
  obtain ⟨⟨a1, a2, a3, a4⟩, ⟨b1, b2, b3⟩, ⟨c1, c2, c3, c4⟩, ⟨d1, d2, d3, d4, d5⟩, e1, e2, e3, e4⟩ := h
  have e : ∀ x y, x ≤ 50 → σ'.1 (o + x) y = σ.1 (o + x) y := fun x y hx => hf _ _ (by omega)
  refine ⟨⟨a1, a2, a3, a4⟩, ⟨by rw [e _ _ (by omega)]; exact b1, b2, cCd_Q hf (by omega) C b3⟩, ⟨by rw [e _ _ (by omega)]; exact c1, c2, c3, cPA_Q c4 hf (by omega)⟩, ⟨by rw [e _ _ (by omega)]; exact d1, d2, d3, fun j hj => ?_, fun j x hj hx => ?_⟩, ?_, e2, e3, fun j hj => ?_⟩
  · rw [hf _ _ (by omega)]; exact d4 j hj
  · rw [e _ _ (by omega)]; exact d5 j x hj hx
  · rw [hf _ _ (by omega)]; exact e1
  · rw [e _ _ (by omega)]; exact e4 j hj
/-- the run at hand -/
def cRu (σ : cS) (c : Cfg) : Prop := σ.1 74 20 = nz c.1 ∧ σ.1 74 21 = nz c.2.2.1 ∧ σ.1 74 22 = bi c.2.2.2 ∧ vOk c.2.1 ∧ ∀ a, a < 6 → σ.1 83 a = vof c.2.1 a
theorem cCd_k {σ : cS} {o : Nat} (C : List Cd) : ∀ {k0 p0 j : Nat} {c : Cd}, cCd σ o k0 p0 C → C[j]? = some c → ∃ p, p + c.2.2.1.length ≤ p0 + psz C ∧ cCd1 σ o (k0 + j) p c := by
  induction C with
  | nil => intro k0 p0 j c _ h; simp at h
  | cons g C ih =>
    intro k0 p0 j c h hj
    cases j with
    | zero =>
      simp at hj; subst hj
      exact ⟨p0, by simp only [psz]; omega, h.1⟩
    | succ j =>
      rw [List.getElem?_cons_succ] at hj
      obtain ⟨p, q1, q2⟩ := ih h.2 hj
      refine ⟨p, by simp only [psz]; omega, ?_⟩
      rw [show k0 + (j + 1) = k0 + 1 + j by omega]; exact q2
section
variable {o : Nat} {C : List Cd} {ch : List Int32} {Y : List Sy} {F : List Fn} {R : List Int32}
theorem cQn.code {σ : cS} (h : cQn σ o C ch Y F R) {p : Nat} (hp : p < C.length) : ∃ q, q + (cdA C p).2.2.1.length ≤ 400 ∧ cCd1 σ (o + 1) p q (cdA C p) := by
  obtain ⟨q, h1, h2⟩ := cCd_k C h.2.1.2.2 (cdA_get hp)
  rw [Nat.zero_add] at h2
  have := h.2.1.2.1.2.1
  exact ⟨q, by omega, h2⟩
theorem cQn.env {σ : cS} (h : cQn σ o C ch Y F R) : (∀ c a, nV a → cCal σ o F.length c a = clf F (fv F (nuf R)) F.length c a) ∧ (∀ a, nV a → cNu σ o a = nuf R a) ∧ (∀ c a, nV a → nV (clf F (fv F (nuf R)) F.length c a)) ∧ (∀ a, nV a → nV (nuf R a)) := by
  obtain ⟨⟨a1, a2, a3, a4⟩, ⟨b1, b2, b3⟩, ⟨c1, c2, c3, c4⟩, ⟨d1, d2, d3, d4, d5⟩, e1, e2, e3, e4⟩ := h
  have hnu : ∀ a, nV a → nV (nuf R a) := fun a _ => nuf_n e3 a
  refine ⟨fun c a ha => ?_, fun a ha => ?_, clf_n (fun j x hj hx => fv_n d3 hnu j x hj hx), hnu⟩
  · obtain ⟨x, hx, rfl⟩ := ha
    unfold cCal clf
    rw [fr1_congr (f := σ.1 (o + 31 + 10)) (f' := fnm F) F.length 0 (fun j hj => d4 j (by omega))]
    cases hf : fr1 (fnm F) c F.length 0 with
    | none => rfl
    | some j =>
      have := (fr1_lt _ _ hf).2.1
      simp only
      rw [nz_tn (by omega)]
      exact d5 j x (by omega) hx
  · obtain ⟨x, hx, rfl⟩ := ha
    unfold cNu nuf
    rw [e1, nz_tn (by omega)]
    by_cases hz : nz R.length ≤ nz x
    · rw [if_pos hz]
      rw [nz_le (by omega) (by omega)] at hz
      rw [List.getD_eq_getElem?_getD, List.getElem?_eq_none hz]; rfl
    · rw [if_neg hz]
      rw [nz_le (by omega) (by omega)] at hz
      exact e4 x (by omega)
/-- a sum's value in a run -/
theorem cQn.sum {σ : cS} (h : cQn σ o C ch Y F R) {c : Cfg} (hr : ∀ a, a < 6 → σ.1 83 a = vof c.2.1 a) (hv : vOk c.2.1) {y : List Sy} {p t : Nat} (hy : sV y) (hp : p + y.length ≤ 402) (ht : cpLa t = (1, 3)) (ht2 : t + 3 < 84 ∨ 84 < t) (hA : cPA σ t p (bld p y []).1) :
    ∃ σ', fX5_value o t (nz p) (nz (p + y.length - 1)) 83 84 (σ.1 (o + 31) 16) σ = some (val (vof c.2.1) (clf F (fv F (nuf R)) F.length) (nuf R) y, σ') ∧ f84 σ σ' := by
  obtain ⟨e1, e2, e3, e4⟩ := h.env
  obtain ⟨w1, w2⟩ := sV_wf hy
  have h12 := h.2.2.2.1.2.1
  have ha4 := h.1.2.2.2
  rw [h.2.2.2.1.1]
  exact cVal (below := F.length) h12 (by omega) ht2 ht ⟨fun a _ => vof_n hv a, e3, e4⟩ w1 w2 hp hA hr e1 e2 ⟨R.length, h.2.2.2.2.2.1, h.2.2.2.2.1⟩
theorem cJmp {σ : cS} (h : cQn σ o C ch Y F R) : ∀ (k p f : Nat) (σ : cS), cQn σ o C ch Y F R → C.length + 1 - p < k → p ≤ C.length → k ≤ f → σ.1 74 20 = nz p → ∃ σ', fX6_jump_0 (o + 1) f σ = some ((), σ') ∧ fRu σ σ' ∧ σ'.1 74 20 = nz (jmp C k p) ∧ (∀ j, σ'.1 83 j = σ.1 83 j) ∧ σ'.1 74 21 = σ.1 74 21 ∧ σ'.1 74 22 = σ.1 74 22 := by
  clear h σ
  intro k
  induction k with
  | zero => intro p f σ _ h; omega
  | succ k ih =>
    intro p f σ h hk hp hf h20
    obtain ⟨f, rfl⟩ : ∃ e, f = e + 1 := ⟨f - 1, by omega⟩
    have hC := h.2.1.2.1.1
    have hJ := h.2.1.2.1.2.2.2.1
    conv => arg 1; ext σ'; arg 1; lhs; unfold fX6_jump_0
    rw [h.2.1.1, h20]
    by_cases hpl : p < C.length
    · obtain ⟨q, q1, q2⟩ := h.code hpl
      rw [if_neg (by rw [nz_le (by omega) (by omega)]; omega), ck_n (show p < 96 by omega) (by omega), nz_tn (by omega), show σ.1 (o + 1 + 4) p = (cdA C p).1 from q2.1]
      by_cases h5 : (cdA C p).1 = 5
      · have e8 : σ.1 (o + 1 + 8) p = (cdA C p).2.2.2.2.2 := q2.2.2.2.2.2 (Or.inr (Or.inr h5))
        rw [if_pos h5, ck_n (show p < 96 by omega) (by omega), e8, wI_e]
        obtain ⟨g, g1, g2⟩ := (hJ p _ (cdA_get hpl)).2 h5
        rw [Nat.zero_add, Nat.zero_add] at g2
        have hg : g < 2147483648 := by rcases g2 with z | z <;> omega
        have ej : jmp C (k + 1) p = jmp C k g := by
          show (if p < C.length ∧ (cdA C p).1 = 5 then jmp C k (cdA C p).2.2.2.2.2.toNatClampNeg else p) = _
          rw [if_pos ⟨hpl, h5⟩, g1, nz_tn hg]
        rw [g1, ej]
        have F1 : fRu σ (stI σ 74 20 (nz g)) := fRu_I (by omega)
        have fin : ∀ (k0 : Nat), jmp C k0 g = jmp C k g → (∃ σ', fX6_jump_0 (o + 1) f (stI σ 74 20 (nz g)) = some ((), σ') ∧ fRu (stI σ 74 20 (nz g)) σ' ∧ σ'.1 74 20 = nz (jmp C k0 g) ∧ (∀ j, σ'.1 83 j = (stI σ 74 20 (nz g)).1 83 j) ∧ σ'.1 74 21 = (stI σ 74 20 (nz g)).1 74 21 ∧ σ'.1 74 22 = (stI σ 74 20 (nz g)).1 74 22) → ∃ σ', fX6_jump_0 (o + 1) f (stI σ 74 20 (nz g)) = some ((), σ') ∧ fRu σ σ' ∧ σ'.1 74 20 = nz (jmp C k g) ∧ (∀ j, σ'.1 83 j = σ.1 83 j) ∧ σ'.1 74 21 = σ.1 74 21 ∧ σ'.1 74 22 = σ.1 74 22 := by
          rintro k0 hk0 ⟨σ', i1, i2, i3, i4, i5, i6⟩
          exact ⟨σ', i1, F1.tr i2, by rw [i3, hk0], fun j => by rw [i4, gI, if_neg (by decide)], by rw [i5]; simp [gI], by rw [i6]; simp [gI]⟩
        rcases g2 with ⟨z1, z2⟩ | ⟨-, z2, e4, z3, z4⟩
        · exact fin k rfl (ih g f _ (cQn_Q h F1.q) (by omega) z2 (by omega) (by simp [gI]))
        · -- back to a test
          have hgl : g < C.length := by omega
          have h4 : (cdA C g).1 = 4 := by
            have := cdA_get hgl
            rw [Nat.sub_zero] at z3
            rw [z3] at this
            cases this; exact z4
          have e2 : ∀ k', jmp C k' g = g := by
            intro k'
            cases k' with
            | zero => rfl
            | succ k' =>
              show (if g < C.length ∧ (cdA C g).1 = 5 then _ else g) = g
              rw [if_neg (by rw [h4]; rintro ⟨-, q⟩; exact absurd q (by decide))]
          have h1 := cQn_Q h F1.q
          obtain ⟨f, rfl⟩ : ∃ e, f = e + 1 := ⟨f - 1, by omega⟩
          obtain ⟨q', -, q2'⟩ := h1.code hgl
          have e20 : (stI σ 74 20 (nz g)).1 74 20 = nz g := by simp [gI]
          refine ⟨stI σ 74 20 (nz g), ?_, F1, by rw [e2, e20], fun j => by rw [gI, if_neg (by decide)], by simp [gI], by simp [gI]⟩
          unfold fX6_jump_0
          rw [h1.2.1.1, e20, if_neg (by rw [nz_le (by omega) (by omega)]; omega), ck_n (show g < 96 by omega) (by omega), nz_tn (by omega), show (stI σ 74 20 (nz g)).1 (o + 1 + 4) g = (cdA C g).1 from q2'.1, if_neg (by rw [h4]; decide)]
      · rw [if_neg h5]
        refine ⟨σ, rfl, fRu.rf, ?_, fun _ => rfl, rfl, rfl⟩
        rw [h20]
        show _ = nz (if p < C.length ∧ (cdA C p).1 = 5 then _ else p)
        rw [if_neg (fun z => h5 z.2)]
    · rw [if_pos (by rw [nz_le (by omega) (by omega)]; omega)]
      refine ⟨σ, rfl, fRu.rf, ?_, fun _ => rfl, rfl, rfl⟩
      rw [h20]
      show _ = nz (if p < C.length ∧ (cdA C p).1 = 5 then _ else p)
      rw [if_neg (fun z => hpl z.1)]
end
