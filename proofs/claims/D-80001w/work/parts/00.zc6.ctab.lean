set_option maxRecDepth 100000
/-! ===== THE COMPONENT'S TABLES ===== -/
theorem nV.lo {a : Int32} (h : nV a) : lo7 a := by
  obtain ⟨x, hx, rfl⟩ := h
  exact ⟨x, by omega, rfl⟩
theorem nV.by {a : Int32} (h : nV a) : vp_nar .byte a.toInt8.toInt32 = a := by
  rw [vp_nar_byte]; show sb (sb a) = a; rw [h.lo.sb, h.lo.sb]
theorem cFn_k {σ : cS} {o : Nat} (F : List Fn) : ∀ {k0 p0 j : Nat} {f : Fn}, cFn σ o k0 p0 F → F[j]? = some f → ∃ p, p + f.2.2.length ≤ p0 + fsz F ∧ σ.1 (o + 10) (k0 + j) = f.1 ∧ σ.1 (o + 11) (k0 + j) = f.2.1 ∧ σ.1 (o + 12) (k0 + j) = nz p ∧ σ.1 (o + 13) (k0 + j) = nz (p + f.2.2.length - 1) ∧ cPA σ o p (bld p f.2.2 []).1 := by
  induction F with
  | nil => intro k0 p0 j f _ h; simp at h
  | cons g F ih =>
    intro k0 p0 j f h hj
    obtain ⟨h1, h2, h3, h4, h5, h6⟩ := h
    cases j with
    | zero =>
      simp at hj; subst hj
      exact ⟨p0, by simp only [fsz]; omega, h1, h2, h3, h4, h5⟩
    | succ j =>
      rw [List.getElem?_cons_succ] at hj
      obtain ⟨p, q1, q2⟩ := ih h6 hj
      refine ⟨p, by simp only [fsz]; omega, ?_⟩
      rw [show k0 + (j + 1) = k0 + 1 + j by omega]; exact q2
/-- only these change -/
def fTb (σ σ' : cS) : Prop := σ'.2 = σ.2 ∧ ∀ o j, o ≠ 67 → o ≠ 83 → o ≠ 84 → σ'.1 o j = σ.1 o j
theorem fTb.rf {σ : cS} : fTb σ σ := ⟨rfl, fun _ _ _ _ _ => rfl⟩
theorem fTb.tr {σ σ1 σ2 : cS} (h : fTb σ σ1) (h' : fTb σ1 σ2) : fTb σ σ2 := ⟨h'.1.trans h.1, fun o j a b c => (h'.2 o j a b c).trans (h.2 o j a b c)⟩
theorem fTb_I {σ : cS} {o j : Nat} {v : Int32} (h : o = 67 ∨ o = 83 ∨ o = 84) : fTb σ (stI σ o j v) := ⟨rfl, fun a k h1 h2 h3 => by rw [gI, if_neg (by omega)]⟩
theorem fTb_84 {σ σ' : cS} (h : f84 σ σ') : fTb σ σ' := ⟨h.1, fun o j _ _ c => h.2 o j c⟩
/-- row and functions of the question that stands -/
def cQF (σ : cS) (F : List Fn) (R : List Int32) : Prop := σ.1 52 16 = nz F.length ∧ F.length ≤ 12 ∧ fsz F ≤ 400 ∧ cFn σ 52 0 0 F ∧ (∀ f ∈ F, fnV f) ∧ σ.1 21 8 = nz R.length ∧ R.length ≤ 20 ∧ (∀ x ∈ R, nV x) ∧ (∀ j, j < R.length → σ.1 68 j = R.getD j 0)
theorem cPA_T {σ σ' : cS} {o p : Nat} {E : List Pt} (h : cPA σ o p E) (hf : fTb σ σ') (ho : o + 3 < 67 ∨ 84 < o) : cPA σ' o p E := fun k e hk => by
  obtain ⟨a, b, c⟩ := h k e hk
  exact ⟨by rw [hf.2 _ _ (by omega) (by omega) (by omega)]; exact a, by rw [hf.2 _ _ (by omega) (by omega) (by omega)]; exact b, by rw [hf.2 _ _ (by omega) (by omega) (by omega)]; exact c⟩
theorem cFn_T {σ σ' : cS} {o : Nat} (hf : fTb σ σ') (ho : o + 14 < 67 ∨ 84 < o) (F : List Fn) : ∀ {k p : Nat}, cFn σ o k p F → cFn σ' o k p F := by
  induction F with
  | nil => intro k p _; trivial
  | cons f F ih =>
    intro k p h
    obtain ⟨h1, h2, h3, h4, h5, h6⟩ := h
    exact ⟨by rw [hf.2 _ _ (by omega) (by omega) (by omega)]; exact h1, by rw [hf.2 _ _ (by omega) (by omega) (by omega)]; exact h2, by rw [hf.2 _ _ (by omega) (by omega) (by omega)]; exact h3, by rw [hf.2 _ _ (by omega) (by omega) (by omega)]; exact h4, cPA_T h5 hf (by omega), ih h6⟩
theorem cQF_T {σ σ' : cS} {F : List Fn} {R : List Int32} (h : cQF σ F R) (hf : fTb σ σ') : cQF σ' F R := by
  obtain ⟨h1, h2, h3, h4, h5, h6, h7, h8, h9⟩ := h
  exact ⟨by rw [hf.2 _ _ (by omega) (by omega) (by omega)]; exact h1, h2, h3, cFn_T hf (by omega) F h4, h5, by rw [hf.2 _ _ (by omega) (by omega) (by omega)]; exact h6, h7, h8, fun j hj => by rw [hf.2 _ _ (by omega) (by omega) (by omega)]; exact h9 j hj⟩
theorem cNu_eq {σ : cS} {F : List Fn} {R : List Int32} (h : cQF σ F R) {a : Int32} (ha : nV a) : cNu σ 21 a = nuf R a := by
  obtain ⟨h1, h2, h3, h4, h5, h6, h7, h8, h9⟩ := h
  obtain ⟨x, hx, rfl⟩ := ha
  unfold cNu nuf
  rw [h6, nz_tn (by omega)]
  by_cases hz : nz R.length ≤ nz x
  · rw [if_pos hz]
    rw [nz_le (by omega) (by omega)] at hz
    rw [List.getD_eq_getElem?_getD, List.getElem?_eq_none hz]; rfl
  · rw [if_neg hz]
    rw [nz_le (by omega) (by omega)] at hz
    exact h9 x (by omega)
theorem cCal_eq {σ : cS} {F : List Fn} {R : List Int32} (h : cQF σ F R) {k : Nat} (hk : k ≤ F.length) {g : Nat → Int32 → Int32} (hT : ∀ j a, j < k → a < 100 → σ.1 67 (100 * j + a) = g j (nz a)) {c a : Int32} (ha : nV a) : cCal σ 21 k c a = clf F g k c a := by
  obtain ⟨x, hx, rfl⟩ := ha
  unfold cCal clf
  rw [show 21 + 31 + 10 = 52 + 10 from rfl, fr1_congr (f := σ.1 (52 + 10)) (f' := fnm F) k 0 (fun j hj => by
    have hj2 : j < F.length := by omega
    obtain ⟨p, -, q2, -⟩ := cFn_k F h.2.2.2.1 (List.getElem?_eq_getElem hj2)
    rw [Nat.zero_add] at q2
    rw [q2]; unfold fnm
    rw [List.getD_eq_getElem?_getD, List.getElem?_eq_getElem hj2]; rfl)]
  cases hf : fr1 (fnm F) c k 0 with
  | none => rfl
  | some j =>
    have := (fr1_lt _ _ hf).2.1
    simp only
    rw [nz_tn (by omega)]
    exact hT j x (by omega) hx
theorem cp52 : cpLa 52 = (1, 3) := by decide +kernel
section
variable {F : List Fn} {R : List Int32}
theorem cTab16 {k : Nat} {f : Fn} (hk : k < F.length) (hf : F[k]? = some f) (K2 : Int32 → cS → Option (Unit × cS)) : ∀ (m a fu : Nat) (σ : cS), 100 - a = m → m < fu → a ≤ 100 → cQF σ F R → (∀ j x, j < k → x < 100 → σ.1 67 (100 * j + x) = fv F (nuf R) j (nz x)) → (∀ x, x < a → σ.1 67 (100 * k + x) = fv F (nuf R) k (nz x)) →
    ∃ σ', fX5_tabulate_16 21 83 84 K2 fu (nz k) (nz a) σ = K2 (nz (k + 1)) σ' ∧ fTb σ σ' ∧ (∀ j x, j < k + 1 → x < 100 → σ'.1 67 (100 * j + x) = fv F (nuf R) j (nz x)) := by
  intro m
  induction m with
  | zero =>
    intro a fu σ hm hfu ha hQ hT hTk
    obtain ⟨fu, rfl⟩ : ∃ e, fu = e + 1 := ⟨fu - 1, by omega⟩
    refine ⟨σ, ?_, fTb.rf, fun j x hj hx => ?_⟩
    · unfold fX5_tabulate_16
      rw [show (100 : Int32) = nz 100 from rfl, if_pos (by rw [nz_le (by omega) (by omega)]; omega), nz_s]
    · by_cases hjk : j = k
      · rw [hjk]; exact hTk x (by omega)
      · exact hT j x (by omega) hx
  | succ m ih =>
    intro a fu σ hm hfu ha hQ hT hTk
    obtain ⟨fu, rfl⟩ : ∃ e, fu = e + 1 := ⟨fu - 1, by omega⟩
    have hk12 : k < 12 := by have := hQ.2.1; omega
    obtain ⟨p, p1, p2, p3, p4, p5, p6⟩ := cFn_k F hQ.2.2.2.1 hf
    rw [Nat.zero_add] at p2 p3 p4 p5
    have hfv := hQ.2.2.2.2.1 f (List.mem_of_getElem? hf)
    obtain ⟨x1, ⟨vx, hvx, evx⟩, x3, x4, x5⟩ := hfv
    have F1 : fTb σ (stI σ 83 vx (nz a)) := fTb_I (by omega)
    have Q1 := cQF_T hQ F1
    have v1 : ∀ x, x < 6 → nV (if x = vx then nz a else 0) := fun x hx => by
      split
      · exact ⟨a, by omega, rfl⟩
      · exact ⟨0, by omega, rfl⟩
    have hnu : ∀ z, nV z → nV (nuf R z) := fun z _ => nuf_n hQ.2.2.2.2.2.2.2.1 z
    have hE : gEn (fun x => if x = vx then nz a else 0) (clf F (fv F (nuf R)) k) (nuf R) := ⟨v1, clf_n (fun j x hj hx => fv_n hQ.2.2.2.2.1 hnu j x (by omega) hx), hnu⟩
    have hfs := hQ.2.2.1
    obtain ⟨σ2, g1, g2⟩ := cValw (o := 21) (a1 := 52) (below := k) (y := f.2.2) (p := p) (σ := stI σ 83 vx (nz a)) (by omega) (by omega) (by omega) cp52 hE x3 x4 (by omega) (cPA_T p6 F1 (by omega)) (fun s hs x h1 h2 hx => by
      have := x5 s hs h1
      rw [h2, evx, nz_inj (by omega) (by omega)] at this
      rw [this]; simp [gI]) (fun c z hz => cCal_eq Q1 (by omega) (fun j x hj hx => by rw [gI, if_neg (by decide)]; exact hT j x hj hx) hz) (fun z hz => cNu_eq Q1 hz) ⟨R.length, hQ.2.2.2.2.2.2.1, by rw [gI, if_neg (by decide)]; exact hQ.2.2.2.2.2.1⟩
    have hval : val (fun x => if x = vx then nz a else 0) (clf F (fv F (nuf R)) k) (nuf R) f.2.2 = fv F (nuf R) k (nz a) := by
      rw [fv_eq, show F.getD k (0, 0, []) = f by rw [List.getD_eq_getElem?_getD, hf]; rfl]
      refine val_cg (fun s hs h1 => ?_)
      rw [x5 s hs h1, evx, nz_tn (by omega)]
      simp
    rw [hval] at g1
    have hfn := fv_n hQ.2.2.2.2.1 hnu k (nz a) hk ⟨a, by omega, rfl⟩
    have F2 := F1.tr (fTb_84 g2)
    have F3 : fTb σ (stI σ2 67 (100 * k + a) (fv F (nuf R) k (nz a))) := F2.tr (fTb_I (by omega))
    have k67 : ∀ x, σ2.1 67 x = σ.1 67 x := fun x => by rw [g2.2 67 x (by decide), gI, if_neg (by decide)]
    obtain ⟨σ', i1, i2, i4⟩ := ih (a + 1) fu (stI σ2 67 (100 * k + a) (fv F (nuf R) k (nz a))) (by omega) (by omega) (by omega) (cQF_T hQ F3) (fun j x hj hx => by
        rw [gI, if_pos rfl, if_neg (by omega), k67]; exact hT j x hj hx) (fun x hx => by
        rw [gI, if_pos rfl]
        by_cases hxa : x = a
        · rw [if_pos (by omega), hxa]
        · rw [if_neg (by omega), k67]; exact hTk x (by omega))
    refine ⟨σ', ?_, F3.tr i2, i4⟩
    conv => lhs; unfold fX5_tabulate_16
    rw [show (100 : Int32) = nz 100 from rfl, if_neg (by rw [nz_le (by omega) (by omega)]; omega), ck_n hk12 (by omega), nz_tn (show k < 2147483648 by omega), show σ.1 (21 + 42) k = nz vx from p3.trans evx, cp83, ck_n hvx (by omega), nz_tn (by omega), wI_e, ck_n hk12 (by omega), ck_n hk12 (by omega)]
    have e43 : (stI σ 83 vx (nz a)).1 (21 + 43) k = nz p := by rw [gI, if_neg (by decide)]; exact p4
    have e44 : (stI σ 83 vx (nz a)).1 (21 + 44) k = nz (p + f.2.2.length - 1) := by rw [gI, if_neg (by decide)]; exact p5
    rw [e43, e44, show 21 + 31 = 52 from rfl, g1, bd_s, nz_mul, nz_add, ck_n (by omega) (by omega), nz_tn (by omega), hfn.by, wI_e, nz_s]
    exact i1
/-- the component tabulates -/
theorem cTabl : ∀ (m k fu : Nat) (σ : cS), F.length - k = m → m < fu → k ≤ F.length → cQF σ F R → (∀ j x, j < k → x < 100 → σ.1 67 (100 * j + x) = fv F (nuf R) j (nz x)) →
    ∃ σ', fX5_tabulate_2 21 83 84 fu (nz k) σ = some ((), σ') ∧ fTb σ σ' ∧ (∀ j x, j < F.length → x < 100 → σ'.1 67 (100 * j + x) = fv F (nuf R) j (nz x)) := by
  intro m
  induction m with
  | zero =>
    intro k fu σ hm hfu hk hQ hT
    obtain ⟨fu, rfl⟩ : ∃ e, fu = e + 1 := ⟨fu - 1, by omega⟩
    have := hQ.2.1
    refine ⟨σ, ?_, fTb.rf, fun j x hj hx => hT j x (by omega) hx⟩
    unfold fX5_tabulate_2
    rw [show σ.1 (21 + 31) 16 = nz F.length from hQ.1, if_pos (by rw [nz_le (by omega) (by omega)]; omega)]
  | succ m ih =>
    intro k fu σ hm hfu hk hQ hT
    obtain ⟨fu, rfl⟩ : ∃ e, fu = e + 1 := ⟨fu - 1, by omega⟩
    have h12 := hQ.2.1
    have hkl : k < F.length := by omega
    obtain ⟨σ1, g1, g2, g4⟩ := cTab16 (F := F) (R := R) (f := F[k]) hkl (List.getElem?_eq_getElem hkl) (fX5_tabulate_2 21 83 84 fu) 100 0 FU σ (by omega) (by unfold FU; omega) (by omega) hQ hT (fun x hx => by omega)
    obtain ⟨σ2, i1, i2, i4⟩ := ih (k + 1) fu σ1 (by omega) (by omega) (by omega) (cQF_T hQ g2) g4
    refine ⟨σ2, ?_, g2.tr i2, i4⟩
    conv => lhs; unfold fX5_tabulate_2
    rw [show σ.1 (21 + 31) 16 = nz F.length from hQ.1, if_neg (by rw [nz_le (by omega) (by omega)]; omega)]
    rw [← i1, ← g1]; rfl
theorem cTabu {σ : cS} (hQ : cQF σ F R) : ∃ σ', fX5_tabulate 21 83 84 σ = some ((), σ') ∧ fTb σ σ' ∧ (∀ j x, j < F.length → x < 100 → σ'.1 67 (100 * j + x) = fv F (nuf R) j (nz x)) := by
  have h12 := hQ.2.1
  obtain ⟨σ', g1, g2, g4⟩ := cTabl (F := F) (R := R) F.length 0 FU σ (by omega) (by unfold FU; omega) (Nat.zero_le _) hQ (fun j x hj => by omega)
  refine ⟨σ', ?_, g2, g4⟩
  unfold fX5_tabulate
  rw [cp83, cp84, ck_t (by decide), ck_t (by decide)]
  exact g1
end
