set_option maxRecDepth 100000
/-! ===== THE TWIN'S TABLES ===== -/
theorem sub65 {a b : Int32} : a - 65 = b - 65 ↔ a = b := by
  constructor
  · intro h
    have := congrArg (· + 65) h
    simpa using this
  · intro h; rw [h]
theorem fr1_sub {f nm : Nat → Int32} {c : Int32} : ∀ (m j : Nat), (∀ x, x < j + m → nm x = f x - 65) → fr1 nm (c - 65) m j = fr1 f c m j := by
  intro m
  induction m with
  | zero => intro j _; rfl
  | succ m ih =>
    intro j h
    unfold fr1
    rw [h j (by omega), ih (j + 1) (fun x hx => h x (by omega))]
    by_cases hc : f j = c
    · rw [if_pos hc, if_pos (sub65.mpr hc)]
    · rw [if_neg hc, if_neg (fun q => hc (sub65.mp q))]
theorem tFns_k {σ : cS} (F : List Fn) : ∀ {k0 o j : Nat} {f : Fn}, tFns σ k0 o F → F[j]? = some f → ∃ p, o ≤ p ∧ p + f.2.2.length + 1 ≤ o + fo F ∧ σ.1 15 (k0 + j) = f.1 - 65 ∧ σ.1 16 (k0 + j) = f.2.1 ∧ σ.1 17 (k0 + j) = nz p ∧ tOA σ p (f.2.2.map (trS f.2.1 (σ.1 15) (k0 + j)) ++ [(6, 0)]) := by
  induction F with
  | nil => intro k0 o j f _ h; simp at h
  | cons g F ih =>
    intro k0 o j f h hj
    obtain ⟨⟨h1, h2, h3, h4⟩, h5⟩ := h
    cases j with
    | zero =>
      simp at hj; subst hj
      exact ⟨o, Nat.le_refl _, by simp only [fo]; omega, h1, h2, h3, h4⟩
    | succ j =>
      rw [List.getElem?_cons_succ] at hj
      obtain ⟨p, q0, q1, q2⟩ := ih h5 hj
      refine ⟨p, by omega, by simp only [fo]; omega, ?_⟩
      rw [show k0 + (j + 1) = k0 + 1 + j by omega]; exact q2
def fTt (σ σ' : cS) : Prop := σ'.2 = σ.2 ∧ (∀ o j, o ≠ 0 → o ≠ 34 → o ≠ 35 → σ'.1 o j = σ.1 o j) ∧ (∀ j, j ≠ 61 → j ≠ 63 → j ≠ 64 → σ'.1 0 j = σ.1 0 j)
theorem fTt.rf {σ : cS} : fTt σ σ := ⟨rfl, fun _ _ _ _ _ => rfl, fun _ _ _ _ => rfl⟩
theorem fTt.tr {σ σ1 σ2 : cS} (h : fTt σ σ1) (h' : fTt σ1 σ2) : fTt σ σ2 := ⟨h'.1.trans h.1, fun o j a b c => (h'.2.1 o j a b c).trans (h.2.1 o j a b c), fun j a b c => (h'.2.2 j a b c).trans (h.2.2 j a b c)⟩
theorem fTt_34 {σ σ' : cS} (h : f34 σ σ') : fTt σ σ' := ⟨h.1, fun o j a b _ => h.2.1 o j a b, fun j a _ c => h.2.2 j a c⟩
theorem fTt_35 {σ : cS} {j : Nat} {v : Int32} : fTt σ (stI σ 35 j v) := ⟨rfl, fun o k a b c => by rw [gI, if_neg c], fun k a b c => by rw [gI, if_neg (by decide)]⟩
theorem fTt_63 {σ : cS} {v : Int32} : fTt σ (stI σ 0 63 v) := ⟨rfl, fun o k a b c => by rw [gI, if_neg a], fun k a b c => by rw [gI, if_pos rfl, if_neg b]⟩
/-- row of the question q of the twin -/
def tRow (σ : cS) (q : Nat) (R : List Int32) : Prop := q < 16 ∧ σ.1 0 65 = nz q ∧ σ.1 30 q = nz R.length ∧ R.length ≤ 20 ∧ (∀ x ∈ R, nV x) ∧ (∀ j, j < R.length → σ.1 29 (20 * q + j) = R.getD j 0)
/-- functions of the twin from o on -/
def tFu (σ : cS) (o : Nat) (F : List Fn) : Prop := σ.1 0 37 = nz F.length ∧ F.length ≤ 12 ∧ o + fo F ≤ 11000 ∧ fo F ≤ 1100 ∧ tFns σ 0 o F ∧ (∀ f ∈ F, fnV f)
theorem tRow_T {σ σ' : cS} {q : Nat} {R : List Int32} (h : tRow σ q R) (hf : fTt σ σ') : tRow σ' q R := by
  obtain ⟨h1, h2, h3, h4, h5, h6⟩ := h
  exact ⟨h1, by rw [hf.2.2 65 (by decide) (by decide) (by decide)]; exact h2, by rw [hf.2.1 30 _ (by decide) (by decide) (by decide)]; exact h3, h4, h5, fun j hj => by rw [hf.2.1 29 _ (by decide) (by decide) (by decide)]; exact h6 j hj⟩
theorem tFns_T {σ σ' : cS} (hf : fTt σ σ') (F : List Fn) : ∀ {k o : Nat}, tFns σ k o F → tFns σ' k o F := by
  have e15 : σ'.1 15 = σ.1 15 := by funext j; exact hf.2.1 15 j (by decide) (by decide) (by decide)
  induction F with
  | nil => intro k o _; trivial
  | cons f F ih =>
    intro k o h
    obtain ⟨⟨a1, a2, a3, a4⟩, a5⟩ := h
    refine ⟨⟨by rw [e15]; exact a1, by rw [hf.2.1 16 _ (by decide) (by decide) (by decide)]; exact a2, by rw [hf.2.1 17 _ (by decide) (by decide) (by decide)]; exact a3, ?_⟩, ih a5⟩
    rw [e15]
    intro k e hk
    rw [hf.2.1 2 _ (by decide) (by decide) (by decide), hf.2.1 3 _ (by decide) (by decide) (by decide)]
    exact a4 k e hk
theorem tFu_T {σ σ' : cS} {o : Nat} {F : List Fn} (h : tFu σ o F) (hf : fTt σ σ') : tFu σ' o F := by
  obtain ⟨h1, h2, h3, h4, h5, h6⟩ := h
  exact ⟨by rw [hf.2.2 37 (by decide) (by decide) (by decide)]; exact h1, h2, h3, h4, tFns_T hf F h5, h6⟩
theorem tNu_eq {σ : cS} {q : Nat} {R : List Int32} (h : tRow σ q R) {a : Int32} (ha : nV a) : tNu σ q a = nuf R a := by
  obtain ⟨h1, h2, h3, h4, h5, h6⟩ := h
  obtain ⟨x, hx, rfl⟩ := ha
  unfold tNu nuf
  rw [h3, nz_tn (by omega)]
  by_cases hz : nz R.length ≤ nz x
  · rw [if_pos hz]
    rw [nz_le (by omega) (by omega)] at hz
    rw [List.getD_eq_getElem?_getD, List.getElem?_eq_none hz]; rfl
  · rw [if_neg hz]
    rw [nz_le (by omega) (by omega)] at hz
    exact h6 x (by omega)
theorem tCal_eq {σ : cS} {o : Nat} {F : List Fn} (h : tFu σ o F) {k : Nat} (hk : k ≤ F.length) {g : Nat → Int32 → Int32} (hT : ∀ j a, j < k → a < 100 → σ.1 35 (100 * j + a) = g j (nz a)) {c a : Int32} (ha : nV a) : tCal σ (σ.1 15) k c a = clf F g k c a := by
  obtain ⟨x, hx, rfl⟩ := ha
  unfold tCal clf
  rw [fr1_sub (f := fnm F) k 0 (fun j hj => by
    have hj2 : j < F.length := by omega
    obtain ⟨p, -, -, q2, -⟩ := tFns_k F h.2.2.2.2.1 (List.getElem?_eq_getElem hj2)
    rw [Nat.zero_add] at q2
    rw [q2]; unfold fnm
    rw [List.getD_eq_getElem?_getD, List.getElem?_eq_getElem hj2]; rfl)]
  cases hf : fr1 (fnm F) c k 0 with
  | none => rfl
  | some j =>
    have := (fr1_lt _ _ hf).2.1
    simp only
    rw [nz_tn (by omega)]
    exact hT j x (by omega) hx
section
variable {F : List Fn} {R : List Int32} {o q : Nat}
theorem tTab124 {a1 : Int32} {k : Nat} {f : Fn} (hk : k < F.length) (hf : F[k]? = some f) (K : Int32 → cS → Option (Unit × cS)) : ∀ (m a fu : Nat) (σ : cS), 100 - a = m → m < fu → a ≤ 100 → tFu σ o F → tRow σ q R → (∀ j x, j < k → x < 100 → σ.1 35 (100 * j + x) = fv F (nuf R) j (nz x)) → (∀ x, x < a → σ.1 35 (100 * k + x) = fv F (nuf R) k (nz x)) →
    ∃ σ', fX11_prepare_124 a1 K fu (nz k) (nz a) σ = K (nz (k + 1)) σ' ∧ fTt σ σ' ∧ (∀ j x, j < k + 1 → x < 100 → σ'.1 35 (100 * j + x) = fv F (nuf R) j (nz x)) := by
  intro m
  induction m with
  | zero =>
    intro a fu σ hm hfu ha hQ hW hT hTk
    obtain ⟨fu, rfl⟩ : ∃ e, fu = e + 1 := ⟨fu - 1, by omega⟩
    refine ⟨σ, ?_, fTt.rf, fun j x hj hx => ?_⟩
    · unfold fX11_prepare_124
      rw [show (100 : Int32) = nz 100 from rfl, if_pos (by rw [nz_le (by omega) (by omega)]; omega), nz_s]
    · by_cases hjk : j = k
      · rw [hjk]; exact hTk x (by omega)
      · exact hT j x (by omega) hx
  | succ m ih =>
    intro a fu σ hm hfu ha hQ hW hT hTk
    obtain ⟨fu, rfl⟩ : ∃ e, fu = e + 1 := ⟨fu - 1, by omega⟩
    have hk12 : k < 12 := by have := hQ.2.1; omega
    have F1 : fTt σ (stI σ 0 63 (nz a)) := fTt_63
    have Q1 := tFu_T hQ F1
    have W1 := tRow_T hW F1
    obtain ⟨p, p0, p1, p2, p3, p4, p5⟩ := tFns_k F Q1.2.2.2.2.1 hf
    rw [Nat.zero_add] at p2 p3 p4 p5
    have ho11 := hQ.2.2.1
    have hfo := hQ.2.2.2.1
    have hfv := hQ.2.2.2.2.2 f (List.mem_of_getElem? hf)
    obtain ⟨x1, ⟨vx, hvx, evx⟩, x3, x4, x5⟩ := hfv
    have hnu : ∀ z, nV z → nV (nuf R z) := fun z _ => nuf_n hW.2.2.2.2.1 z
    have hna : nV (nz a) := ⟨a, by omega, rfl⟩
    have hE : gEn (fun _ => nz a) (clf F (fv F (nuf R)) k) (nuf R) := ⟨fun _ _ => hna, clf_n (fun j x hj hx => fv_n hQ.2.2.2.2.2 hnu j x (by omega) hx), hnu⟩
    have e63 : (stI σ 0 63 (nz a)).1 0 63 = nz a := by simp [gI]
    obtain ⟨σ2, σ3, g1, g2, g3⟩ := tSumE (ov := f.2.1) (nm := (stI σ 0 63 (nz a)).1 15) (nF := k) (q := q) (y := f.2.2) (pc := p) hE (Or.inl rfl) hW.1 (by omega) x3 (by omega) (by omega) W1.2.1 ⟨R.length, hW.2.2.2.1, W1.2.2.1⟩ p5 (fun x _ => by
        unfold tVr
        rw [if_neg (by rw [evx]; exact nz_ge0 (by omega)), e63]) (fun c z hz => tCal_eq Q1 (by omega) (fun j x hj hx => by rw [gI, if_neg (by decide)]; exact hT j x hj hx) hz) (fun z hz => tNu_eq W1 hz)
    have hval : val (fun _ => nz a) (clf F (fv F (nuf R)) k) (nuf R) f.2.2 = fv F (nuf R) k (nz a) := by
      rw [fv_eq, show F.getD k (0, 0, []) = f by rw [List.getD_eq_getElem?_getD, hf]; rfl]
    rw [hval] at g2
    have F3 : fTt σ (stI σ3 35 (100 * k + a) (fv F (nuf R) k (nz a))) := (F1.tr (fTt_34 g3)).tr fTt_35
    have k35 : ∀ x, σ3.1 35 x = σ.1 35 x := fun x => by rw [g3.2.1 35 x (by decide) (by decide), gI, if_neg (by decide)]
    obtain ⟨σ', i1, i2, i3⟩ := ih (a + 1) fu (stI σ3 35 (100 * k + a) (fv F (nuf R) k (nz a))) (by omega) (by omega) (by omega) (tFu_T hQ F3) (tRow_T hW F3) (fun j x hj hx => by
        rw [gI, if_pos rfl, if_neg (by omega), k35]; exact hT j x hj hx) (fun x hx => by
        rw [gI, if_pos rfl]
        by_cases hxa : x = a
        · rw [if_pos (by omega), hxa]
        · rw [if_neg (by omega), k35]; exact hTk x (by omega))
    refine ⟨σ', ?_, F3.tr i2, i3⟩
    conv => lhs; unfold fX11_prepare_124
    rw [show (100 : Int32) = nz 100 from rfl, if_neg (by rw [nz_le (by omega) (by omega)]; omega), wI_e, ck_n (show k < 400 by omega) (by omega), nz_tn (show k < 2147483648 by omega), p4, g1, bd_s, g2, bd_s, nz_mul, nz_add, ck_n (by omega) (by omega), nz_tn (by omega), wI_e, nz_s]
    exact i1
theorem tTabl {a1 : Int32} : ∀ (m k fu : Nat) (σ : cS), F.length - k = m → m < fu → k ≤ F.length → tFu σ o F → tRow σ q R → (∀ j x, j < k → x < 100 → σ.1 35 (100 * j + x) = fv F (nuf R) j (nz x)) →
    ∃ σ', fX11_prepare_114 a1 fu (nz k) σ = some ((), σ') ∧ fTt σ σ' ∧ (∀ j x, j < F.length → x < 100 → σ'.1 35 (100 * j + x) = fv F (nuf R) j (nz x)) := by
  intro m
  induction m with
  | zero =>
    intro k fu σ hm hfu hk hQ hW hT
    obtain ⟨fu, rfl⟩ : ∃ e, fu = e + 1 := ⟨fu - 1, by omega⟩
    have := hQ.2.1
    refine ⟨σ, ?_, fTt.rf, fun j x hj hx => hT j x (by omega) hx⟩
    unfold fX11_prepare_114
    rw [hQ.1, if_pos (by rw [nz_le (by omega) (by omega)]; omega)]
  | succ m ih =>
    intro k fu σ hm hfu hk hQ hW hT
    obtain ⟨fu, rfl⟩ : ∃ e, fu = e + 1 := ⟨fu - 1, by omega⟩
    have h12 := hQ.2.1
    have hkl : k < F.length := by omega
    obtain ⟨σ1, g1, g2, g3⟩ := tTab124 (F := F) (R := R) (o := o) (q := q) (a1 := a1) (f := F[k]) hkl (List.getElem?_eq_getElem hkl) (fX11_prepare_114 a1 fu) 100 0 FU σ (by omega) (by unfold FU; omega) (by omega) hQ hW hT (fun x hx => by omega)
    obtain ⟨σ2, i1, i2, i3⟩ := ih (k + 1) fu σ1 (by omega) (by omega) (by omega) (tFu_T hQ g2) (tRow_T hW g2) g3
    refine ⟨σ2, ?_, g2.tr i2, i3⟩
    conv => lhs; unfold fX11_prepare_114
    rw [hQ.1, if_neg (by rw [nz_le (by omega) (by omega)]; omega)]
    rw [← i1, ← g1]; rfl
end
