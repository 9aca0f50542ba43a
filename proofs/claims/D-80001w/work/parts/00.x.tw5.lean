set_option maxRecDepth 100000
/-! ===== NOTED FAULTS ONLY FALL ===== -/
def wM (w w' : Option Nat) : Prop := ∀ f, w = some f → ∃ f', w' = some f' ∧ f' ≤ f
theorem wM.rf {w : Option Nat} : wM w w := fun f h => ⟨f, h, Nat.le_refl _⟩
theorem wM.tr {a b c : Option Nat} (h : wM a b) (h' : wM b c) : wM a c := fun f e => by
  obtain ⟨x, h1, h2⟩ := h f e
  obtain ⟨y, h3, h4⟩ := h' x h1
  exact ⟨y, h3, by omega⟩
theorem wM_ntb {b : Bool} {w : Option Nat} {p : Nat} : wM w (ntb b w p) := by
  intro f e
  subst e
  unfold ntb
  cases b with
  | false => exact ⟨f, rfl, Nat.le_refl _⟩
  | true =>
    simp only [if_true, nt]
    by_cases h : p < f
    · exact ⟨p, by simp [h], by omega⟩
    · exact ⟨f, by simp [h], Nat.le_refl _⟩
theorem dW_m {dep i j : Nat} {w w' : Option Nat} (h : dW dep w i) (hw : wM w w') (hj : i ≤ j) : dW dep w' j := fun q => by
  obtain ⟨f, h1, h2⟩ := h q
  obtain ⟨f', h3, h4⟩ := hw f h1
  exact ⟨f', h3, by omega⟩
section
variable {n : Nat} {tx : Nat → Int32}
theorem pLp_m {R : Int32 → Nat → Nat → Option Nat → ER} {L : Int32} {dep : Nat} (hR : ∀ L dep i w q, R L dep i w = .ok q → wM w q.2.1) :
    ∀ (k i : Nat) (w : Option Nat) (l : Int32) (r : List Int32) (y : List Sy) (q : ET), pLp n tx R L dep k i w l r y = .ok q → wM w q.2.1 := by
  intro k
  induction k with
  | zero => intro i w l r y q h; cases h
  | succ k ih =>
    intro i w l r y q h
    unfold pLp at h
    split at h
    · cases h; exact wM.rf
    · obtain ⟨q1, e1, e2⟩ := eb_ok h
      split at e2
      · have z := hR _ _ _ _ _ e1
        cases e2; exact z
      · exact (hR _ _ _ _ _ e1).tr (ih _ _ _ _ _ _ e2)
theorem pE_m (own : Int32) : ∀ d, (∀ L dep i w q, (pE n tx own d).1 L dep i w = .ok q → wM w q.2.1) ∧ (∀ dep i w q, (pE n tx own d).2.1 dep i w = .ok q → wM w q.2.1) ∧ (∀ dep cl i w q, (pE n tx own d).2.2 dep cl i w = .ok q → wM w q.2.1) := by
  intro d
  induction d with
  | zero => exact ⟨fun _ _ _ _ _ h => (by cases h), fun _ _ _ _ h => (by cases h), fun _ _ _ _ _ h => (by cases h)⟩
  | succ d ih =>
    obtain ⟨ihS, ihA, ihI⟩ := ih
    refine ⟨?_, ?_, ?_⟩
    · intro L dep i w q h
      obtain ⟨q1, e1, e2⟩ := eb_ok (show eb ((pE n tx own d).2.1 dep i w) _ = .ok q from h)
      exact (ihA _ _ _ _ e1).tr (pLp_m ihS _ _ _ _ _ _ _ e2)
    · intro dep i w q h
      have h : pAt n tx own (pE n tx own d).2.1 (pE n tx own d).2.2 dep i w = .ok q := h
      unfold pAt at h
      split at h
      · cases h; exact wM.rf
      · split at h
        · cases h; exact wM_ntb
        · split at h
          · split at h
            · obtain ⟨q1, e1, e2⟩ := eb_ok h
              have z := ihI _ _ _ _ _ e1
              cases e2; exact z
            · cases h
          · split at h
            · exact ihI _ _ _ _ _ h
            · split at h
              · obtain ⟨q1, e1, e2⟩ := eb_ok h
                have z := ihI _ _ _ _ _ e1
                cases e2; exact z
              · split at h
                · obtain ⟨q1, e1, e2⟩ := eb_ok h
                  have z := ihA _ _ _ _ e1
                  cases e2; exact wM_ntb.tr z
                · cases h
    · intro dep cl i w q h
      obtain ⟨q1, e1, e2⟩ := eb_ok (show eb ((pE n tx own d).1 0 (dep + 1) i _) _ = .ok q from h)
      split at e2
      · have z := ihS _ _ _ _ _ e1
        cases e2; exact wM_ntb.tr z
      · cases e2
end
/-! ===== WHAT THE TWIN PRINTS: brackets that go ===== -/
def nd (b c : Int32) : Int32 := if lvC b = 2 ∨ b = 33 then 3 else if lvC b = 1 then 2 else if lvC b = 0 then (if lvC c = 2 then 2 else 1) else (if lvC c = 2 then 2 else if lvC c = 0 ∨ lvC c = 1 then 1 else 0)
def gOb (σ : cS) (a b k : Nat) : Bool := (List.range' a (b - a)).any (fun x => decide (nd (σ.1 9 x) (σ.1 10 x) ≤ σ.1 11 x) && (decide (σ.1 7 x = nz k) || decide (σ.1 8 x = nz k)))
theorem gOb_iff {σ : cS} {a b k : Nat} : gOb σ a b k = true ↔ ∃ x, a ≤ x ∧ x < b ∧ nd (σ.1 9 x) (σ.1 10 x) ≤ σ.1 11 x ∧ (σ.1 7 x = nz k ∨ σ.1 8 x = nz k) := by
  unfold gOb
  rw [List.any_eq_true]
  constructor
  · rintro ⟨x, h1, h2⟩
    rw [List.mem_range'_1] at h1
    simp only [Bool.and_eq_true, Bool.or_eq_true, decide_eq_true_eq] at h2
    exact ⟨x, h1.1, by omega, h2⟩
  · rintro ⟨x, h1, h2, h3, h4⟩
    refine ⟨x, by rw [List.mem_range'_1]; omega, ?_⟩
    simp only [Bool.and_eq_true, Bool.or_eq_true, decide_eq_true_eq]
    exact ⟨h3, h4⟩
/-- the brackets of the groups a to b lie within i to j -/
def GI (σ : cS) (a b i j : Nat) : Prop := ∀ x, a ≤ x → x < b → ∃ u v, σ.1 7 x = nz u ∧ σ.1 8 x = nz v ∧ i ≤ u ∧ u < j ∧ i ≤ v ∧ v < j
theorem GI_nil {σ : cS} {a i j : Nat} : GI σ a a i j := fun x h1 h2 => by omega
theorem GI.wk {σ : cS} {a b i j i' j' : Nat} (h : GI σ a b i j) (hi : i' ≤ i) (hj : j ≤ j') : GI σ a b i' j' := fun x h1 h2 => by
  obtain ⟨u, v, e1, e2, e3, e4, e5, e6⟩ := h x h1 h2
  exact ⟨u, v, e1, e2, by omega, by omega, by omega, by omega⟩
theorem GI.app {σ : cS} {a b c i j : Nat} (h : GI σ a b i j) (h' : GI σ b c i j) : GI σ a c i j := fun x h1 h2 => by
  by_cases hx : x < b
  · exact h x h1 hx
  · exact h' x (by omega) h2
/-- groups as they were -/
def gSm (a b : Nat) (σ σ' : cS) : Prop := ∀ o x, 7 ≤ o → o ≤ 11 → a ≤ x → x < b → σ'.1 o x = σ.1 o x
theorem GI.sm {σ σ' : cS} {a b i j : Nat} (h : GI σ a b i j) (hs : gSm a b σ σ') : GI σ' a b i j := fun x h1 h2 => by
  obtain ⟨u, v, e1, e2, r⟩ := h x h1 h2
  exact ⟨u, v, by rw [hs 7 x (by omega) (by omega) h1 h2]; exact e1, by rw [hs 8 x (by omega) (by omega) h1 h2]; exact e2, r⟩
theorem gSm_F {o0 p0 g0 m0 a b : Nat} {σ σ' : cS} (h : tEF o0 p0 g0 m0 σ σ') (hb : b ≤ g0) : gSm a b σ σ' := fun o x h1 h2 _ h4 => h.2.2.2.2.2.1 o x h1 h2 (by omega)
theorem gOb_sm {σ σ' : cS} {a b k : Nat} (hs : gSm a b σ σ') : gOb σ' a b k = gOb σ a b k := by
  have : ∀ x, a ≤ x → x < b → (σ'.1 7 x = σ.1 7 x ∧ σ'.1 8 x = σ.1 8 x ∧ σ'.1 9 x = σ.1 9 x ∧ σ'.1 10 x = σ.1 10 x ∧ σ'.1 11 x = σ.1 11 x) := fun x h1 h2 => ⟨hs _ _ (by omega) (by omega) h1 h2, hs _ _ (by omega) (by omega) h1 h2, hs _ _ (by omega) (by omega) h1 h2, hs _ _ (by omega) (by omega) h1 h2, hs _ _ (by omega) (by omega) h1 h2⟩
  have key : gOb σ' a b k = true ↔ gOb σ a b k = true := by
    rw [gOb_iff, gOb_iff]
    constructor
    · rintro ⟨x, h1, h2, h3⟩
      obtain ⟨e1, e2, e3, e4, e5⟩ := this x h1 h2
      rw [e1, e2, e3, e4, e5] at h3
      exact ⟨x, h1, h2, h3⟩
    · rintro ⟨x, h1, h2, h3⟩
      obtain ⟨e1, e2, e3, e4, e5⟩ := this x h1 h2
      refine ⟨x, h1, h2, ?_⟩
      rw [e1, e2, e3, e4, e5]
      exact h3
  exact Bool.eq_iff_iff.mpr key
section
variable {n : Nat} {tx : Nat → Int32}
def po (n : Nat) (tx : Nat → Int32) (D : Nat → Bool) : Nat → Nat → Bool → List Int32
  | 0, _, _ => []
  | k + 1, i, f => if i < n then (if D i = true then po n tx D k (i + 1) f else if isI (tx i) 48 57 = true then (if f = true then [32] else []) ++ ((pNm n tx i).2.1 ++ po n tx D k (pNm n tx i).1 true) else tx i :: po n tx D k (i + 1) false) else []
/-- what is printed from a place on; f: a number stands right before -/
def outp (n : Nat) (tx : Nat → Int32) (D : Nat → Bool) (i : Nat) (f : Bool) : List Int32 := po n tx D (n - i) i f
theorem pNm_gt (j : Nat) : j < (pNm n tx j).1 := by unfold pNm; split <;> simp
theorem po_fuel {D : Nat → Bool} : ∀ (k i : Nat) (f : Bool), n - i ≤ k → po n tx D k i f = po n tx D (n - i) i f := by
  intro k
  induction k using Nat.strongRecOn with
  | ind k ih =>
    intro i f hk
    cases k with
    | zero => rw [show n - i = 0 by omega]
    | succ k =>
      by_cases hi : i < n
      · obtain ⟨r, hr⟩ : ∃ r, n - i = r + 1 := ⟨n - i - 1, by omega⟩
        rw [hr]
        unfold po
        rw [if_pos hi, if_pos hi]
        have e1 : ∀ f, po n tx D k (i + 1) f = po n tx D r (i + 1) f := fun f => by rw [ih k (by omega) (i + 1) f (by omega), ← ih r (by omega) (i + 1) f (by omega)]
        have hg := pNm_gt (n := n) (tx := tx) i
        have e2 : po n tx D k (pNm n tx i).1 true = po n tx D r (pNm n tx i).1 true := by rw [ih k (by omega) _ _ (by omega), ← ih r (by omega) _ _ (by omega)]
        rw [e1, e1, e2]
      · rw [show n - i = 0 by omega]
        unfold po
        rw [if_neg hi]
theorem out_end {D : Nat → Bool} {i : Nat} {f : Bool} (h : n ≤ i) : outp n tx D i f = [] := by
  unfold outp; rw [show n - i = 0 by omega]; rfl
theorem out_s {D : Nat → Bool} {i : Nat} {f : Bool} (h : i < n) : outp n tx D i f = if D i = true then outp n tx D (i + 1) f else if isI (tx i) 48 57 = true then (if f = true then [32] else []) ++ ((pNm n tx i).2.1 ++ outp n tx D (pNm n tx i).1 true) else tx i :: outp n tx D (i + 1) false := by
  unfold outp
  obtain ⟨r, hr⟩ : ∃ r, n - i = r + 1 := ⟨n - i - 1, by omega⟩
  have hg := pNm_gt (n := n) (tx := tx) i
  rw [hr]
  show (if i < n then _ else _) = _
  rw [if_pos h, po_fuel r (i + 1) f (by omega), po_fuel r (i + 1) false (by omega), po_fuel r (pNm n tx i).1 true (by omega)]
theorem out_D {D : Nat → Bool} {i : Nat} {f : Bool} (h : i < n) (hD : D i = true) : outp n tx D i f = outp n tx D (i + 1) f := by rw [out_s h, if_pos hD]
theorem out_c {D : Nat → Bool} {i : Nat} {f : Bool} (h : i < n) (hD : D i = false) (hd : isI (tx i) 48 57 = false) : outp n tx D i f = tx i :: outp n tx D (i + 1) false := by rw [out_s h, if_neg (by rw [hD]; decide), if_neg (by rw [hd]; decide)]
theorem out_n {D : Nat → Bool} {i : Nat} (h : i < n) (hD : D i = false) (hd : isI (tx i) 48 57 = true) : outp n tx D i false = (pNm n tx i).2.1 ++ outp n tx D (pNm n tx i).1 true := by rw [out_s h, if_neg (by rw [hD]; decide), if_pos hd]; rfl
theorem out_n1 {D : Nat → Bool} {i : Nat} (h : i < n) (hD : D i = false) (hd : isI (tx i) 48 57 = true) : outp n tx D i true = 32 :: ((pNm n tx i).2.1 ++ outp n tx D (pNm n tx i).1 true) := by rw [out_s h, if_neg (by rw [hD]; decide), if_pos hd]; rfl
/-- blanks go -/
theorem out_sk {D : Nat → Bool} {i : Nat} {f : Bool} (hD : ∀ k, i ≤ k → k < sk n tx i → D k = true) : outp n tx D i f = outp n tx D (sk n tx i) f := by
  revert hD
  refine sk_ind (n := n) (tx := tx) (M := fun i => (∀ k, i ≤ k → k < sk n tx i → D k = true) → outp n tx D i f = outp n tx D (sk n tx i) f) ?_ ?_ i
  · intro i hi hb ih hD
    have hsg := sk_ge (n := n) (tx := tx) (i + 1)
    have e := sk_bl hi hb
    rw [out_D hi (hD i (Nat.le_refl _) (by omega)), e]
    exact ih (fun k h1 h2 => hD k (by omega) (by omega))
  · intro i h _; rw [sk_nb h]
theorem sk_blank {i k : Nat} (h1 : i ≤ k) (h2 : k < sk n tx i) : k < n ∧ bl (tx k) = true := by
  revert h1 h2
  refine sk_ind (n := n) (tx := tx) (M := fun i => i ≤ k → k < sk n tx i → k < n ∧ bl (tx k) = true) ?_ ?_ i
  · intro i hi hb ih h1 h2
    by_cases hk : k = i
    · subst hk; exact ⟨hi, hb⟩
    · rw [sk_bl hi hb] at h2
      exact ih (by omega) h2
  · intro i h h1 h2; rw [sk_nb h] at h2; omega
/-- D is what the groups a to b say of the places i to j -/
def DA (tx : Nat → Int32) (σ : cS) (D : Nat → Bool) (a b i j : Nat) : Prop := ∀ k, i ≤ k → k < j → D k = (bl (tx k) || gOb σ a b k)
theorem DA_sk {σ : cS} {D : Nat → Bool} {a b i j : Nat} (h : DA tx σ D a b i j) (hj : sk n tx i ≤ j) : ∀ k, i ≤ k → k < sk n tx i → D k = true := by
  intro k h1 h2
  rw [h k h1 (by omega), (sk_blank h1 h2).2]
  rfl
theorem gOb_out {σ : cS} {a b i j k : Nat} (h : GI σ a b i j) (hj : j ≤ 1000000) (hk : k < i ∨ j ≤ k) (hk2 : k < 1000000) : gOb σ a b k = false := by
  cases hg : gOb σ a b k with
  | false => rfl
  | true =>
    obtain ⟨x, h1, h2, h3, h4⟩ := gOb_iff.mp hg
    obtain ⟨u, v, e1, e2, e3, e4, e5, e6⟩ := h x h1 h2
    rw [e1, e2] at h4
    rcases h4 with h4 | h4
    · rw [nz_inj (by omega) (by omega)] at h4; omega
    · rw [nz_inj (by omega) (by omega)] at h4; omega
theorem gOb_app {σ : cS} {a b c k : Nat} (h1 : a ≤ b) (h2 : b ≤ c) : gOb σ a c k = (gOb σ a b k || gOb σ b c k) := by
  apply Bool.eq_iff_iff.mpr
  rw [Bool.or_eq_true, gOb_iff, gOb_iff, gOb_iff]
  constructor
  · rintro ⟨x, a1, a2, a3⟩
    by_cases hx : x < b
    · exact Or.inl ⟨x, a1, hx, a3⟩
    · exact Or.inr ⟨x, by omega, a2, a3⟩
  · rintro (⟨x, a1, a2, a3⟩ | ⟨x, a1, a2, a3⟩)
    · exact ⟨x, a1, by omega, a3⟩
    · exact ⟨x, by omega, a2, a3⟩
theorem DA_split {σ : cS} {D : Nat → Bool} {a b c i j k : Nat} (h : DA tx σ D a c i k) (hab : a ≤ b) (hbc : b ≤ c) (hij : i ≤ j) (hjk : j ≤ k) (hk : k ≤ 100000) (h1 : GI σ a b i j) (h2 : GI σ b c j k) : DA tx σ D a b i j ∧ DA tx σ D b c j k := by
  refine ⟨fun x x1 x2 => ?_, fun x x1 x2 => ?_⟩
  · rw [h x x1 (by omega), gOb_app hab hbc, gOb_out h2 (by omega) (Or.inl x2) (by omega), Bool.or_false]
  · rw [h x (by omega) x2, gOb_app hab hbc, gOb_out h1 (by omega) (Or.inr x1) (by omega), Bool.false_or]
/-- printed: from i to j the signs L -/
def PC (n : Nat) (tx : Nat → Int32) (σ : cS) (a b i j : Nat) (L : List Int32) : Prop := ∀ D, DA tx σ D a b i j → ∃ f, outp n tx D i false = L ++ outp n tx D j f
theorem PC.sm {σ σ' : cS} {a b i j : Nat} {L : List Int32} (h : PC n tx σ a b i j L) (hs : gSm a b σ σ') : PC n tx σ' a b i j L := by
  intro D hD
  refine h D (fun k h1 h2 => ?_)
  rw [hD k h1 h2, gOb_sm hs]
/-- what is needed of an atom: its neighbours say it as its tree does -/
theorem nd_lv {L cm β c : Int32} (hL : (L = 0 ∧ β = 0 ∧ cm = 0) ∨ (L = 1 ∧ lvC β = 0 ∧ cm = 1) ∨ (L = 2 ∧ lvC β = 1) ∨ (L = 3 ∧ lvC β = 2)) : nd β (bhd cm c) = if lvC c < L then L else lsS (lvC c) := by
  have hb : β ≠ 33 ∨ lvC β = -1 := by
    by_cases h : β = 33
    · right; rw [h]; decide
    · exact Or.inl h
  have hz : lvC (0 : Int32) = -1 := by decide
  rcases hL with ⟨rfl, rfl, rfl⟩ | ⟨rfl, h, rfl⟩ | ⟨rfl, h⟩ | ⟨rfl, h⟩
  · unfold nd bhd
    rcases lvC_in c with e | e | e | e <;> simp [e, hz, lsS] <;> decide
  · have h33 : β ≠ 33 := by intro q; rw [q] at h; exact absurd h (by decide)
    unfold nd bhd
    rcases lvC_in c with e | e | e | e <;> simp [e, h, h33, hz, lsS] <;> decide
  · have h33 : β ≠ 33 := by intro q; rw [q] at h; exact absurd h (by decide)
    unfold nd bhd
    rcases lvC_in c with e | e | e | e <;> simp [e, h, h33, lsS] <;> decide
  · unfold nd bhd
    rcases lvC_in c with e | e | e | e <;> simp [e, h, lsS] <;> decide
end
