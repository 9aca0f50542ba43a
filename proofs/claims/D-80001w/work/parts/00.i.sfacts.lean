set_option maxRecDepth 100000
/-! ===== WHAT STATEMENTS THAT WERE READ ARE ===== -/
def psz : List Cd → Nat
  | [] => 0
  | c :: C => c.2.2.1.length + psz C
theorem psz_app (C : List Cd) : ∀ D, psz (C ++ D) = psz C + psz D := by
  induction C with
  | nil => intro D; simp [psz]
  | cons c C ih => intro D; simp only [List.cons_append, psz, ih]; omega
theorem ntb_none {b : Bool} {w : Option Nat} {p : Nat} (h : ntb b w p = none) : w = none ∧ b = false := by
  unfold ntb at h
  cases b with
  | false => exact ⟨h, rfl⟩
  | true =>
    simp only [if_true] at h
    unfold nt at h
    split at h
    · cases h
    · split at h <;> cases h
/-- w' comes of w: it is none only if w was, and lies within the text if w did -/
def wTo (n : Nat) (w w' : Option Nat) : Prop := (wG n w → wG n w') ∧ (w' = none → w = none)
theorem wTo.rf {n : Nat} {w : Option Nat} : wTo n w w := ⟨fun h => h, fun h => h⟩
theorem wTo.tr {n : Nat} {w w1 w2 : Option Nat} (h : wTo n w w1) (h' : wTo n w1 w2) : wTo n w w2 := ⟨fun g => h'.1 (h.1 g), fun g => h.2 (h'.2 g)⟩
theorem wTo_ntb {n : Nat} {w : Option Nat} {p : Nat} {b : Bool} (hp : p < n) : wTo n w (ntb b w p) := ⟨fun h => wG_ntb h hp, fun h => (ntb_none h).1⟩
section
variable {n : Nat} {tx : Nat → Int32}
theorem pLp_w {R : Int32 → Nat → Nat → Option Nat → ER} {L : Int32} {dep : Nat} (hR : ∀ L dep i w q, R L dep i w = .ok q → q.2.1 = none → w = none) :
    ∀ (k i : Nat) (w : Option Nat) (l : Int32) (r : List Int32) (y : List Sy) (q : ET), pLp n tx R L dep k i w l r y = .ok q → q.2.1 = none → w = none := by
  intro k
  induction k with
  | zero => intro i w l r y q h; cases h
  | succ k ih =>
    intro i w l r y q h hn
    unfold pLp at h
    split at h
    · cases h; exact hn
    · obtain ⟨q1, e1, e2⟩ := eb_ok h
      split at e2
      · cases e2; exact hR _ _ _ _ _ e1 hn
      · exact hR _ _ _ _ _ e1 (ih _ _ _ _ _ _ e2 hn)
theorem pE_w (own : Int32) : ∀ d, (∀ L dep i w q, (pE n tx own d).1 L dep i w = .ok q → q.2.1 = none → w = none) ∧ (∀ dep i w q, (pE n tx own d).2.1 dep i w = .ok q → q.2.1 = none → w = none) ∧ (∀ dep cl i w q, (pE n tx own d).2.2 dep cl i w = .ok q → q.2.1 = none → w = none) := by
  intro d
  induction d with
  | zero => exact ⟨fun _ _ _ _ _ h => (by cases h), fun _ _ _ _ h => (by cases h), fun _ _ _ _ _ h => (by cases h)⟩
  | succ d ih =>
    obtain ⟨ihS, ihA, ihI⟩ := ih
    refine ⟨?_, ?_, ?_⟩
    · intro L dep i w q h hn
      obtain ⟨q1, e1, e2⟩ := eb_ok (show eb ((pE n tx own d).2.1 dep i w) _ = .ok q from h)
      exact ihA _ _ _ _ e1 (pLp_w ihS _ _ _ _ _ _ _ e2 hn)
    · intro dep i w q h hn
      have h : pAt n tx own (pE n tx own d).2.1 (pE n tx own d).2.2 dep i w = .ok q := h
      unfold pAt at h
      split at h
      · cases h; exact hn
      · split at h
        · cases h; exact (ntb_none hn).1
        · split at h
          · split at h
            · obtain ⟨q1, e1, e2⟩ := eb_ok h
              cases e2; exact ihI _ _ _ _ _ e1 hn
            · cases h
          · split at h
            · exact ihI _ _ _ _ _ h hn
            · split at h
              · obtain ⟨q1, e1, e2⟩ := eb_ok h
                cases e2; exact ihI _ _ _ _ _ e1 hn
              · split at h
                · obtain ⟨q1, e1, e2⟩ := eb_ok h
                  cases e2; exact (ntb_none (ihA _ _ _ _ e1 hn)).1
                · cases h
    · intro dep cl i w q h hn
      obtain ⟨q1, e1, e2⟩ := eb_ok (show eb ((pE n tx own d).1 0 (dep + 1) i _) _ = .ok q from h)
      split at e2
      · cases e2; exact (ntb_none (ihS _ _ _ _ _ e1 hn)).1
      · cases e2
/-- a whole sum -/
theorem pSum_facts {own : Int32} {i : Nat} {w : Option Nat} {q : ET} (hi : i ≤ n) (h : pSum n tx own i w = .ok q) : i < q.1 ∧ q.1 ≤ n ∧ q.2.2.2.2.length + nbr n tx q.1 ≤ nbr n tx i ∧ TR q.2.2.2.2 q.2.2.1 q.2.2.2.1 ∧ wTo n w q.2.1 ∧ q.2.2.2.1.length + nbr n tx q.1 ≤ nbr n tx i := by
  obtain ⟨⟨f1, f2, f3, f4, f5⟩, f6, f7, f8⟩ := (pE_facts own DE).1 _ _ _ _ _ (Or.inl rfl) hi h
  refine ⟨f1, f2, f3, f4, ⟨f5, (pE_w own DE).1 _ _ _ _ _ h⟩, ?_⟩
  have : q.2.2.2.1.length ≤ (par q.2.2.1 0 q.2.2.2.1).length := by unfold par; split <;> simp; omega
  omega
end
def vV (v : Int32) : Prop := ∃ a, a < 6 ∧ v = nz a
def nV (v : Int32) : Prop := ∃ a, a < 100 ∧ v = nz a
def sV (y : List Sy) : Prop := ∃ l r, TR y l r
/-- code as it may be -/
def cdV (c : Cd) : Prop :=
  (c.1 = 0 ∧ vV c.2.1 ∧ sV c.2.2.1) ∨ (c.1 = 1 ∧ vV c.2.1 ∧ c.2.2.1 = [] ∧ nV c.2.2.2.1 ∧ nV c.2.2.2.2.1 ∧ nV c.2.2.2.2.2) ∨ (c.1 = 2 ∧ vV c.2.1 ∧ c.2.2.1 = []) ∨ (c.1 = 3 ∧ c.2.1 = 0 ∧ sV c.2.2.1) ∨ (c.1 = 4 ∧ c.2.1 = 0 ∧ sV c.2.2.1) ∨ (c.1 = 5 ∧ c.2.1 = 0 ∧ c.2.2.1 = [])
/-- where tests and jumps go -/
def GJ (cb : Nat) (C : List Cd) : Prop := ∀ k c, C[k]? = some c →
  (c.1 = 4 → ∃ g, c.2.2.2.2.2 = nz g ∧ cb + k < g ∧ g ≤ cb + C.length) ∧
  (c.1 = 5 → ∃ g, c.2.2.2.2.2 = nz g ∧ ((cb + k < g ∧ g ≤ cb + C.length) ∨ (cb ≤ g ∧ g < cb + k ∧ ∃ e, C[g - cb]? = some e ∧ e.1 = 4)))
theorem GJ_nil {cb : Nat} : GJ cb [] := by intro k c h; simp at h
theorem GJ_app {cb : Nat} {C D : List Cd} (h1 : GJ cb C) (h2 : GJ (cb + C.length) D) : GJ cb (C ++ D) := by
  intro k c hk
  by_cases hl : k < C.length
  · rw [List.getElem?_append_left hl] at hk
    obtain ⟨a, b⟩ := h1 k c hk
    refine ⟨fun q => ?_, fun q => ?_⟩
    · obtain ⟨g, g1, g2, g3⟩ := a q
      exact ⟨g, g1, g2, by rw [List.length_append]; omega⟩
    · obtain ⟨g, g1, g2⟩ := b q
      refine ⟨g, g1, ?_⟩
      rcases g2 with ⟨g2, g3⟩ | ⟨g2, g3, e, g4, g5⟩
      · exact Or.inl ⟨g2, by rw [List.length_append]; omega⟩
      · exact Or.inr ⟨g2, g3, e, by rw [List.getElem?_append_left (by omega)]; exact g4, g5⟩
  · rw [List.getElem?_append_right (by omega)] at hk
    obtain ⟨a, b⟩ := h2 _ c hk
    refine ⟨fun q => ?_, fun q => ?_⟩
    · obtain ⟨g, g1, g2, g3⟩ := a q
      exact ⟨g, g1, by omega, by rw [List.length_append]; omega⟩
    · obtain ⟨g, g1, g2⟩ := b q
      refine ⟨g, g1, ?_⟩
      rcases g2 with ⟨g2, g3⟩ | ⟨g2, g3, e, g4, g5⟩
      · exact Or.inl ⟨by omega, by rw [List.length_append]; omega⟩
      · refine Or.inr ⟨by omega, by omega, e, ?_, g5⟩
        rw [List.getElem?_append_right (by omega), show g - cb - C.length = g - (cb + C.length) by omega]; exact g4
theorem GJ_one {cb : Nat} {c : Cd} (h4 : c.1 ≠ 4) (h5 : c.1 ≠ 5) : GJ cb [c] := by
  intro k e hk
  cases k with
  | zero => simp at hk; subst hk; exact ⟨fun q => absurd q h4, fun q => absurd q h5⟩
  | succ k => simp at hk
/-- a test ahead of code, its goal within or right behind -/
theorem GJ_test {cb g : Nat} {c : Cd} {C : List Cd} (h4 : c.1 = 4) (hg : c.2.2.2.2.2 = nz g) (h1 : cb < g) (h2 : g ≤ cb + 1 + C.length) (h : GJ (cb + 1) C) : GJ cb (c :: C) := by
  intro k e hk
  cases k with
  | zero =>
    simp at hk; subst hk
    exact ⟨fun _ => ⟨g, hg, by omega, by simp; omega⟩, fun q => by rw [h4] at q; exact absurd q (by decide)⟩
  | succ k =>
    simp at hk
    obtain ⟨a, b⟩ := h k e hk
    refine ⟨fun q => ?_, fun q => ?_⟩
    · obtain ⟨g, g1, g2, g3⟩ := a q
      exact ⟨g, g1, by omega, by rw [List.length_cons]; omega⟩
    · obtain ⟨g, g1, g2⟩ := b q
      refine ⟨g, g1, ?_⟩
      rcases g2 with ⟨g2, g3⟩ | ⟨g2, g3, e, g4, g5⟩
      · exact Or.inl ⟨by omega, by rw [List.length_cons]; omega⟩
      · refine Or.inr ⟨by omega, by omega, e, ?_, g5⟩
        rw [show g - cb = (g - (cb + 1)) + 1 by omega, List.getElem?_cons_succ]; exact g4
def chV (x : Int32) : Prop := ∃ a, 2 ≤ a ∧ a ≤ 5 ∧ x = nz a
/-- what holds of code whose text has no fault -/
def cdW (ch : List Int32) (c : Cd) : Prop := (c.1 = 1 → c.2.2.2.1 + c.2.2.2.2.1 + c.2.2.2.2.2 = 16) ∧ (c.1 = 2 → ∃ k, k < ch.length ∧ k < 3 ∧ c.2.2.2.1 = nz k)
abbrev ST : Type := Nat × Option Nat × Nat × List Cd × List Int32 × List Int32
def GB (n : Nat) (tx : Nat → Int32) (i : Nat) (w : Option Nat) (st cb : Nat) (ch : List Int32) (q : ST) : Prop :=
  i < q.1 ∧ q.1 ≤ n ∧ st ≤ q.2.2.1 ∧ q.2.2.2.1.length ≤ 2 * (q.2.2.1 - st) ∧ psz q.2.2.2.1 + nbr n tx q.1 ≤ nbr n tx i ∧ 3 * q.2.2.2.2.2.length + 4 * nbr n tx q.1 ≤ 4 * nbr n tx i ∧ q.2.2.1 + nbr n tx q.1 ≤ st + nbr n tx i ∧
  wTo n w q.2.1 ∧ (∀ c ∈ q.2.2.2.1, cdV c) ∧ GJ cb q.2.2.2.1 ∧ (ch.length ≤ 3 → q.2.2.2.2.1.length ≤ 3) ∧ (∃ x, q.2.2.2.2.1 = ch ++ x) ∧
  (q.2.1 = none → (∀ c ∈ q.2.2.2.1, cdW q.2.2.2.2.1 c) ∧ ((∀ x ∈ ch, chV x) → ∀ x ∈ q.2.2.2.2.1, chV x) ∧ (st ≤ 40 → q.2.2.1 ≤ 40))
def GS (n : Nat) (tx : Nat → Int32) (i : Nat) (w : Option Nat) (st cb : Nat) (ch : List Int32) (q : ST) : Prop :=
  GB n tx i w st cb ch q ∧ st < q.2.2.1 ∧ (q.2.1 = none → q.2.2.1 ≤ 40) ∧ q.2.2.2.1 ≠ []
theorem cdW_mono {ch x : List Int32} {c : Cd} (h : cdW ch c) : cdW (ch ++ x) c := by
  refine ⟨h.1, fun q => ?_⟩
  obtain ⟨k, h1, h2, h3⟩ := h.2 q
  exact ⟨k, by rw [List.length_append]; omega, h2, h3⟩
section
variable {n : Nat} {tx : Nat → Int32}
theorem pTk_ok {c : Int32} {i j : Nat} (hc : c ≠ -1) (h : pTk n tx c i = .ok j) : pk n tx i = c ∧ sk n tx i < n ∧ j = sk n tx i + 1 ∧ i < j ∧ j ≤ n ∧ nbr n tx i = nbr n tx j + 1 := by
  unfold pTk at h
  split at h
  · next hp =>
    obtain ⟨h1, h2⟩ := pkc_lt hp hc
    cases h
    have := sk_ge (n := n) (tx := tx) i
    exact ⟨hp, h1, rfl, by omega, by omega, nbr_tk h1⟩
  · cases h
theorem pNo_ok {i : Nat} {q : Nat × List Int32 × Int32} (h : pNo n tx i = .ok q) : isI (pk n tx i) 48 57 = true ∧ sk n tx i < n ∧ q = pNm n tx (sk n tx i) ∧ i < q.1 ∧ q.1 ≤ n ∧ (∃ a, a < 100 ∧ q.2.2 = nz a ∧ q.2.1 = pnm a) ∧ q.2.1.length + nbr n tx q.1 ≤ nbr n tx i ∧ 1 ≤ q.2.1.length := by
  unfold pNo at h
  split at h
  · next hp =>
    obtain ⟨a, ha, ea⟩ := isI_dig hp
    obtain ⟨h1, h2⟩ := pkc_ne (n := n) (tx := tx) (i := i) (by rw [ea]; exact nz_m1 (by omega))
    have := sk_ge (n := n) (tx := tx) i
    obtain ⟨g1, g2, g3, g4, g5⟩ := pNm_facts (tx := tx) h1 (by rw [h2]; exact hp) dig_nb
    cases h
    rw [nbr_sk] at g4
    exact ⟨hp, h1, rfl, by omega, g2, g3, g4, g5⟩
  · cases h
theorem pDr_ok {i : Nat} {q : Nat × (Int32 × Int32 × Int32) × List Int32} (h : pDr n tx i = .ok q) : i < q.1 ∧ q.1 ≤ n ∧ nV q.2.1.1 ∧ nV q.2.1.2.1 ∧ nV q.2.1.2.2 ∧ ((q.2.2.length + nbr n tx q.1 ≤ nbr n tx i + 1 ∧ 2 + nbr n tx q.1 ≤ nbr n tx i) ∨ (q.2.2.length + nbr n tx q.1 ≤ nbr n tx i + 2 ∧ 3 + nbr n tx q.1 ≤ nbr n tx i)) := by
  obtain ⟨a, e1, h⟩ := eb_ok h
  obtain ⟨b, e2, h⟩ := eb_ok h
  obtain ⟨a1, a2, a3, a4, a5, ⟨a6, a7, a8, a9⟩, a10, a11⟩ := pNo_ok e1
  obtain ⟨b1, b2, b3, b4, b5, ⟨b6, b7, b8, b9⟩, b10, b11⟩ := pNo_ok e2
  split at h
  · next hp =>
    have e3 : pNo n tx b.1 = .ok (pNm n tx (sk n tx b.1)) := if_pos hp
    obtain ⟨c1, c2, c3, c4, c5, ⟨c6, c7, c8, c9⟩, c10, c11⟩ := pNo_ok e3
    cases h
    refine ⟨by simp only; omega, c5, ⟨a6, a7, a8⟩, ⟨b6, b7, b8⟩, ⟨c6, c7, c8⟩, Or.inr ⟨?_, by simp only; omega⟩⟩
    simp only [List.length_append, List.length_cons]; omega
  · cases h
    have h1 := sk_ge (n := n) (tx := tx) b.1
    have h2 := sk_le (n := n) (tx := tx) b5
    have h3 := nbr_sk (n := n) (tx := tx) b.1
    refine ⟨by simp only; omega, h2, ⟨a6, a7, a8⟩, ⟨b6, b7, b8⟩, ⟨0, by omega, rfl⟩, Or.inl ⟨?_, by simp only; omega⟩⟩
    simp only [List.length_append, List.length_cons]; omega
theorem sum16 {a b c : Nat} (ha : a < 100) (hb : b < 100) (hc : c < 100) : nz a + nz b + nz c = 16 ↔ a + b + c = 16 := by
  rw [nz_add, nz_add, show (16 : Int32) = nz 16 from rfl, nz_inj (by omega) (by omega)]
theorem pAs_facts {v : Int32} {p : Nat} {w : Option Nat} {st cb : Nat} {ch : List Int32} {q : ST} (hv : vV v) (hp : p < n) (hnb : nbr n tx p = nbr n tx (p + 1) + 1) (h : pAs n tx v p w st ch = .ok q) :
    p < q.1 ∧ q.1 ≤ n ∧ q.2.2.1 = st ∧ q.2.2.2.1.length = 1 ∧ psz q.2.2.2.1 + nbr n tx q.1 + 1 ≤ nbr n tx p ∧ 3 * q.2.2.2.2.2.length + 4 * nbr n tx q.1 ≤ 4 * nbr n tx p ∧ 1 + nbr n tx q.1 ≤ nbr n tx p ∧ wTo n w q.2.1 ∧ (∀ c ∈ q.2.2.2.1, cdV c) ∧ GJ cb q.2.2.2.1 ∧ (ch.length ≤ 3 → q.2.2.2.2.1.length ≤ 3) ∧ (∃ x, q.2.2.2.2.1 = ch ++ x) ∧
    (q.2.1 = none → (∀ c ∈ q.2.2.2.1, cdW q.2.2.2.2.1 c) ∧ ((∀ x ∈ ch, chV x) → ∀ x ∈ q.2.2.2.2.1, chV x)) := by
  unfold pAs at h
  have hsg := sk_ge (n := n) (tx := tx) (p + 1)
  split at h
  · next hc =>
    obtain ⟨h1, h2⟩ := pkc_lt hc (by decide)
    have htk := nbr_tk h1
    obtain ⟨a, e1, h⟩ := eb_ok h
    obtain ⟨b, e2, h⟩ := eb_ok h
    obtain ⟨f1, f2, f3, f4, f5, f6⟩ := pSum_facts (by omega) e1
    obtain ⟨g1, g2, g3, g4, g5, g6⟩ := pTk_ok (by decide) e2
    cases h
    refine ⟨by simp only; omega, g5, rfl, rfl, by simp only [psz]; omega, by simp only [List.length_append, List.length_cons, List.length_nil]; omega, by simp only; omega, f5, ?_, GJ_one (by simp only; decide) (by simp only; decide), fun x => x, ⟨[], by simp⟩, fun _ => ⟨?_, fun x => x⟩⟩
    · intro c hc
      simp only [List.mem_cons, List.not_mem_nil, or_false] at hc
      subst hc
      exact Or.inl ⟨rfl, hv, _, _, f4⟩
    · intro c hc
      simp only [List.mem_cons, List.not_mem_nil, or_false] at hc
      subst hc
      exact ⟨fun x => absurd x (by simp only; decide), fun x => absurd x (by simp only; decide)⟩
  · split at h
    · next hc =>
      obtain ⟨h1, h2⟩ := pkc_lt hc (by decide)
      have htk := nbr_tk h1
      obtain ⟨a, e1, h⟩ := eb_ok h
      obtain ⟨b, e2, h⟩ := eb_ok h
      obtain ⟨f1, f2, f3, f4, f5, f6⟩ := pDr_ok e1
      obtain ⟨g1, g2, g3, g4, g5, g6⟩ := pTk_ok (by decide) e2
      have hsk : sk n tx (sk n tx (p + 1) + 1) < n := by
        obtain ⟨a0, e3, -⟩ := eb_ok e1
        exact (pNo_ok e3).2.1
      cases h
      refine ⟨by simp only; omega, g5, rfl, rfl, by simp only [psz, List.length_nil]; omega, by simp only [List.length_append, List.length_cons, List.length_nil]; omega, by simp only; omega, wTo_ntb hsk, ?_, GJ_one (by simp only; decide) (by simp only; decide), fun x => x, ⟨[], by simp⟩, fun hn => ⟨?_, fun x => x⟩⟩
      · intro c hc
        simp only [List.mem_cons, List.not_mem_nil, or_false] at hc
        subst hc
        exact Or.inr (Or.inl ⟨rfl, hv, rfl, f3, f4, f5⟩)
      · intro c hc
        simp only [List.mem_cons, List.not_mem_nil, or_false] at hc
        subst hc
        refine ⟨fun _ => ?_, fun x => absurd x (by simp only; decide)⟩
        have := (ntb_none hn).2
        simpa using this
    · split at h
      · next hc =>
        obtain ⟨h1, h2⟩ := pkc_lt hc (by decide)
        have htk := nbr_tk h1
        obtain ⟨a, e1, h⟩ := eb_ok h
        obtain ⟨b, e2, h⟩ := eb_ok h
        obtain ⟨f1, f2, f3, f4, f5, ⟨f6, f7, f8, f9⟩, f10, f11⟩ := pNo_ok e1
        obtain ⟨g1, g2, g3, g4, g5, g6⟩ := pTk_ok (by decide) e2
        cases h
        refine ⟨by simp only; omega, g5, rfl, rfl, by simp only [psz, List.length_nil]; omega, by simp only [List.length_append, List.length_cons, List.length_nil]; omega, by simp only; omega, (wTo_ntb f2).tr (wTo_ntb hp), ?_, GJ_one (by simp only; decide) (by simp only; decide), ?_, ?_, fun hn => ?_⟩
        · intro c hc
          simp only [List.mem_cons, List.not_mem_nil, or_false] at hc
          subst hc
          exact Or.inr (Or.inr (Or.inl ⟨rfl, hv, rfl⟩))
        · intro hl; simp only; split
          · simp; omega
          · exact hl
        · simp only; split
          · exact ⟨_, rfl⟩
          · exact ⟨[], by simp⟩
        · obtain ⟨n1, n2⟩ := ntb_none hn
          obtain ⟨n3, n4⟩ := ntb_none n1
          have hl : ch.length < 3 := by simpa using n2
          simp only [if_pos hl]
          refine ⟨?_, ?_⟩
          · intro c hc
            simp only [List.mem_cons, List.not_mem_nil, or_false] at hc
            subst hc
            exact ⟨fun x => absurd x (by simp only; decide), fun _ => ⟨ch.length, by simp, hl, rfl⟩⟩
          · intro hx x hm
            simp only [List.mem_append, List.mem_cons, List.not_mem_nil, or_false] at hm
            rcases hm with hm | rfl
            · exact hx x hm
            · have n4 : isI a.2.2 2 5 = true := by simpa using n4
              obtain ⟨k, k1, k2, k3⟩ := isI_lo7 (a := 2) (b := 5) n4 (by omega) (by omega)
              exact ⟨k, k1, k2, k3⟩
      · cases h
end
