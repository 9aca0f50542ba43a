set_option maxRecDepth 100000
/-! ===== THE TWIN's READER OF SUMS: its state, the pile ===== -/
def tEF (o0 p0 g0 m0 : Nat) (σ σ' : cS) : Prop := σ'.2 = σ.2 ∧ (∀ o j, o ≠ 0 → o < 2 ∨ 14 < o → σ'.1 o j = σ.1 o j) ∧ (∀ j, j ≠ 6 → j ≠ 7 → j ≠ 8 → j ≠ 11 → j ≠ 12 → j ≠ 16 → j ≠ 17 → j ≠ 20 → j ≠ 26 → j ≠ 30 → j ≠ 31 → j ≠ 32 → j ≠ 33 → σ'.1 0 j = σ.1 0 j) ∧ (∀ o j, o = 2 ∨ o = 3 → j < o0 → σ'.1 o j = σ.1 o j) ∧ (∀ o j, o = 4 ∨ o = 5 ∨ o = 6 → j < p0 → σ'.1 o j = σ.1 o j) ∧ (∀ o j, 7 ≤ o → o ≤ 11 → j < g0 → σ'.1 o j = σ.1 o j) ∧ (∀ o j, o = 12 ∨ o = 13 ∨ o = 14 → j < m0 → σ'.1 o j = σ.1 o j)
theorem tEF.rf {o0 p0 g0 m0 : Nat} {σ : cS} : tEF o0 p0 g0 m0 σ σ := ⟨rfl, fun _ _ _ _ => rfl, fun _ _ _ _ _ _ _ _ _ _ _ _ _ _ => rfl, fun _ _ _ _ => rfl, fun _ _ _ _ => rfl, fun _ _ _ _ _ => rfl, fun _ _ _ _ => rfl⟩
theorem tEF.tr {o0 p0 g0 m0 o1 p1 g1 m1 : Nat} {σ σ1 σ2 : cS} (h : tEF o0 p0 g0 m0 σ σ1) (h' : tEF o1 p1 g1 m1 σ1 σ2) (ho : o0 ≤ o1) (hp : p0 ≤ p1) (hg : g0 ≤ g1) (hm : m0 ≤ m1) : tEF o0 p0 g0 m0 σ σ2 := by
  obtain ⟨a1, a2, a3, a4, a5, a6, a7⟩ := h
  obtain ⟨b1, b2, b3, b4, b5, b6, b7⟩ := h'
  exact ⟨b1.trans a1, fun o j c1 c2 => (b2 o j c1 c2).trans (a2 o j c1 c2), fun j c1 c2 c3 c4 c5 c6 c7 c8 c9 c10 c11 c12 c13 => (b3 j c1 c2 c3 c4 c5 c6 c7 c8 c9 c10 c11 c12 c13).trans (a3 j c1 c2 c3 c4 c5 c6 c7 c8 c9 c10 c11 c12 c13), fun o j c1 c2 => (b4 o j c1 (by omega)).trans (a4 o j c1 c2), fun o j c1 c2 => (b5 o j c1 (by omega)).trans (a5 o j c1 c2), fun o j c1 c2 c3 => (b6 o j c1 c2 (by omega)).trans (a6 o j c1 c2 c3), fun o j c1 c2 => (b7 o j c1 (by omega)).trans (a7 o j c1 c2)⟩
theorem tEF.tq {o0 p0 g0 m0 : Nat} {σ σ1 σ2 : cS} (h : tEF o0 p0 g0 m0 σ σ1) (h' : tEF o0 p0 g0 m0 σ1 σ2) : tEF o0 p0 g0 m0 σ σ2 := h.tr h' (Nat.le_refl _) (Nat.le_refl _) (Nat.le_refl _) (Nat.le_refl _)
theorem tEF.wk {o0 p0 g0 m0 o1 p1 g1 m1 : Nat} {σ σ1 : cS} (h : tEF o1 p1 g1 m1 σ σ1) (ho : o0 ≤ o1) (hp : p0 ≤ p1) (hg : g0 ≤ g1) (hm : m0 ≤ m1) : tEF o0 p0 g0 m0 σ σ1 := tEF.rf.tr h ho hp hg hm
/-- one int is written -/
theorem tEF_I {o0 p0 g0 m0 : Nat} {σ : cS} {o j : Nat} {v : Int32} (h : (o = 0 ∧ (j = 6 ∨ j = 7 ∨ j = 8 ∨ j = 11 ∨ j = 12 ∨ j = 16 ∨ j = 17 ∨ j = 20 ∨ j = 26 ∨ j = 30 ∨ j = 31 ∨ j = 32 ∨ j = 33)) ∨ ((o = 2 ∨ o = 3) ∧ o0 ≤ j) ∨ ((o = 4 ∨ o = 5 ∨ o = 6) ∧ p0 ≤ j) ∨ (7 ≤ o ∧ o ≤ 11 ∧ g0 ≤ j) ∨ ((o = 12 ∨ o = 13 ∨ o = 14) ∧ m0 ≤ j)) : tEF o0 p0 g0 m0 σ (stI σ o j v) := by
  refine ⟨rfl, ?_, ?_, ?_, ?_, ?_, ?_⟩
  · intro a b c1 c2; rw [gI, if_neg (by omega)]
  · intro b c1 c2 c3 c4 c5 c6 c7 c8 c9 c10 c11 c12 c13
    rw [gI]
    by_cases ho : 0 = o
    · rw [if_pos ho, if_neg (by omega)]
    · rw [if_neg ho]
  · intro a b c1 c2
    rw [gI]
    by_cases ho : a = o
    · rw [if_pos ho, if_neg (by omega)]
    · rw [if_neg ho]
  · intro a b c1 c2
    rw [gI]
    by_cases ho : a = o
    · rw [if_pos ho, if_neg (by omega)]
    · rw [if_neg ho]
  · intro a b c1 c2 c3
    rw [gI]
    by_cases ho : a = o
    · rw [if_pos ho, if_neg (by omega)]
    · rw [if_neg ho]
  · intro a b c1 c2
    rw [gI]
    by_cases ho : a = o
    · rw [if_pos ho, if_neg (by omega)]
    · rw [if_neg ho]
theorem tTx_F {o0 p0 g0 m0 : Nat} {σ σ' : cS} {tk n : Nat} {tx : Nat → Int32} (h : tTx σ tk n tx) (hf : tEF o0 p0 g0 m0 σ σ') : tTx σ' tk n tx := by
  obtain ⟨h1, h2, h0, hk, h3, h4, h5⟩ := h
  refine ⟨by rw [hf.1]; exact h1, h2, h0, hk, ?_, h4, fun k hk2 => ?_⟩
  · rw [hf.2.2.1 5 (by decide) (by decide) (by decide) (by decide) (by decide) (by decide) (by decide) (by decide) (by decide) (by decide) (by decide) (by decide) (by decide)]; exact h3
  · rw [hf.2.1 tk k h0 (by omega)]; exact h5 k hk2
/-- the numbers of the reader of sums: place, least fault, orders, pile, depth, whether it compares, groups, open, last sign, just closed -/
def tE (σ : cS) (i : Nat) (w : Option Nat) (o p d : Nat) (cm : Int32) (g m : Nat) (ls jc : Int32) : Prop := σ.1 0 6 = nz i ∧ σ.1 0 7 = -1 ∧ σ.1 0 8 = ow w ∧ σ.1 0 11 = nz o ∧ σ.1 0 16 = nz p ∧ σ.1 0 17 = nz d ∧ σ.1 0 20 = cm ∧ σ.1 0 26 = nz g ∧ σ.1 0 30 = nz m ∧ σ.1 0 31 = ls ∧ σ.1 0 32 = jc
/-- orders E from p on -/
def tOA (σ : cS) (p : Nat) (E : List (Int32 × Int32)) : Prop := ∀ k e, E[k]? = some e → σ.1 2 (p + k) = e.1 ∧ σ.1 3 (p + k) = e.2
theorem tOA_nil {σ : cS} {p : Nat} : tOA σ p [] := by intro k e h; simp at h
theorem tOA_app {σ : cS} {p : Nat} {E F : List (Int32 × Int32)} (h1 : tOA σ p E) (h2 : tOA σ (p + E.length) F) : tOA σ p (E ++ F) := by
  intro k e hk
  by_cases hl : k < E.length
  · rw [List.getElem?_append_left hl] at hk
    exact h1 k e hk
  · rw [List.getElem?_append_right (by omega)] at hk
    have := h2 _ e hk
    rwa [show p + E.length + (k - E.length) = p + k by omega] at this
theorem tOA_F {o0 p0 g0 m0 p : Nat} {σ σ' : cS} {E : List (Int32 × Int32)} (h : tOA σ p E) (hf : tEF o0 p0 g0 m0 σ σ') (hp : p + E.length ≤ o0) : tOA σ' p E := by
  intro k e hk
  have hl := (List.getElem?_eq_some_iff.mp hk).1
  rw [hf.2.2.2.1 _ _ (Or.inl rfl) (by omega), hf.2.2.2.1 _ _ (Or.inr rfl) (by omega)]
  exact h k e hk
theorem tOA_one {σ : cS} {o : Nat} {a b : Int32} : tOA (stO σ o a b) o [(a, b)] := by
  intro k e hk
  cases k with
  | zero => simp at hk; subst hk; simp [stO, gI]
  | succ k => simp at hk
theorem tEF_O {o0 p0 g0 m0 o : Nat} {σ : cS} {a b : Int32} (h : o0 ≤ o) : tEF o0 p0 g0 m0 σ (stO σ o a b) := ((tEF_I (by omega)).tq (tEF_I (by omega))).tq (tEF_I (by omega))
/-- the signs Q stand on the pile from p on -/
def tPQ (σ : cS) (p : Nat) (Q : List Int32) : Prop := ∀ k c, Q[k]? = some c → σ.1 4 (p + k) = c
theorem tPQ_F {o0 p0 g0 m0 p : Nat} {σ σ' : cS} {Q : List Int32} (h : tPQ σ p Q) (hf : tEF o0 p0 g0 m0 σ σ') (hp : p + Q.length ≤ p0) : tPQ σ' p Q := by
  intro k e hk
  have hl := (List.getElem?_eq_some_iff.mp hk).1
  rw [hf.2.2.2.2.1 _ _ (Or.inl rfl) (by omega)]
  exact h k e hk
def opO (c : Int32) : Int32 × Int32 := (c, 0)
/-- pops: orders and pile alone change -/
def tPF (o0 : Nat) (σ σ' : cS) : Prop := σ'.2 = σ.2 ∧ (∀ o j, o ≠ 0 → o ≠ 2 → o ≠ 3 → σ'.1 o j = σ.1 o j) ∧ (∀ j, j ≠ 11 → j ≠ 16 → σ'.1 0 j = σ.1 0 j) ∧ (∀ o j, o = 2 ∨ o = 3 → j < o0 → σ'.1 o j = σ.1 o j)
theorem tPF.rf {o0 : Nat} {σ : cS} : tPF o0 σ σ := ⟨rfl, fun _ _ _ _ _ => rfl, fun _ _ _ => rfl, fun _ _ _ _ => rfl⟩
theorem tPF.tr {o0 o1 : Nat} {σ σ1 σ2 : cS} (h : tPF o0 σ σ1) (h' : tPF o1 σ1 σ2) (ho : o0 ≤ o1) : tPF o0 σ σ2 := by
  obtain ⟨a1, a2, a3, a4⟩ := h
  obtain ⟨b1, b2, b3, b4⟩ := h'
  exact ⟨b1.trans a1, fun o j c1 c2 c3 => (b2 o j c1 c2 c3).trans (a2 o j c1 c2 c3), fun j c1 c2 => (b3 j c1 c2).trans (a3 j c1 c2), fun o j c1 c2 => (b4 o j c1 (by omega)).trans (a4 o j c1 c2)⟩
theorem tPF.E {o0 p0 g0 m0 : Nat} {σ σ' : cS} (h : tPF o0 σ σ') : tEF o0 p0 g0 m0 σ σ' := by
  obtain ⟨a1, a2, a3, a4⟩ := h
  refine ⟨a1, fun o j c1 c2 => a2 o j c1 (by omega) (by omega), fun j c1 c2 c3 c4 c5 c6 c7 c8 c9 c10 c11 c12 c13 => a3 j c4 c6, a4, fun o j c1 c2 => a2 o j (by omega) (by omega) (by omega), fun o j c1 c2 c3 => a2 o j (by omega) (by omega) (by omega), fun o j c1 c2 => a2 o j (by omega) (by omega) (by omega)⟩
theorem tPF_pop {o p : Nat} {σ : cS} {c : Int32} : tPF o σ (stO (stI σ 0 16 (nz p)) o c 0) := by
  refine ⟨rfl, ?_, ?_, ?_⟩
  · intro a b c1 c2 c3; simp [stO, gI, c1, c2, c3]
  · intro b c1 c2; simp [stO, gI, c1, c2]
  · rintro a b (rfl | rfl) c2
    · simp [stO, gI]; intro q; omega
    · simp [stO, gI]; intro q; omega
theorem tE_pop {σ σ' : cS} {i : Nat} {w : Option Nat} {o p d o' p' : Nat} {cm : Int32} {g m : Nat} {ls jc : Int32} (h : tE σ i w o p d cm g m ls jc) (hf : tPF o σ σ') (h1 : σ'.1 0 11 = nz o') (h2 : σ'.1 0 16 = nz p') : tE σ' i w o' p' d cm g m ls jc := by
  obtain ⟨a1, a2, a3, a4, a5, a6, a7, a8, a9, a10, a11⟩ := h
  have k := hf.2.2.1
  exact ⟨(k _ (by decide) (by decide)).trans a1, (k _ (by decide) (by decide)).trans a2, (k _ (by decide) (by decide)).trans a3, h1, h2, (k _ (by decide) (by decide)).trans a6, (k _ (by decide) (by decide)).trans a7, (k _ (by decide) (by decide)).trans a8, (k _ (by decide) (by decide)).trans a9, (k _ (by decide) (by decide)).trans a10, (k _ (by decide) (by decide)).trans a11⟩
/-- whether a sign on the pile is settled at a level -/
def stl (x c : Int32) : Bool := decide (x ≤ lvC c) && decide (0 ≤ lvC c)
theorem i10 {p : Prop} [Decidable p] {α : Type} {A B : α} : (if (if p then (1 : Int32) else 0) = 0 then A else B) = if p then B else A := by
  split
  · exact if_neg (by decide)
  · exact if_pos rfl
theorem settle_s (x : Int32) (k : Nat) (σ : cS) : fX11_settle_2 x (k + 1) 1 σ = if (σ.1 0 16) ≤ 0 then (some ((), σ)) else ck (inB ((σ.1 0 16) - 1) 1200) <| if lvC (σ.1 4 ((σ.1 0 16) - 1).toNatClampNeg) = 2 then fX11_settle_56 x (fX11_settle_2 x k) σ else if 2 ≤ x then fX11_settle_44 x (fX11_settle_2 x k) (σ.1 4 ((σ.1 0 16) - 1).toNatClampNeg) σ else if lvC (σ.1 4 ((σ.1 0 16) - 1).toNatClampNeg) = 1 then fX11_settle_56 x (fX11_settle_2 x k) σ else fX11_settle_44 x (fX11_settle_2 x k) (σ.1 4 ((σ.1 0 16) - 1).toNatClampNeg) σ := by
  conv => lhs; unfold fX11_settle_2
  rw [if_neg (by decide), tTim, bd_s, i10, tPlu, bd_s, i10]
theorem settle_44 (x c : Int32) (k : Nat) (σ : cS) : fX11_settle_44 x (fX11_settle_2 x k) c σ = if 1 ≤ x then fX11_settle_2 x k 0 σ else if lvC c = 0 then fX11_settle_56 x (fX11_settle_2 x k) σ else fX11_settle_2 x k 0 σ := by
  unfold fX11_settle_44
  rw [tCom, bd_s, i10]
theorem stl_cases {x c : Int32} (hx : x = 0 ∨ x = 1 ∨ x = 2) {α : Type} {A B : α} : (if lvC c = 2 then A else if 2 ≤ x then (if 1 ≤ x then B else if lvC c = 0 then A else B) else if lvC c = 1 then A else (if 1 ≤ x then B else if lvC c = 0 then A else B)) = if stl x c = true then A else B := by
  unfold stl
  rcases lvC_in c with e | e | e | e <;> rw [e] <;> rcases hx with rfl | rfl | rfl <;> rfl
theorem tSet1 {σ : cS} {x : Int32} (hx : x = 0 ∨ x = 1 ∨ x = 2) {k o p : Nat} {c : Int32} (hp : σ.1 0 16 = nz (p + 1)) (hp2 : p < 1200) (hc : σ.1 4 p = c) (ho : σ.1 0 11 = nz o) (ho2 : o < 12000) :
    fX11_settle_2 x (k + 1) 1 σ = if stl x c = true then fX11_settle_2 x k 1 (stO (stI σ 0 16 (nz p)) o c 0) else fX11_settle_2 x k 0 σ := by
  have hpop := tPop ho ho2 hp hp2 hc
  have e56 : fX11_settle_56 x (fX11_settle_2 x k) σ = fX11_settle_2 x k 1 (stO (stI σ 0 16 (nz p)) o c 0) := by
    unfold fX11_settle_56; rw [hpop, bd_s]
  rw [settle_s, hp, if_neg (by rw [nz_le0 (by omega)]; omega), nz_ps, ck_n hp2 (by omega), nz_tn (by omega), hc, settle_44, e56]
  exact stl_cases hx
theorem tSet0 {σ : cS} {x : Int32} {k : Nat} : fX11_settle_2 x (k + 1) 0 σ = some ((), σ) := by
  conv => lhs; unfold fX11_settle_2
  rw [if_pos rfl]
/-- nothing is settled -/
theorem tSetN {σ : cS} {x : Int32} (hx : x = 0 ∨ x = 1 ∨ x = 2) {k p : Nat} (hp : σ.1 0 16 = nz p) (hp2 : p ≤ 1200) (hb : p = 0 ∨ stl x (σ.1 4 (p - 1)) = false) : fX11_settle_2 x (k + 2) 1 σ = some ((), σ) := by
  rw [settle_s, hp]
  by_cases h0 : p = 0
  · rw [if_pos (by rw [h0]; decide)]
  · have hb : stl x (σ.1 4 (p - 1)) = false := by
      rcases hb with h | h
      · exact absurd h h0
      · exact h
    rw [if_neg (by rw [nz_le0 (by omega)]; exact h0), nz_p (by omega), ck_n (by omega) (by omega), nz_tn (by omega), settle_44, stl_cases hx, hb, if_neg (by decide), tSet0]
/-- all signs Q of the pile are settled, what lies below them is not -/
theorem tSettle {x : Int32} (hx : x = 0 ∨ x = 1 ∨ x = 2) {p0 : Nat} : ∀ (q : Nat) (Q : List Int32) (k o : Nat) (σ : cS), Q.length = q → q + 2 ≤ k → σ.1 0 16 = nz (p0 + q) → p0 + q ≤ 1200 → σ.1 0 11 = nz o → o + q ≤ 12000 → tPQ σ p0 Q → (∀ c ∈ Q, stl x c = true) → (p0 = 0 ∨ stl x (σ.1 4 (p0 - 1)) = false) →
    ∃ σ', fX11_settle_2 x k 1 σ = some ((), σ') ∧ tPF o σ σ' ∧ σ'.1 0 11 = nz (o + q) ∧ σ'.1 0 16 = nz p0 ∧ tOA σ' o (Q.reverse.map opO) := by
  intro q
  induction q with
  | zero =>
    intro Q k o σ hQ hk hp hp2 ho ho2 hPQ hall hbot
    have : Q = [] := List.eq_nil_of_length_eq_zero hQ
    subst this
    refine ⟨σ, ?_, tPF.rf, ho, hp, by simpa using tOA_nil⟩
    obtain ⟨k, rfl⟩ : ∃ e, k = e + 2 := ⟨k - 2, by omega⟩
    exact tSetN hx hp (by omega) hbot
  | succ q ih =>
    intro Q k o σ hQ hk hp hp2 ho ho2 hPQ hall hbot
    obtain ⟨k, rfl⟩ : ∃ e, k = e + 1 := ⟨k - 1, by omega⟩
    have hne : Q ≠ [] := by intro h; rw [h] at hQ; cases hQ
    obtain ⟨R, c, rfl⟩ : ∃ R c, Q = R ++ [c] := ⟨Q.dropLast, Q.getLast hne, (List.dropLast_concat_getLast hne).symm⟩
    have hR : R.length = q := by simp at hQ; exact hQ
    have hc : σ.1 4 (p0 + q) = c := by
      have := hPQ q c (by rw [List.getElem?_append_right (by omega)]; simp [hR])
      exact this
    rw [tSet1 hx (p := p0 + q) (by rw [hp]; rfl) (by omega) hc ho (by omega), if_pos (hall c (by simp))]
    have hF : tPF o σ (stO (stI σ 0 16 (nz (p0 + q))) o c 0) := tPF_pop
    obtain ⟨σ', h1, h2, h3, h4, h5⟩ := ih R k (o + 1) (stO (stI σ 0 16 (nz (p0 + q))) o c 0) hR (by omega) (by simp [stO, gI]) (by omega) (by simp [stO, gI]) (by omega) (by
      intro k2 c2 hk2
      rw [hF.2.1 _ _ (by decide) (by decide) (by decide)]
      have hl := (List.getElem?_eq_some_iff.mp hk2).1
      exact hPQ k2 c2 (by rw [List.getElem?_append_left hl]; exact hk2)) (fun c hc => hall c (by simp [hc])) (by
      rcases hbot with h | h
      · exact Or.inl h
      · refine Or.inr ?_
        rw [hF.2.1 _ _ (by decide) (by decide) (by decide)]; exact h)
    refine ⟨σ', h1, hF.tr h2 (by omega), by rw [h3]; congr 1; omega, h4, ?_⟩
    rw [List.reverse_append, List.map_append]
    refine tOA_app (E := [opO c]) ?_ (by simpa using h5)
    exact tOA_F (p0 := 0) (g0 := 0) (m0 := 0) tOA_one (h2.E) (by simp)
