set_option maxRecDepth 100000
/-! ===== THE TWIN READS STATEMENTS: state, frame, orders of code ===== -/
def tMF (o0 g0 b0 c0 d0 : Nat) (σ σ' : cS) : Prop := σ'.2 = σ.2 ∧ (∀ o j, o ≠ 0 → o < 2 ∨ (14 < o ∧ o < 18) ∨ 22 < o → σ'.1 o j = σ.1 o j) ∧ (∀ j, j < 6 ∨ j = 18 ∨ j = 19 ∨ j = 37 ∨ 46 < j → σ'.1 0 j = σ.1 0 j) ∧ (∀ o j, o = 2 ∨ o = 3 → j < o0 → σ'.1 o j = σ.1 o j) ∧ (∀ o j, 7 ≤ o → o ≤ 11 → j < g0 → σ'.1 o j = σ.1 o j) ∧ (∀ o j, 18 ≤ o → o ≤ 20 → j < b0 → σ'.1 o j = σ.1 o j) ∧ (∀ j, j < c0 → σ'.1 21 j = σ.1 21 j) ∧ (∀ j, j < d0 → σ'.1 22 j = σ.1 22 j)
theorem tMF.rf {o0 g0 b0 c0 d0 : Nat} {σ : cS} : tMF o0 g0 b0 c0 d0 σ σ := ⟨rfl, fun _ _ _ _ => rfl, fun _ _ => rfl, fun _ _ _ _ => rfl, fun _ _ _ _ _ => rfl, fun _ _ _ _ _ => rfl, fun _ _ => rfl, fun _ _ => rfl⟩
theorem tMF.tr {o0 g0 b0 c0 d0 o1 g1 b1 c1 d1 : Nat} {σ σ1 σ2 : cS} (h : tMF o0 g0 b0 c0 d0 σ σ1) (h' : tMF o1 g1 b1 c1 d1 σ1 σ2) (ho : o0 ≤ o1) (hg : g0 ≤ g1) (hb : b0 ≤ b1) (hc : c0 ≤ c1) (hd : d0 ≤ d1) : tMF o0 g0 b0 c0 d0 σ σ2 := by
  obtain ⟨a1, a2, a3, a4, a5, a6, a7, a8⟩ := h
  obtain ⟨b1, b2, b3, b4, b5, b6, b7, b8⟩ := h'
  exact ⟨b1.trans a1, fun o j e1 e2 => (b2 o j e1 e2).trans (a2 o j e1 e2), fun j e => (b3 j e).trans (a3 j e), fun o j e1 e2 => (b4 o j e1 (by omega)).trans (a4 o j e1 e2), fun o j e1 e2 e3 => (b5 o j e1 e2 (by omega)).trans (a5 o j e1 e2 e3), fun o j e1 e2 e3 => (b6 o j e1 e2 (by omega)).trans (a6 o j e1 e2 e3), fun j e => (b7 j (by omega)).trans (a7 j e), fun j e => (b8 j (by omega)).trans (a8 j e)⟩
theorem tMF.tq {o0 g0 b0 c0 d0 : Nat} {σ σ1 σ2 : cS} (h : tMF o0 g0 b0 c0 d0 σ σ1) (h' : tMF o0 g0 b0 c0 d0 σ1 σ2) : tMF o0 g0 b0 c0 d0 σ σ2 := h.tr h' (Nat.le_refl _) (Nat.le_refl _) (Nat.le_refl _) (Nat.le_refl _) (Nat.le_refl _)
theorem tMF_E {o0 g0 b0 c0 d0 : Nat} {σ σ' : cS} (h : tEF o0 0 g0 0 σ σ') : tMF o0 g0 b0 c0 d0 σ σ' := by
  obtain ⟨a1, a2, a3, a4, a5, a6, a7⟩ := h
  exact ⟨a1, fun o j e1 e2 => a2 o j e1 (by omega), fun j e => a3 j (by omega) (by omega) (by omega) (by omega) (by omega) (by omega) (by omega) (by omega) (by omega) (by omega) (by omega) (by omega) (by omega), a4, a6, fun o j e1 e2 e3 => a2 o j (by omega) (by omega), fun j e => a2 _ _ (by decide) (by omega), fun j e => a2 _ _ (by decide) (by omega)⟩
theorem tMF_I {o0 g0 b0 c0 d0 : Nat} {σ : cS} {o j : Nat} {v : Int32} (h : (o = 0 ∧ (6 ≤ j ∧ j ≤ 46 ∧ j ≠ 18 ∧ j ≠ 19 ∧ j ≠ 37)) ∨ ((o = 2 ∨ o = 3) ∧ o0 ≤ j) ∨ (18 ≤ o ∧ o ≤ 20 ∧ b0 ≤ j) ∨ (o = 21 ∧ c0 ≤ j) ∨ (o = 22 ∧ d0 ≤ j)) : tMF o0 g0 b0 c0 d0 σ (stI σ o j v) := by
  have key : ∀ a b, (a ≠ o ∨ b ≠ j) → (stI σ o j v).1 a b = σ.1 a b := by
    intro a b hab
    rw [gI]
    by_cases ha : a = o
    · rw [if_pos ha, if_neg (by omega)]
    · rw [if_neg ha]
  exact ⟨rfl, fun a b e1 e2 => key a b (by omega), fun b e => key 0 b (by omega), fun a b e1 e2 => key a b (by omega), fun a b e1 e2 e3 => key a b (by omega), fun a b e1 e2 e3 => key a b (by omega), fun b e => key 21 b (by omega), fun b e => key 22 b (by omega)⟩
theorem tMF_O {o0 g0 b0 c0 d0 o : Nat} {σ : cS} {a b : Int32} (h : o0 ≤ o) : tMF o0 g0 b0 c0 d0 σ (stO σ o a b) := ((tMF_I (by omega)).tq (tMF_I (by omega))).tq (tMF_I (by omega))
theorem tTx_M {o0 g0 b0 c0 d0 : Nat} {σ σ' : cS} {tk n : Nat} {tx : Nat → Int32} (h : tTx σ tk n tx) (hf : tMF o0 g0 b0 c0 d0 σ σ') : tTx σ' tk n tx := by
  obtain ⟨h1, h2, h0, hk, h3, h4, h5⟩ := h
  exact ⟨by rw [hf.1]; exact h1, h2, h0, hk, by rw [hf.2.2.1 5 (by omega)]; exact h3, h4, fun k hk2 => by rw [hf.2.1 tk k h0 (by omega)]; exact h5 k hk2⟩
theorem tCo_M {o0 g0 b0 c0 d0 : Nat} {σ σ' : cS} {tk n : Nat} {tx : Nat → Int32} {own ov : Int32} {nm : Nat → Int32} {nF : Nat} (h : tCo σ tk n tx own ov nm nF) (hf : tMF o0 g0 b0 c0 d0 σ σ') : tCo σ' tk n tx own ov nm nF := by
  obtain ⟨h1, h2, h3, h4, h5, h6⟩ := h
  refine ⟨tTx_M h1 hf, (hf.2.2.1 18 (by omega)).trans h2, h3, ?_, h5, ?_⟩
  · rw [← h4]; funext j; exact hf.2.1 15 j (by decide) (by omega)
  · rw [hf.2.2.1 19 (by omega), hf.2.2.1 37 (by omega)]; exact h6
theorem tOA_M {o0 g0 b0 c0 d0 p : Nat} {σ σ' : cS} {E : List (Int32 × Int32)} (h : tOA σ p E) (hf : tMF o0 g0 b0 c0 d0 σ σ') (hp : p + E.length ≤ o0) : tOA σ' p E := by
  intro k e hk
  have hl := (List.getElem?_eq_some_iff.mp hk).1
  rw [hf.2.2.2.1 _ _ (Or.inl rfl) (by omega), hf.2.2.2.1 _ _ (Or.inr rfl) (by omega)]
  exact h k e hk
theorem gSm_M {o0 g0 b0 c0 d0 a b : Nat} {σ σ' : cS} (h : tMF o0 g0 b0 c0 d0 σ σ') (hb : b ≤ g0) : gSm a b σ σ' := fun o x h1 h2 _ h4 => h.2.2.2.2.1 o x h1 h2 (by omega)
/-- the reader of a model: b blocks open, st statements, nc choices, dm draws; the first three choices are ch -/
def tMS (σ : cS) (i : Nat) (w : Option Nat) (o g b st nc dm : Nat) (ch : List Int32) : Prop := tB σ i w o g ∧ σ.1 0 41 = nz b ∧ σ.1 0 42 = nz st ∧ σ.1 0 43 = nz nc ∧ σ.1 0 46 = nz dm ∧ (ch.length = min nc 3 ∧ (w = none → nc ≤ 3)) ∧ (∀ k, k < ch.length → σ.1 21 k = ch.getD k 0)
section
variable {σ : cS} {i : Nat} {w : Option Nat} {o g b st nc dm : Nat} {ch : List Int32}
theorem tMS.B (h : tMS σ i w o g b st nc dm ch) : tB σ i w o g := h.1
theorem tMS.bk (h : tMS σ i w o g b st nc dm ch) : σ.1 0 41 = nz b := h.2.1
theorem tMS.sm (h : tMS σ i w o g b st nc dm ch) : σ.1 0 42 = nz st := h.2.2.1
theorem tMS.nch (h : tMS σ i w o g b st nc dm ch) : σ.1 0 43 = nz nc := h.2.2.2.1
theorem tMS.ndm (h : tMS σ i w o g b st nc dm ch) : σ.1 0 46 = nz dm := h.2.2.2.2.1
theorem tMS.c3 (h : tMS σ i w o g b st nc dm ch) : ch.length = min nc 3 := h.2.2.2.2.2.1.1
theorem tMS.n3 (h : tMS σ i w o g b st nc dm ch) : w = none → nc ≤ 3 := h.2.2.2.2.2.1.2
theorem tMS.c3p (h : tMS σ i w o g b st nc dm ch) : ch.length = min nc 3 ∧ (w = none → nc ≤ 3) := h.2.2.2.2.2.1
theorem nt_nn {w : Option Nat} {p : Nat} (h : nt w p = none) : w = none := by
  obtain ⟨f, h1, -⟩ := nt_le (w := w) (p := p)
  rw [h1] at h; cases h
theorem tMS.cv (h : tMS σ i w o g b st nc dm ch) : ∀ k, k < ch.length → σ.1 21 k = ch.getD k 0 := h.2.2.2.2.2.2
theorem tMS_of {σ' : cS} {i' : Nat} {w' : Option Nat} {o' g' : Nat} (h : tMS σ i w o g b st nc dm ch) (hB : tB σ' i' w' o' g') (h1 : ∀ j, j = 41 ∨ j = 42 ∨ j = 43 ∨ j = 46 → σ'.1 0 j = σ.1 0 j) (h2 : ∀ k, σ'.1 21 k = σ.1 21 k) (hw : w' = none → w = none) : tMS σ' i' w' o' g' b st nc dm ch :=
  ⟨hB, (h1 _ (by omega)).trans h.bk, (h1 _ (by omega)).trans h.sm, (h1 _ (by omega)).trans h.nch, (h1 _ (by omega)).trans h.ndm, ⟨h.c3, fun q => h.n3 (hw q)⟩, fun k hk => (h2 k).trans (h.cv k hk)⟩
theorem tMS_E {σ' : cS} {i' : Nat} {w' : Option Nat} {o' g' o0 p0 g0 m0 : Nat} (h : tMS σ i w o g b st nc dm ch) (hB : tB σ' i' w' o' g') (hf : tEF o0 p0 g0 m0 σ σ') (hw : w' = none → w = none) : tMS σ' i' w' o' g' b st nc dm ch :=
  tMS_of h hB (fun j hj => hf.2.2.1 j (by omega) (by omega) (by omega) (by omega) (by omega) (by omega) (by omega) (by omega) (by omega) (by omega) (by omega) (by omega) (by omega)) (fun k => hf.2.1 _ _ (by decide) (by omega)) hw
theorem tMS.go (h : tMS σ i w o g b st nc dm ch) (j : Nat) : tMS (stI σ 0 6 (nz j)) j w o g b st nc dm ch := tMS_of h (h.B.go j) (fun x hx => by rw [gI, if_pos rfl, if_neg (by omega)]) (fun k => by rw [gI, if_neg (by decide)]) id
theorem tMS.sFa (h : tMS σ i w o g b st nc dm ch) (w' : Option Nat) (hw : w' = none → w = none) : tMS (stI σ 0 8 (ow w')) i w' o g b st nc dm ch := tMS_of h (h.B.sFa w') (fun x hx => by rw [gI, if_pos rfl, if_neg (by omega)]) (fun k => by rw [gI, if_neg (by decide)]) hw
theorem tMS.put (h : tMS σ i w o g b st nc dm ch) (a c : Int32) : tMS (stO σ o a c) i w (o + 1) g b st nc dm ch := tMS_of h (h.B.put a c) (fun x hx => by unfold stO; rw [gI, if_pos rfl, if_neg (by omega), gI, if_neg (by decide), gI, if_neg (by decide)]) (fun k => by simp [stO, gI]) id
theorem tMS.oth {a j : Nat} {v : Int32} (h : tMS σ i w o g b st nc dm ch) (ha : (a ≠ 0 ∧ a ≠ 21) ∨ (a = 0 ∧ j = 12)) : tMS (stI σ a j v) i w o g b st nc dm ch := by
  refine tMS_of h (h.B.oth (by omega)) (fun x hx => ?_) (fun k => ?_) id
  · rw [gI]
    split
    · rw [if_neg (by omega)]
    · rfl
  · rw [gI, if_neg (by omega)]
end
/-! orders of code -/
def osz (c : Cd) : Nat := if c.1 = 5 then 1 else if c.1 = 1 ∨ c.1 = 2 then 3 else c.2.2.1.length + 2
def osum : List Cd → Nat
  | [] => 0
  | c :: C => osz c + osum C
theorem osum_app (C : List Cd) : ∀ D, osum (C ++ D) = osum C + osum D := by
  induction C with
  | nil => intro D; simp [osum]
  | cons c C ih => intro D; simp only [List.cons_append, osum, ih]; omega
def dn (C : List Cd) : Nat := (C.filter (fun c => decide (c.1 = 1))).length
theorem dn_app (C D : List Cd) : dn (C ++ D) = dn C + dn D := by unfold dn; rw [List.filter_append, List.length_append]
theorem dn_cons (c : Cd) (C : List Cd) : dn (c :: C) = (if c.1 = 1 then 1 else 0) + dn C := by
  unfold dn
  rw [List.filter_cons]
  by_cases h : c.1 = 1
  · simp [h]; omega
  · simp [h]
/-- the orders of code, where q k is the place of the code k's first order -/
def ord1 (tr : Sy → Int32 × Int32) (q : Nat → Nat) (dm : Nat) (c : Cd) : List (Int32 × Int32) :=
  if c.1 = 0 then (8, 0) :: (c.2.2.1.map tr ++ [(9, c.2.1)])
  else if c.1 = 1 then [(8, 0), (10, nz dm), (9, c.2.1)]
  else if c.1 = 2 then [(8, 0), (11, c.2.2.2.1), (9, c.2.1)]
  else if c.1 = 3 then (8, 0) :: (c.2.2.1.map tr ++ [(12, 0)])
  else if c.1 = 4 then (8, 0) :: (c.2.2.1.map tr ++ [(13, nz (q c.2.2.2.2.2.toNatClampNeg))])
  else [(14, nz (q c.2.2.2.2.2.toNatClampNeg))]
def cmpl (tr : Sy → Int32 × Int32) (q : Nat → Nat) : Nat → List Cd → List (Int32 × Int32)
  | _, [] => []
  | dm, c :: C => ord1 tr q dm c ++ cmpl tr q (dm + (if c.1 = 1 then 1 else 0)) C
def posn (o cb : Nat) (C : List Cd) (k : Nat) : Nat := o + osum (C.take (k - cb))
def CM (tr : Sy → Int32 × Int32) (o cb dm : Nat) (C : List Cd) : List (Int32 × Int32) := cmpl tr (posn o cb C) dm C
theorem cmpl_app {tr : Sy → Int32 × Int32} {q : Nat → Nat} (C : List Cd) : ∀ (dm : Nat) (D : List Cd), cmpl tr q dm (C ++ D) = cmpl tr q dm C ++ cmpl tr q (dm + dn C) D := by
  induction C with
  | nil => intro dm D; simp [cmpl, dn]
  | cons c C ih =>
    intro dm D
    simp only [List.cons_append, cmpl, ih, List.append_assoc, dn_cons]
    rw [show dm + (if c.1 = 1 then 1 else 0) + dn C = dm + ((if c.1 = 1 then 1 else 0) + dn C) by omega]
theorem cmpl_eq {tr : Sy → Int32 × Int32} {q q' : Nat → Nat} (C : List Cd) : ∀ (dm : Nat), (∀ c ∈ C, c.1 = 4 ∨ c.1 = 5 → q c.2.2.2.2.2.toNatClampNeg = q' c.2.2.2.2.2.toNatClampNeg) → (∀ c ∈ C, cdV c) → cmpl tr q dm C = cmpl tr q' dm C := by
  induction C with
  | nil => intro dm _ _; rfl
  | cons c C ih =>
    intro dm h hv
    simp only [cmpl]
    rw [ih _ (fun c hc => h c (List.mem_cons_of_mem _ hc)) (fun c hc => hv c (List.mem_cons_of_mem _ hc))]
    congr 1
    unfold ord1
    rcases hv c List.mem_cons_self with ⟨e, -⟩ | ⟨e, -⟩ | ⟨e, -⟩ | ⟨e, -⟩ | ⟨e, -⟩ | ⟨e, -⟩
    · simp [e]
    · simp [e]
    · simp [e]
    · simp [e]
    · rw [h c List.mem_cons_self (Or.inl e)]
    · rw [h c List.mem_cons_self (Or.inr e)]
theorem ord1_len {tr : Sy → Int32 × Int32} {q : Nat → Nat} {dm : Nat} {c : Cd} (hv : cdV c) : (ord1 tr q dm c).length = osz c := by
  unfold ord1 osz
  rcases hv with ⟨e, -⟩ | ⟨e, -⟩ | ⟨e, -⟩ | ⟨e, -⟩ | ⟨e, -⟩ | ⟨e, -⟩ <;> simp [e]
theorem cmpl_len {tr : Sy → Int32 × Int32} {q : Nat → Nat} (C : List Cd) : ∀ (dm : Nat), (∀ c ∈ C, cdV c) → (cmpl tr q dm C).length = osum C := by
  induction C with
  | nil => intro dm _; rfl
  | cons c C ih =>
    intro dm hv
    simp only [cmpl, List.length_append, osum]
    rw [ord1_len (hv c List.mem_cons_self), ih _ (fun c hc => hv c (List.mem_cons_of_mem _ hc))]
/-- code behind code -/
theorem CM_app {tr : Sy → Int32 × Int32} {o cb dm : Nat} {C D : List Cd} (hC : GJ cb C) (hD : GJ (cb + C.length) D) (vC : ∀ c ∈ C, cdV c) (vD : ∀ c ∈ D, cdV c) (hl : cb + C.length + D.length < 100000) : CM tr o cb dm (C ++ D) = CM tr o cb dm C ++ CM tr (o + osum C) (cb + C.length) (dm + dn C) D := by
  unfold CM
  rw [cmpl_app]
  congr 1
  · refine cmpl_eq C dm (fun c hc hk => ?_) vC
    obtain ⟨x, hx⟩ := List.getElem?_of_mem hc
    have : ∃ gl, c.2.2.2.2.2 = nz gl ∧ cb ≤ gl ∧ gl ≤ cb + C.length := by
      have hxl := (List.getElem?_eq_some_iff.mp hx).1
      rcases hk with h4 | h5
      · obtain ⟨gl, g1, g2, g3⟩ := (hC x c hx).1 h4; exact ⟨gl, g1, by omega, g3⟩
      · obtain ⟨gl, g1, g2⟩ := (hC x c hx).2 h5
        rcases g2 with ⟨g2, g3⟩ | ⟨g2, g3, -⟩
        · exact ⟨gl, g1, by omega, g3⟩
        · exact ⟨gl, g1, g2, by omega⟩
    obtain ⟨gl, g1, g2, g3⟩ := this
    rw [g1, nz_tn (by omega)]
    unfold posn
    rw [List.take_append_of_le_length (by omega)]
  · refine cmpl_eq D (dm + dn C) (fun c hc hk => ?_) vD
    obtain ⟨x, hx⟩ := List.getElem?_of_mem hc
    have : ∃ gl, c.2.2.2.2.2 = nz gl ∧ cb + C.length ≤ gl ∧ gl ≤ cb + C.length + D.length := by
      have hxl := (List.getElem?_eq_some_iff.mp hx).1
      rcases hk with h4 | h5
      · obtain ⟨gl, g1, g2, g3⟩ := (hD x c hx).1 h4; exact ⟨gl, g1, by omega, g3⟩
      · obtain ⟨gl, g1, g2⟩ := (hD x c hx).2 h5
        rcases g2 with ⟨g2, g3⟩ | ⟨g2, g3, -⟩
        · exact ⟨gl, g1, by omega, g3⟩
        · exact ⟨gl, g1, g2, by omega⟩
    obtain ⟨gl, g1, g2, g3⟩ := this
    rw [g1, nz_tn (by omega)]
    unfold posn
    rw [List.take_append, List.take_of_length_le (by omega), osum_app, show gl - cb - C.length = gl - (cb + C.length) by omega]
    omega
/-- draws' numbers -/
def tDn (σ : cS) : Nat → List Cd → Prop
  | _, [] => True
  | dm, c :: C => (c.1 = 1 → σ.1 22 (3 * dm) = c.2.2.2.1 ∧ σ.1 22 (3 * dm + 1) = c.2.2.2.2.1 ∧ σ.1 22 (3 * dm + 2) = c.2.2.2.2.2) ∧ tDn σ (dm + (if c.1 = 1 then 1 else 0)) C
theorem tDn_app {σ : cS} (C : List Cd) : ∀ {dm : Nat} {D : List Cd}, tDn σ dm C → tDn σ (dm + dn C) D → tDn σ dm (C ++ D) := by
  induction C with
  | nil => intro dm D _ h; simpa [dn] using h
  | cons c C ih =>
    intro dm D h h'
    refine ⟨h.1, ih h.2 ?_⟩
    rw [dn_cons] at h'
    rwa [show dm + (if c.1 = 1 then 1 else 0) + dn C = dm + ((if c.1 = 1 then 1 else 0) + dn C) by omega]
theorem tDn_M {o0 g0 b0 c0 d0 : Nat} {σ σ' : cS} (hf : tMF o0 g0 b0 c0 d0 σ σ') (C : List Cd) : ∀ {dm : Nat}, tDn σ dm C → 3 * (dm + dn C) ≤ d0 → tDn σ' dm C := by
  induction C with
  | nil => intro dm _ _; trivial
  | cons c C ih =>
    intro dm h hd
    rw [dn_cons] at hd
    refine ⟨fun e => ?_, ih h.2 (by omega)⟩
    rw [if_pos e] at hd
    rw [hf.2.2.2.2.2.2.2 _ (by omega), hf.2.2.2.2.2.2.2 _ (by omega), hf.2.2.2.2.2.2.2 _ (by omega)]
    exact h.1 e
/-- printed: from i to j the signs L, and no number stands right before j -/
def PF (n : Nat) (tx : Nat → Int32) (σ : cS) (a b i j : Nat) (L : List Int32) : Prop := ∀ D, DA tx σ D a b i j → outp n tx D i false = L ++ outp n tx D j false
section
variable {n : Nat} {tx : Nat → Int32}
theorem PF.sm {σ σ' : cS} {a b i j : Nat} {L : List Int32} (h : PF n tx σ a b i j L) (hs : gSm a b σ σ') : PF n tx σ' a b i j L := by
  intro D hD
  refine h D (fun k h1 h2 => ?_)
  rw [hD k h1 h2, gOb_sm hs]
theorem PF_semi {σ : cS} {g g' i j : Nat} {c : Int32} {L : List Int32} (hij : i ≤ j) (hlt : sk n tx j < n) (hn : n ≤ 600) (hc : tx (sk n tx j) = c) (hd : isI c 48 57 = false) (hb : bl c = false) (hG : GI σ g g' i j) (hP : PC n tx σ g g' i j L) : PF n tx σ g g' i (sk n tx j + 1) (L ++ [c]) := by
  intro D hD
  have hsg := sk_ge (n := n) (tx := tx) j
  obtain ⟨f, e⟩ := hP D (hD.sub (Nat.le_refl _) (by omega))
  have hDs : D (sk n tx j) = false := by rw [hD _ (by omega) (by omega), gOb_out hG (by omega) (Or.inr (by omega)) (by omega), hc, hb]; rfl
  rw [e, out_sk (i := j) (fun k k1 k2 => by rw [hD k (by omega) (by omega), (sk_blank k1 k2).2]; rfl), out_c hlt hDs (by rw [hc]; exact hd), hc, List.append_assoc]
  rfl
theorem PF_pre {σ : cS} {g g' i j : Nat} {c : Int32} {L : List Int32} (hlt : sk n tx i < n) (hn : n ≤ 600) (hc : tx (sk n tx i) = c) (hd : isI c 48 57 = false) (hb : bl c = false) (hj : sk n tx i + 1 ≤ j) (hj2 : j ≤ n) (hG : GI σ g g' (sk n tx i + 1) j) (hP : PF n tx σ g g' (sk n tx i + 1) j L) : PF n tx σ g g' i j (c :: L) := by
  intro D hD
  have hsg := sk_ge (n := n) (tx := tx) i
  have e := hP D (hD.sub (by omega) (Nat.le_refl _))
  have hDs : D (sk n tx i) = false := by rw [hD _ hsg (by omega), gOb_out hG (by omega) (Or.inl (by omega)) (by omega), hc, hb]; rfl
  rw [out_sk (DA_sk hD (by omega)), out_c hlt hDs (by rw [hc]; exact hd), hc, e]
  rfl
theorem PF_app {σ : cS} {a b c i j k : Nat} {L M : List Int32} (hab : a ≤ b) (hbc : b ≤ c) (hij : i ≤ j) (hjk : j ≤ k) (hk : k ≤ 100000) (h1 : GI σ a b i j) (h2 : GI σ b c j k) (p1 : PF n tx σ a b i j L) (p2 : PF n tx σ b c j k M) : PF n tx σ a c i k (L ++ M) := by
  intro D hD
  obtain ⟨d1, d2⟩ := DA_split hD hab hbc hij hjk hk h1 h2
  rw [p1 D d1, p2 D d2, List.append_assoc]
end
