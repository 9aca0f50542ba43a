set_option maxRecDepth 100000
/-! ===== THE TWIN'S RUNS: a question at hand, orders of code, jumps ===== -/
/-- a question is prepared -/
def tQn (σ : cS) (nm : Nat → Int32) (q o p : Nat) (C : List Cd) (ch : List Int32) (Y : List Sy) (F : List Fn) (R : List Int32) (cs : Nat → Int32) : Prop :=
  (q < 16 ∧ σ.1 0 57 = nz o ∧ σ.1 0 58 = nz p ∧ o + osum C < 12000 ∧ p + Y.length < 12000 ∧ Y.length ≤ 400 ∧ σ.1 0 65 = nz q) ∧
  (cOk C ch ∧ sV Y ∧ tOA σ o (CM (trS (-1) nm F.length) o 0 0 C ++ [(15, 0)]) ∧ tOA σ p (Y.map (trS (-1) nm F.length) ++ [(15, 0)]) ∧ tDn σ 0 C) ∧
  (F.length ≤ 12 ∧ (∀ f ∈ F, fnV f) ∧ ∀ c a, nV a → tCal σ nm F.length c a = clf F (fv F (nuf R)) F.length c a) ∧
  (R.length ≤ 20 ∧ (∀ x ∈ R, nV x) ∧ σ.1 30 q = nz R.length ∧ ∀ a, nV a → tNu σ q a = nuf R a) ∧
  ∀ k, k < 3 → σ.1 31 (3 * q + k) = cs k ∧ nV (cs k)
/-- what a run changes -/
def fRn (σ σ' : cS) : Prop := σ'.2.2 = σ.2.2 ∧ (∀ o j, ¬ (o = 0 ∧ j = 71) → σ'.2.1 o j = σ.2.1 o j) ∧ (∀ o j, o ≠ 0 → o ≠ 33 → o ≠ 34 → o ≠ 36 → o ≠ 37 → σ'.1 o j = σ.1 o j) ∧ (∀ j, j < 61 ∨ j = 62 ∨ j = 63 ∨ j = 65 ∨ j = 72 ∨ 73 < j → σ'.1 0 j = σ.1 0 j)
theorem fRn.rf {σ : cS} : fRn σ σ := ⟨rfl, fun _ _ _ => rfl, fun _ _ _ _ _ _ _ => rfl, fun _ _ => rfl⟩
theorem fRn.tr {σ σ1 σ2 : cS} (h : fRn σ σ1) (h' : fRn σ1 σ2) : fRn σ σ2 := ⟨h'.1.trans h.1, fun o j a => (h'.2.1 o j a).trans (h.2.1 o j a), fun o j a b c d e => (h'.2.2.1 o j a b c d e).trans (h.2.2.1 o j a b c d e), fun j a => (h'.2.2.2 j a).trans (h.2.2.2 j a)⟩
theorem fRn_34 {σ σ' : cS} (h : f34 σ σ') : fRn σ σ' := ⟨by rw [h.1], fun _ _ _ => by rw [h.1], fun o j a _ b _ _ => h.2.1 o j a b, fun j a => h.2.2 j (by omega) (by omega)⟩
theorem fRn_0 {σ : cS} {j : Nat} {v : Int32} (hj : j = 61 ∨ j = 64 ∨ (66 ≤ j ∧ j ≤ 71) ∨ j = 73) : fRn σ (stI σ 0 j v) := ⟨rfl, fun _ _ _ => rfl, fun o k a _ _ _ _ => by rw [gI, if_neg a], fun k a => by rw [gI, if_pos rfl, if_neg (by omega)]⟩
theorem fRn_I {σ : cS} {o j : Nat} {v : Int32} (ho : o = 33 ∨ o = 36 ∨ o = 37) : fRn σ (stI σ o j v) := ⟨rfl, fun _ _ _ => rfl, fun a k _ b _ c d => by rw [gI, if_neg (by omega)], fun k a => by rw [gI, if_neg (by omega)]⟩
theorem fRn_L {σ : cS} {v : Int64} : fRn σ (stL σ 0 71 v) := ⟨rfl, fun o j h => by
  rw [gL]
  by_cases ho : o = 0
  · rw [if_pos ho, if_neg (fun q => h ⟨ho, q⟩)]
  · rw [if_neg ho], fun _ _ _ _ _ _ _ => rfl, fun _ _ => rfl⟩
section
variable {nm : Nat → Int32} {q o p : Nat} {C : List Cd} {ch : List Int32} {Y : List Sy} {F : List Fn} {R : List Int32} {cs : Nat → Int32}
theorem tDn_f {σ σ' : cS} (hf : ∀ j, σ'.1 22 j = σ.1 22 j) (C : List Cd) : ∀ {dm : Nat}, tDn σ dm C → tDn σ' dm C := by
  induction C with
  | nil => intro dm _; trivial
  | cons c C ih =>
    intro dm h
    refine ⟨fun e => ?_, ih h.2⟩
    rw [hf, hf, hf]
    exact h.1 e
theorem tQn_f {σ σ' : cS} (h : tQn σ nm q o p C ch Y F R cs) (h0 : ∀ j, j = 57 ∨ j = 58 ∨ j = 65 → σ'.1 0 j = σ.1 0 j) (h1 : ∀ x j, x = 2 ∨ x = 3 ∨ x = 22 ∨ x = 29 ∨ x = 30 ∨ x = 35 → σ'.1 x j = σ.1 x j) (h2 : ∀ k, k < 3 → σ'.1 31 (3 * q + k) = σ.1 31 (3 * q + k)) : tQn σ' nm q o p C ch Y F R cs := by
  obtain ⟨⟨a1, a2, a3, a4, a5, a6, a7⟩, ⟨b1, b2, b3, b4, b5⟩, ⟨c1, c2, c3⟩, ⟨d1, d2, d3, d4⟩, e1⟩ := h
  refine ⟨⟨a1, (h0 _ (by omega)).trans a2, (h0 _ (by omega)).trans a3, a4, a5, a6, (h0 _ (by omega)).trans a7⟩, ⟨b1, b2, fun k e hk => ?_, fun k e hk => ?_, tDn_f (fun j => h1 _ _ (by omega)) C b5⟩, ⟨c1, c2, fun c a ha => ?_⟩, ⟨d1, d2, (h1 _ _ (by omega)).trans d3, fun a ha => ?_⟩, fun k hk => ?_⟩
  · rw [h1 _ _ (by omega), h1 _ _ (by omega)]; exact b3 k e hk
  · rw [h1 _ _ (by omega), h1 _ _ (by omega)]; exact b4 k e hk
  · rw [← c3 c a ha]
    unfold tCal
    have : σ'.1 35 = σ.1 35 := by funext j; exact h1 35 j (by omega)
    rw [this]
  · rw [← d4 a ha]
    unfold tNu
    rw [h1 30 _ (by omega), h1 29 _ (by omega)]
  · rw [h2 k hk]; exact e1 k hk
theorem tQn_R {σ σ' : cS} (h : tQn σ nm q o p C ch Y F R cs) (hf : fRn σ σ') : tQn σ' nm q o p C ch Y F R cs :=
  tQn_f h (fun j hj => hf.2.2.2 j (by omega)) (fun x j hx => hf.2.2.1 x j (by omega) (by omega) (by omega) (by omega) (by omega)) (fun k _ => hf.2.2.1 _ _ (by decide) (by decide) (by decide) (by decide) (by decide))
/-- the orders of one code -/
theorem cmpl_at {tr : Sy → Int32 × Int32} {f : Nat → Nat} {k : Nat} (hk : k < C.length) (hv : ∀ c ∈ C, cdV c) (dm : Nat) : ∃ A B, cmpl tr f dm C = A ++ (ord1 tr f (dm + dn (C.take k)) (cdA C k) ++ B) ∧ A.length = osum (C.take k) := by
  have e : C = C.take k ++ (cdA C k :: C.drop (k + 1)) := by
    conv => lhs; rw [← List.take_append_drop k C]
    congr 1
    rw [List.drop_eq_getElem_cons hk]
    congr 1
    have := cdA_get hk
    rw [List.getElem?_eq_getElem hk] at this
    exact (Option.some.inj this)
  refine ⟨cmpl tr f dm (C.take k), cmpl tr f (dm + dn (C.take k) + (if (cdA C k).1 = 1 then 1 else 0)) (C.drop (k + 1)), ?_, cmpl_len _ _ (fun c hc => hv c (List.mem_of_mem_take hc))⟩
  conv => lhs; rw [e]
  rw [cmpl_app]
  rfl
theorem tQn.at {σ : cS} (h : tQn σ nm q o p C ch Y F R cs) {k : Nat} (hk : k < C.length) : tOA σ (posn o 0 C k) (ord1 (trS (-1) nm F.length) (posn o 0 C) (dn (C.take k)) (cdA C k)) ∧ posn o 0 C k + osz (cdA C k) ≤ o + osum C := by
  have hv := h.2.1.1.2.2.1
  obtain ⟨A, B, e, l⟩ := cmpl_at (tr := trS (-1) nm F.length) (f := posn o 0 C) hk hv 0
  have hO := h.2.1.2.2.1
  unfold CM at hO
  have hlen := cmpl_len (tr := trS (-1) nm F.length) (q := posn o 0 C) C 0 hv
  rw [e, List.length_append, List.length_append, ord1_len (hv _ (cdA_mem hk)), l] at hlen
  have hp : posn o 0 C k = o + osum (C.take k) := by unfold posn; rw [Nat.sub_zero]
  refine ⟨fun j x hx => ?_, by omega⟩
  have hjl := (List.getElem?_eq_some_iff.mp hx).1
  rw [Nat.zero_add] at e
  have := hO (osum (C.take k) + j) x (by
    rw [e, List.append_assoc, List.append_assoc, List.getElem?_append_right (by omega), l, Nat.add_sub_cancel_left, List.getElem?_append_left hjl]
    exact hx)
  rw [hp, show o + osum (C.take k) + j = o + (osum (C.take k) + j) by omega]
  exact this
theorem tQn.en {σ : cS} (h : tQn σ nm q o p C ch Y F R cs) : posn o 0 C C.length = o + osum C ∧ σ.1 2 (o + osum C) = 15 := by
  have hv := h.2.1.1.2.2.1
  have hO := h.2.1.2.2.1
  unfold CM at hO
  have hlen := cmpl_len (tr := trS (-1) nm F.length) (q := posn o 0 C) C 0 hv
  refine ⟨by unfold posn; rw [Nat.sub_zero, List.take_length], ?_⟩
  exact (hO (osum C) (15, 0) (by rw [List.getElem?_append_right (by omega), hlen, Nat.sub_self]; rfl)).1
theorem tDn_at {σ : cS} (C : List Cd) : ∀ {dm k : Nat}, tDn σ dm C → k < C.length → (cdA C k).1 = 1 → σ.1 22 (3 * (dm + dn (C.take k))) = (cdA C k).2.2.2.1 ∧ σ.1 22 (3 * (dm + dn (C.take k)) + 1) = (cdA C k).2.2.2.2.1 ∧ σ.1 22 (3 * (dm + dn (C.take k)) + 2) = (cdA C k).2.2.2.2.2 := by
  induction C with
  | nil => intro dm k _ hk; simp at hk
  | cons c C ih =>
    intro dm k h hk h1
    cases k with
    | zero =>
      have e : dn ((c :: C).take 0) = 0 := by simp [dn]
      rw [e, Nat.add_zero]
      exact h.1 h1
    | succ k =>
      have e : cdA (c :: C) (k + 1) = cdA C k := by unfold cdA; simp
      rw [e] at h1 ⊢
      have := ih h.2 (by simp only [List.length_cons] at hk; omega) h1
      rw [List.take_succ_cons, dn_cons]
      rw [show dm + ((if c.1 = 1 then 1 else 0) + dn (C.take k)) = dm + (if c.1 = 1 then 1 else 0) + dn (C.take k) by omega]
      exact this
theorem dn_le (C : List Cd) : dn C ≤ C.length := List.length_filter_le _ _
/-- one order -/
theorem go_1 (a1 : Int32) (f : Nat) (σ : cS) : fX11_go_12 a1 (f + 1) 1 σ = bd (fX11_doOrder σ) fun r σ1 => fX11_go_12 a1 f r σ1 := by
  conv => lhs; unfold fX11_go_12
  rw [if_neg (by decide)]
theorem go_0 (a1 : Int32) (f : Nat) (σ : cS) : fX11_go_12 a1 (f + 1) 0 σ = some ((), σ) := by
  unfold fX11_go_12
  rw [if_pos rfl]
/-- an order of a statement -/
theorem tOrd {σ : cS} {pc : Nat} {k : Nat} {x : Int32} (hk : 8 ≤ k ∧ k ≤ 14) (hpc : pc < 12000) (h64 : σ.1 0 64 = nz pc) (e2 : σ.1 2 pc = nz k) (e3 : σ.1 3 pc = x) :
    fX11_doOrder σ = bd (fX11_doStatement (nz k) x (stI σ 0 64 (nz (pc + 1)))) (fun r σ1 => ck (bz r) <| some (r, σ1)) := by
  have hne : ∀ y : Nat, y ≠ k → y < 1000 → ¬ nz k = nz y := fun y h1 h2 q => h1 ((nz_inj (by omega) (by omega)).mp q).symm
  unfold fX11_doOrder
  rw [h64, ck_n hpc (by omega), ck_n hpc (by omega), nz_tn (by omega), wI_e, nz_s, e2, e3, if_neg (show ¬ nz k = 1 from hne 1 (by omega) (by omega)), if_neg (show ¬ nz k = 2 from hne 2 (by omega) (by omega)), if_neg (show ¬ nz k = 3 from hne 3 (by omega) (by omega)), if_neg (show ¬ nz k = 4 from hne 4 (by omega) (by omega)), if_neg (show ¬ nz k = 5 from hne 5 (by omega) (by omega)), if_neg (show ¬ nz k = 6 from hne 6 (by omega) (by omega)), if_neg (show ¬ nz k = 15 from hne 15 (by omega) (by omega)), if_neg (show ¬ nz k = 33 from hne 33 (by omega) (by omega)), if_pos (show nz k ≤ 15 by rw [show (15 : Int32) = nz 15 from rfl, nz_le (by omega) (by omega)]; omega)]
/-- jumps -/
theorem tJmp {a1 : Int32} : ∀ (k pc f : Nat) (σ : cS), tQn σ nm q o p C ch Y F R cs → pc ≤ C.length → k ≤ f → σ.1 0 64 = nz (posn o 0 C pc) →
    ∃ σ' f', fX11_go_12 a1 f 1 σ = fX11_go_12 a1 f' 1 σ' ∧ f ≤ f' + k ∧ σ'.1 0 64 = nz (posn o 0 C (jmp C k pc)) ∧ σ'.2 = σ.2 ∧ (∀ x j, ¬ (x = 0 ∧ j = 64) → σ'.1 x j = σ.1 x j) := by
  intro k
  induction k with
  | zero => intro pc f σ h hp hf h64; exact ⟨σ, f, rfl, by omega, h64, rfl, fun _ _ _ => rfl⟩
  | succ k ih =>
    intro pc f σ h hp hf h64
    by_cases hc : pc < C.length ∧ (cdA C pc).1 = 5
    · obtain ⟨hA, hB⟩ := h.at hc.1
      have hJ := h.2.1.1.2.2.2.1
      have hCl := h.2.1.1.1
      obtain ⟨g, g1, g2⟩ := (hJ pc _ (cdA_get hc.1)).2 hc.2
      have hg : g ≤ C.length := by
        rw [Nat.zero_add, Nat.zero_add] at g2
        rcases g2 with z | z <;> omega
      have ej : jmp C (k + 1) pc = jmp C k g := by
        show (if pc < C.length ∧ (cdA C pc).1 = 5 then jmp C k (cdA C pc).2.2.2.2.2.toNatClampNeg else pc) = _
        rw [if_pos hc, g1, nz_tn (by omega)]
      have eo : ord1 (trS (-1) nm F.length) (posn o 0 C) (dn (C.take pc)) (cdA C pc) = [(14, nz (posn o 0 C g))] := by
        unfold ord1
        rw [hc.2, g1, nz_tn (by omega)]
        rfl
      rw [eo] at hA
      have h0 := hA 0 _ rfl
      rw [Nat.add_zero] at h0
      have hol := h.1.2.2.2.1
      have hpl : posn o 0 C pc < 12000 := by
        have : osz (cdA C pc) = 1 := by unfold osz; rw [if_pos hc.2]
        omega
      obtain ⟨f, rfl⟩ : ∃ e, f = e + 1 := ⟨f - 1, by omega⟩
      have F1 : fRn σ (stI (stI σ 0 64 (nz (posn o 0 C pc + 1))) 0 64 (nz (posn o 0 C g))) := (fRn_0 (by omega)).tr (fRn_0 (by omega))
      obtain ⟨σ', f', i1, i2, i3, i4, i5⟩ := ih g f (stI (stI σ 0 64 (nz (posn o 0 C pc + 1))) 0 64 (nz (posn o 0 C g))) (tQn_R h F1) hg (by omega) (by simp [gI])
      refine ⟨σ', f', ?_, by omega, by rw [ej]; exact i3, i4, fun x j hx => ?_⟩
      · rw [go_1, tOrd (k := 14) (by omega) hpl h64 h0.1 h0.2]
        unfold fX11_doStatement
        rw [if_neg (by decide), if_neg (by decide), if_neg (by decide), if_neg (by decide), if_neg (by decide), if_neg (by decide), wI_e, bd_s, ck_t (by decide), bd_s]
        exact i1
      · rw [i5 x j hx, gI, gI]
        by_cases hx0 : x = 0
        · rw [if_pos hx0, if_neg (fun z => hx ⟨hx0, z⟩), if_pos hx0, if_neg (fun z => hx ⟨hx0, z⟩)]
        · rw [if_neg hx0, if_neg hx0]
    · refine ⟨σ, f, rfl, by omega, ?_, rfl, fun _ _ _ => rfl⟩
      rw [h64]
      show _ = nz (posn o 0 C (if pc < C.length ∧ (cdA C pc).1 = 5 then _ else pc))
      rw [if_neg hc]
end
