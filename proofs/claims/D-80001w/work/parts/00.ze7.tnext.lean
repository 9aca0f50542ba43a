set_option maxRecDepth 100000
/-! ===== THE TWIN: the next draws ===== -/
theorem cOk_d {C : List Cd} {ch : List Int32} (h : cOk C ch) : dOk C := fun c hc h1 hz => by
  have := (dw_16 (h.2.2.1 c hc) (h.2.2.2.2.2.1 c hc) h1).1
  omega
section
variable {nm : Nat → Int32} {q o p : Nat} {C : List Cd} {ch : List Int32} {Y : List Sy} {F : List Fn} {R : List Int32} {cs : Nat → Int32} {a1 : Int32}
theorem tNd20 {σ : cS} {K : Int32 → cS → Option (Int32 × cS)} {d D j : Nat} {c : Cd} (f : Nat) (hd : d < 7) (hD : D ≤ 80) (hj : 1 ≤ j ∧ j ≤ 3) (h37 : σ.1 37 d = nz D) (h22 : ∀ j, j < 3 → σ.1 22 (3 * D + j) = nz (dw c j)) (hw : ∀ j, j < 3 → dw c j < 100) :
    fX11_nextDraws_20 K (f + 4) (nz d) (nz j) σ = (match nxj c j with
      | some j' => some (1, stI (stI σ 36 d (nz j')) 0 76 (nz (d + 1)))
      | none => K (nz d + (-1)) σ) := by
  have e3 : ∀ g, fX11_nextDraws_20 K (g + 1) (nz d) (nz 3) σ = K (nz d + (-1)) σ := by
    intro g
    unfold fX11_nextDraws_20
    rw [show (3 : Int32) = nz 3 from rfl, if_pos (by rw [nz_le (by omega) (by omega)]; omega)]
    unfold fX11_nextDraws_49
    rw [show (3 : Int32) = nz 3 from rfl, if_pos (by rw [nz_le (by omega) (by omega)]; omega)]
  have es : ∀ g i, i < 3 → fX11_nextDraws_20 K (g + 1) (nz d) (nz i) σ = if dw c i = 0 then fX11_nextDraws_20 K g (nz d) (nz (i + 1)) σ else some (1, stI (stI σ 36 d (nz i)) 0 76 (nz (d + 1))) := by
    intro g i hi
    have hh := hw i hi
    conv => lhs; unfold fX11_nextDraws_20
    rw [show (3 : Int32) = nz 3 from rfl, if_neg (by rw [nz_le (by omega) (by omega)]; omega), ck_n (show d < 8 by omega) (by omega), nz_tn (by omega), h37, nz_mul, nz_add, ck_n (show 3 * D + i < 1200 by omega) (by omega), nz_tn (by omega), h22 i hi, nz_s]
    by_cases h0 : dw c i = 0
    · rw [if_pos (by rw [h0]; rfl), if_pos h0]
    · rw [if_neg (by rw [show (0 : Int32) = nz 0 from rfl, nz_inj (by omega) (by omega)]; exact h0), if_neg h0]
      unfold fX11_nextDraws_49
      rw [show (3 : Int32) = nz 3 from rfl, if_neg (by rw [nz_le (by omega) (by omega)]; omega), ck_n (show d < 8 by omega) (by omega), nz_tn (by omega), wI_e, nz_s, wI_e]
  have : j = 1 ∨ j = 2 ∨ j = 3 := by omega
  unfold nxj
  rcases this with rfl | rfl | rfl
  · rw [es (f + 3) 1 (by omega)]
    by_cases d1 : dw c 1 = 0
    · rw [if_pos d1, es (f + 2) 2 (by omega)]
      by_cases d2 : dw c 2 = 0
      · rw [if_pos d2, e3]; simp [d1, d2]
      · rw [if_neg d2]; simp [d1, d2]
    · rw [if_neg d1]; simp [d1]
  · rw [es (f + 3) 2 (by omega)]
    by_cases d2 : dw c 2 = 0
    · rw [if_pos d2, e3]; simp [d2]
    · rw [if_neg d2]; simp [d2]
  · rw [e3]; simp
theorem nxj_lt {c : Cd} {j j' : Nat} (h : nxj c j = some j') : j' < 3 := by
  unfold nxj at h
  split at h
  · cases h; omega
  split at h
  · cases h; omega
  split at h
  · cases h; omega
  · cases h
theorem fH_get {H : Hs} {i j : Nat} (h : (fH H)[i]? = some j) : ∃ x, H.reverse[i]? = some x ∧ x.1 = j := by
  unfold fH at h
  rw [← List.map_reverse, List.getElem?_map] at h
  cases hx : H.reverse[i]? with
  | none => rw [hx] at h; cases h
  | some x => rw [hx] at h; exact ⟨x, rfl, Option.some.inj h⟩
theorem fH_len (H : Hs) : (fH H).length = H.length := by unfold fH; simp
/-- the next draws -/
theorem tNx7 {σ : cS} (h : tQn σ nm q o p C ch Y F R cs) : ∀ (H : Hs) (f : Nat), H.length < f → tHs σ C H → H.length ≤ 7 →
    fX11_nextDraws_7 f (nz H.length + (-1)) σ = (match nx C H with
      | none => some (0, σ)
      | some fo => some (1, stI (stI σ 36 (fo.length - 1) (nz (fo.getD (fo.length - 1) 0))) 0 76 (nz fo.length))) ∧
    ∀ fo, nx C H = some fo → (∃ H' j, (∃ A, H = A ++ H') ∧ fo = fH H' ++ [j] ∧ j < 3) ∧ fo.length ≤ 7 := by
  have hC := h.2.1.1
  intro H
  induction H with
  | nil =>
    intro f hf _ _
    obtain ⟨f, rfl⟩ : ∃ e, f = e + 1 := ⟨f - 1, by omega⟩
    refine ⟨?_, fun fo hfo => by simp [nx] at hfo⟩
    conv => lhs; unfold fX11_nextDraws_7
    rw [if_pos (by decide)]
    rfl
  | cons x H ih =>
    intro f hf hH hl
    obtain ⟨f, rfl⟩ : ∃ e, f = e + 1 := ⟨f - 1, by omega⟩
    simp only [List.length_cons] at hf hl ⊢
    obtain ⟨x1, x2, x3, x4, x5⟩ := hH H.length x (by rw [List.reverse_cons, List.getElem?_append_right (by simp), List.length_reverse, Nat.sub_self]; rfl)
    have hH' : tHs σ C H := fun i y hy => hH i y (by
      have := (List.getElem?_eq_some_iff.mp hy).1
      rw [List.reverse_cons, List.getElem?_append_left this]; exact hy)
    obtain ⟨i1, i2⟩ := ih f (by omega) hH' (by omega)
    have hn := tDn_at C h.2.1.2.2.2.2 x4 x5
    rw [Nat.zero_add] at hn
    obtain ⟨s1, s2, s3, s4⟩ := dw_16 (hC.2.2.1 _ (cdA_mem x4)) (hC.2.2.2.2.2.1 _ (cdA_mem x4)) x5
    have hb : nz (H.length + 1) + (-1) = nz H.length := by
      rw [← Int32.sub_eq_add_neg]
      exact nz_ps _
    have key := tNd20 (K := fX11_nextDraws_7 f) (c := cdA C x.2) (FU - 4) (show H.length < 7 by omega) (dn_take C x.2 hC.1) (show 1 ≤ x.1 + 1 ∧ x.1 + 1 ≤ 3 by omega) x2 (fun j hj => by
      have : j = 0 ∨ j = 1 ∨ j = 2 := by omega
      rcases this with rfl | rfl | rfl
      · rw [Nat.add_zero, hn.1, s2]
      · rw [hn.2.1, s3]
      · rw [hn.2.2, s4]) (fun j hj => by
      have : j = 0 ∨ j = 1 ∨ j = 2 := by omega
      rcases this with rfl | rfl | rfl <;> omega)
    have hfu : FU - 4 + 4 = FU := by unfold FU; omega
    rw [hfu] at key
    have e1 : fX11_nextDraws_7 (f + 1) (nz (H.length + 1) + (-1)) σ = fX11_nextDraws_20 (fX11_nextDraws_7 f) FU (nz H.length) (nz (x.1 + 1)) σ := by
      rw [hb]
      conv => lhs; unfold fX11_nextDraws_7
      rw [if_neg (nz_ge0 (by omega)), ck_n (show H.length < 8 by omega) (by omega), nz_tn (by omega), x1, nz_s]
    rw [e1, key]
    have en : nx C (x :: H) = (match nxj (cdA C x.2) (x.1 + 1) with | some j => some (fH H ++ [j]) | none => nx C H) := rfl
    rw [en]
    cases hj : nxj (cdA C x.2) (x.1 + 1) with
    | none =>
      simp only
      refine ⟨i1, fun fo hfo => ?_⟩
      obtain ⟨⟨H', j, ⟨A, hA⟩, q2, q3⟩, q4⟩ := i2 fo hfo
      exact ⟨⟨H', j, ⟨x :: A, by rw [hA]; rfl⟩, q2, q3⟩, q4⟩
    | some j =>
      simp only
      refine ⟨?_, fun fo hfo => ?_⟩
      · have eg : (fH H ++ [j]).getD H.length 0 = j := by
          rw [List.getD_eq_getElem?_getD, List.getElem?_append_right (by rw [fH_len]; omega), fH_len, Nat.sub_self]
          rfl
        rw [List.length_append, fH_len, List.length_singleton, Nat.add_sub_cancel, eg]
      · cases hfo
        exact ⟨⟨H, j, ⟨[x], rfl⟩, rfl, nxj_lt hj⟩, by rw [List.length_append, fH_len, List.length_singleton]; omega⟩
/-- what the next draws change -/
def fNd (σ σ' : cS) : Prop := σ'.2 = σ.2 ∧ ∀ o j, o ≠ 36 → ¬ (o = 0 ∧ j = 76) → σ'.1 o j = σ.1 o j
theorem tNx {σ : cS} (h : tQn σ nm q o p C ch Y F R cs) {H : Hs} (hH : tHs σ C H) (hl : H.length ≤ 7) (h67 : σ.1 0 67 = nz H.length) (h72 : σ.1 0 72 = 0) :
    (nx C H = none → fX11_nextDraws σ = some (0, σ)) ∧ ∀ fo, nx C H = some fo → ∃ σ', fX11_nextDraws σ = some (1, σ') ∧ fNd σ σ' ∧ RpF fo (σ'.1 36) (σ'.1 0 72) (σ'.1 0 73) (σ'.1 0 76) fo 0 := by
  obtain ⟨a1, a2⟩ := tNx7 h H FU (by unfold FU; omega) hH hl
  have e : fX11_nextDraws σ = fX11_nextDraws_7 FU (nz H.length + (-1)) σ := by
    unfold fX11_nextDraws
    rw [h67, Int32.sub_eq_add_neg]
  refine ⟨fun hn => ?_, fun fo hfo => ?_⟩
  · rw [e, a1, hn]
  · obtain ⟨⟨H', j, ⟨A, hA⟩, q2, q3⟩, q4⟩ := a2 fo hfo
    rw [e, a1, hfo]
    have hH' : ∀ (i : Nat) (x : Nat × Nat), H'.reverse[i]? = some x → H.reverse[i]? = some x := fun i x hx => by
      have := (List.getElem?_eq_some_iff.mp hx).1
      rw [hA, List.reverse_append, List.getElem?_append_left this]; exact hx
    have hlen : fo.length = H'.length + 1 := by rw [q2, List.length_append, fH_len, List.length_singleton]
    refine ⟨_, rfl, ⟨rfl, fun o k h1 h2 => ?_⟩, ?_, ?_, q4, ?_, rfl, ?_⟩
    · rw [gI]
      by_cases ho : o = 0
      · rw [if_pos ho, if_neg (fun z => h2 ⟨ho, z⟩), gI, if_neg h1]
      · rw [if_neg ho, gI, if_neg h1]
    · simpa [gI] using h72
    · simp [gI]
    · intro k hk
      rw [q2] at hk
      rcases List.mem_append.mp hk with z | z
      · obtain ⟨i, hi⟩ := List.getElem?_of_mem z
        obtain ⟨x, x1, x2⟩ := fH_get hi
        rw [← x2]; exact (hH i x (hH' i x x1)).2.2.1
      · rw [List.mem_singleton] at z; rw [z]; exact q3
    · intro i k hk
      have hil := (List.getElem?_eq_some_iff.mp hk).1
      rw [gI, if_neg (by decide), gI, if_pos rfl]
      by_cases hi : i = fo.length - 1
      · rw [if_pos hi, ← hi, List.getD_eq_getElem?_getD, hk]; rfl
      · rw [if_neg hi]
        rw [q2, List.getElem?_append_left (by rw [fH_len]; omega)] at hk
        obtain ⟨x, x1, x2⟩ := fH_get hk
        rw [← x2]; exact (hH i x (hH' i x x1)).1
end
