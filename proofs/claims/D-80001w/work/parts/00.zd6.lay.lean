set_option maxRecDepth 100000
/-! ===== LAYERS OF RUNS ===== -/
theorem pigeon : ∀ (n : Nat) (L : List Nat), (∀ i, i < n → i ∈ L) → n ≤ L.length := by
  intro n
  induction n with
  | zero => intro L _; exact Nat.zero_le _
  | succ n ih =>
    intro L h
    have hm := h n (by omega)
    have := ih (L.erase n) (fun i hi => (List.mem_erase_of_ne (by omega)).mpr (h i (by omega)))
    rw [List.length_erase_of_mem hm] at this
    have : 0 < L.length := List.length_pos_of_mem hm
    omega
/-- an entry: slot, run, weight, how many -/
abbrev En : Type := Nat × Cfg × Nat × Nat
def cfO (c : Cfg) : Prop := c.1 ≤ 80 ∧ c.2.2.1 ≤ 7 ∧ vOk c.2.1
theorem vof_ext {v w : List Int32} (hv : v.length = 6) (hw : w.length = 6) (h : ∀ a, a < 6 → vof v a = vof w a) : v = w := by
  apply List.ext_getElem (by omega)
  intro i h1 h2
  have := h i (by omega)
  unfold vof at this
  rwa [List.getD_eq_getElem?_getD, List.getD_eq_getElem?_getD, List.getElem?_eq_getElem h1, List.getElem?_eq_getElem h2] at this
theorem bi_inj {a b : Bool} (h : bi a = bi b) : a = b := by
  cases a <;> cases b <;> first | rfl | exact absurd h (by decide)
/-- keys tell runs apart -/
theorem key_inj {c c' : Cfg} (h : cfO c) (h' : cfO c') (hk : key c = key c') : c = c' := by
  obtain ⟨σ1, e1, -, r1, r2, r3, r4, r5⟩ := cUnpack (σ := (fun _ _ => 0, fun _ _ => 0, fun _ _ => none)) h.2.2 (by have := h.1; omega) (by have := h.2.1; omega)
  obtain ⟨σ2, e2, -, q1, q2, q3, q4, q5⟩ := cUnpack (σ := (fun _ _ => 0, fun _ _ => 0, fun _ _ => none)) h'.2.2 (by have := h'.1; omega) (by have := h'.2.1; omega)
  rw [hk, e2] at e1
  cases e1
  have a1 : c.1 = c'.1 := (nz_inj (by have := h.1; omega) (by have := h'.1; omega)).mp (r1.symm.trans q1)
  have a2 : c.2.2.1 = c'.2.2.1 := (nz_inj (by have := h.2.1; omega) (by have := h'.2.1; omega)).mp (r2.symm.trans q2)
  have a3 : c.2.2.2 = c'.2.2.2 := bi_inj (r3.symm.trans q3)
  have a4 : c.2.1 = c'.2.1 := vof_ext h.2.2.1 h'.2.2.1 (fun a ha => (r5 a ha).symm.trans (q5 a ha))
  obtain ⟨p, v, d, b⟩ := c
  obtain ⟨p', v', d', b'⟩ := c'
  simp only at a1 a2 a3 a4
  rw [a1, a2, a3, a4]
theorem nl_inj {a b : Nat} (ha : a < 2 ^ 63) (hb : b < 2 ^ 63) (h : nl a = nl b) : a = b := by
  have := congrArg Int64.toInt h
  rw [show (nl a).toInt = a from Int64.toInt_ofNat_of_lt ha, show (nl b).toInt = b from Int64.toInt_ofNat_of_lt hb] at this
  omega
/-- a layer in arrays -/
def cLy (σ : cS) (ka wa ma pa : Nat) (L : List En) : Prop :=
  (∀ (k : Nat) (e : En), L[k]? = some e → σ.1 pa k = nz e.1) ∧
  (∀ e ∈ L, e.1 < 8192 ∧ σ.2.1 ka e.1 = nl (key e.2.1) ∧ σ.2.1 wa e.1 = nl e.2.2.1 ∧ σ.1 ma e.1 = nz e.2.2.2 ∧ cfO e.2.1) ∧
  (∀ i, i < 8192 → (∀ e ∈ L, e.1 ≠ i) → σ.2.1 ka i = 0) ∧ (L.map (fun e => e.1)).Nodup
/-- one run more -/
def adL (L : List En) (c : Cfg) (w m : Nat) (L' : List En) : Prop := (∃ A B s w0 m0, L = A ++ (s, c, w0, m0) :: B ∧ L' = A ++ (s, c, w0 + w, m0 + m) :: B) ∨ (∃ s, L' = L ++ [(s, c, w, m)])
theorem lgc0 {a b : Int64} : lg_cmp a b = 0 ↔ a = b := by
  constructor
  · intro h
    have h1 : ¬ a < b := fun q => by
      have := cmp_lt.mpr q
      rw [h] at this; exact absurd this (by decide)
    have h2 : ¬ b < a := fun q => by
      have := cmp_gt.mpr q
      rw [h] at this; exact absurd this (by decide)
    exact Int64.le_antisymm (Int64.not_lt.mp h2) (Int64.not_lt.mp h1)
  · intro h
    subst h
    have h1 : ¬ lg_cmp a a < 0 := fun q => Int64.lt_irrefl (cmp_lt.mp q)
    have h2 : ¬ 0 < lg_cmp a a := fun q => Int64.lt_irrefl (cmp_gt.mp q)
    exact Int32.le_antisymm (Int32.not_lt.mp h2) (Int32.not_lt.mp h1)
theorem and8191 (x : Int32) : ∃ i, i < 8192 ∧ x &&& 8191 = nz i := by
  refine ⟨(x.toBitVec.toNat) % 8192, Nat.mod_lt _ (by omega), ?_⟩
  apply Int32.toBitVec_inj.mp
  apply BitVec.eq_of_toNat_eq
  rw [Int32.toBitVec_and, BitVec.toNat_and]
  show x.toBitVec.toNat &&& 8191 = ((x.toBitVec.toNat) % 8192) % 2 ^ 32
  rw [show (8191 : Nat) = 2 ^ 13 - 1 from rfl, Nat.and_two_pow_sub_one_eq_mod]
  omega
/-- refs of the next layer -/
def cNx (σ : cS) (ka wa ma pa : Nat) : Prop := σ.2.2 74 5 = some ka ∧ σ.2.2 74 6 = some wa ∧ σ.2.2 74 7 = some ma ∧ σ.2.2 74 8 = some pa
/-- the two sets of arrays -/
def arr (ka wa ma pa : Nat) : Prop := (ka = 75 ∧ wa = 76 ∧ ma = 77 ∧ pa = 78) ∨ (ka = 79 ∧ wa = 80 ∧ ma = 81 ∧ pa = 82)
theorem arr_la {ka wa ma pa : Nat} (h : arr ka wa ma pa) : cpLa ka = (4, 8192) ∧ cpLa wa = (4, 8192) ∧ cpLa ma = (2, 8192) ∧ cpLa pa = (2, 4096) := by
  rcases h with ⟨rfl, rfl, rfl, rfl⟩ | ⟨rfl, rfl, rfl, rfl⟩
  · decide +kernel
  · decide +kernel
/-- what a keep changes -/
def fKp (ka wa ma pa : Nat) (σ σ' : cS) : Prop := σ'.2.2 = σ.2.2 ∧ (∀ o j, o ≠ ka → o ≠ wa → σ'.2.1 o j = σ.2.1 o j) ∧ (∀ o j, o ≠ ma → o ≠ pa → ¬ (o = 74 ∧ j = 9) → σ'.1 o j = σ.1 o j)
theorem cSlot {key0 : Int64} {ka wa ma pa : Nat} (hA : arr ka wa ma pa) {a1 : Int64} {a2 : Int32} {σ : cS} {L : List En} (hN : cNx σ ka wa ma pa) (hL : cLy σ ka wa ma pa L) (hl : L.length < 8192) :
    ∀ (t f i : Nat), i < 8192 → (∀ s, s < t → σ.2.1 ka ((i + 8192 - 1 - s) % 8192) ≠ 0) → t ≤ 8192 → 8192 - t < f → ∃ j, j < 8192 ∧ (σ.2.1 ka j = 0 ∨ σ.2.1 ka j = key0) ∧ fX6_keep_28 a1 a2 f key0 (nz i) σ = fX6_keep_66 a1 a2 key0 (nz j) σ := by
  obtain ⟨l1, l2, l3, l4⟩ := arr_la hA
  have full : ¬ ∀ i, i < 8192 → σ.2.1 ka i ≠ 0 := by
    intro hall
    have := pigeon 8192 (L.map (fun e => e.1)) (fun i hi => by
      by_cases hm : i ∈ L.map (fun e => e.1)
      · exact hm
      · exact absurd (hL.2.2.1 i hi (fun e he q => hm (List.mem_map.mpr ⟨e, he, q⟩))) (hall i hi))
    rw [List.length_map] at this
    omega
  have rT : ∀ {β : Type} (K : Nat → Option β), rR (σ.2.2 74 5) K = K ka := fun K => by rw [hN.1]; rfl
  intro t f
  induction f generalizing t with
  | zero => intro i hi ht htl hf; omega
  | succ f ih =>
    intro i hi ht htl hf
    have hck : ∀ {β : Type} (K : Option β), ck (decide (cpLa ka = (4, 8192))) K = K := fun K => by rw [l1]; exact ck_t (by decide)
    by_cases h0 : σ.2.1 ka i = 0
    · refine ⟨i, hi, Or.inl h0, ?_⟩
      conv => lhs; unfold fX6_keep_28
      rw [rT, hck, ck_n hi (by omega), nz_tn (by omega), if_pos (lgc0.mpr h0)]
    · by_cases h1 : σ.2.1 ka i = key0
      · refine ⟨i, hi, Or.inr h1, ?_⟩
        conv => lhs; unfold fX6_keep_28
        rw [rT, hck, ck_n hi (by omega), nz_tn (by omega), if_neg (fun q => h0 (lgc0.mp q)), rT, hck, ck_n hi (by omega), if_pos (lgc0.mpr h1)]
      · have ht8 : t < 8192 := by
          apply Classical.byContradiction
          intro hge
          apply full
          intro x hx
          by_cases hxi : x = i
          · rw [hxi]; exact h0
          · have := ht ((i + 8192 - 1 - x) % 8192) (by omega)
            rwa [show (i + 8192 - 1 - (i + 8192 - 1 - x) % 8192) % 8192 = x by omega] at this
        obtain ⟨j, j1, j2, j3⟩ := ih (t + 1) ((i + 1) % 8192) (Nat.mod_lt _ (by omega)) (fun s hs => by
          by_cases hs0 : s = 0
          · rw [hs0, show ((i + 1) % 8192 + 8192 - 1 - 0) % 8192 = i by omega]; exact h0
          · have := ht (s - 1) (by omega)
            rwa [show (i + 8192 - 1 - (s - 1)) % 8192 = ((i + 1) % 8192 + 8192 - 1 - s) % 8192 by omega] at this) (by omega) (by omega)
        refine ⟨j, j1, j2, ?_⟩
        conv => lhs; unfold fX6_keep_28
        rw [rT, hck, ck_n hi (by omega), nz_tn (by omega), if_neg (fun q => h0 (lgc0.mp q)), rT, hck, ck_n hi (by omega), if_neg (fun q => h1 (lgc0.mp q)), nz_s]
        have e : nz (i + 1) &&& 8191 = nz ((i + 1) % 8192) := by
          apply Int32.toBitVec_inj.mp
          apply BitVec.eq_of_toNat_eq
          rw [Int32.toBitVec_and, BitVec.toNat_and]
          show (i + 1) % 2 ^ 32 &&& 8191 = ((i + 1) % 8192) % 2 ^ 32
          rw [show (8191 : Nat) = 2 ^ 13 - 1 from rfl, Nat.and_two_pow_sub_one_eq_mod]
          omega
        rw [e]; exact j3
