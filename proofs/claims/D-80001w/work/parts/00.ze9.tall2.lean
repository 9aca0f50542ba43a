set_option maxRecDepth 100000
section
variable {nm : Nat → Int32} {q o p : Nat} {C : List Cd} {ch : List Int32} {Y : List Sy} {F : List Fn} {R : List Int32} {cs : Nat → Int32}
theorem tAll60 : ∀ (m : Nat) (fo : List Nat) (ℓ : List Lf) (σ : cS) (f : Nat) (b : Bool), (od C (clf F (fv F (nuf R)) F.length) (nuf R) cs m fo).length < m → m < f → tQn σ nm q o p C ch Y F R cs → RpF fo (σ.1 36) (σ.1 0 72) (σ.1 0 73) (σ.1 0 76) fo 0 → (b = true ↔ lK 3 ℓ) → ¬ lK 2 ℓ → (¬ lK 3 ℓ → tAc σ ℓ) →
    ∃ σ' lg wd, fX11_runAll_60 (nz q) f (bi b) 1 σ = some (ans lg wd, σ') ∧ fAl σ σ' ∧ (lg = true ↔ lK 2 (ℓ ++ (od C (clf F (fv F (nuf R)) F.length) (nuf R) cs m fo).map (lfo (clf F (fv F (nuf R)) F.length) (nuf R) Y))) ∧ (wd = true ↔ lK 3 (ℓ ++ (od C (clf F (fv F (nuf R)) F.length) (nuf R) cs m fo).map (lfo (clf F (fv F (nuf R)) F.length) (nuf R) Y))) ∧ (lg = false → wd = false → tAc σ' (ℓ ++ (od C (clf F (fv F (nuf R)) F.length) (nuf R) cs m fo).map (lfo (clf F (fv F (nuf R)) F.length) (nuf R) Y))) := by
  intro m
  induction m with
  | zero => intro fo ℓ σ f b h; simp at h
  | succ m ih =>
    intro fo ℓ σ f b hm hf h hR hb h2 ha
    obtain ⟨f, rfl⟩ : ∃ e, f = e + 1 := ⟨f - 1, by omega⟩
    obtain ⟨σ1, g1, g2, g3, g4⟩ := tRun (drF h.2.1.1 fo) h hR
    have h1 := tQn_R h g2
    have f72 : σ1.1 0 72 = 0 := g4.1
    rw [od_s] at hm ⊢
    generalize hr : (ru C (clf F (fv F (nuf R)) F.length) (nuf R) cs orF 61 rt0 0 1 fo []).1 = r at hm g3 ⊢
    have e0 : ∀ (x : Option (Int32 × cS)), fX11_runAll_60 (nz q) (f + 1) (bi b) 1 σ = x ↔ (if (σ1.1 0 69) = 0 then (if bi b = 0 then (if (σ1.1 0 70) = 0 then (fX11_runAll_94 (nz q) (fX11_runAll_60 (nz q) f) 0 σ1) else fX11_runAll_94 (nz q) (fX11_runAll_60 (nz q) f) 1 σ1) else fX11_runAll_94 (nz q) (fX11_runAll_60 (nz q) f) 1 σ1) else some (5, σ1)) = x := by
      intro x
      conv => lhs; lhs; unfold fX11_runAll_60
      rw [if_neg (by decide), g1, bd_s]
    simp only [e0]
    have l1 : (lfo (clf F (fv F (nuf R)) F.length) (nuf R) Y r).1 = r.1 := rfl
    rw [List.map_cons, show ∀ L : List Lf, ℓ ++ lfo (clf F (fv F (nuf R)) F.length) (nuf R) Y r :: L = (ℓ ++ [lfo (clf F (fv F (nuf R)) F.length) (nuf R) Y r]) ++ L from fun L => by simp]
    by_cases k2 : r.1 = 2
    · -- too long
      rw [show σ1.1 0 69 = 1 by rw [g3.1, if_pos k2], if_neg (by decide)]
      have hk : lK 2 ((ℓ ++ [lfo (clf F (fv F (nuf R)) F.length) (nuf R) Y r]) ++ (odx C (clf F (fv F (nuf R)) F.length) (nuf R) cs m (nx C r.2.2.2.2)).map (lfo (clf F (fv F (nuf R)) F.length) (nuf R) Y)) := lK_app.mpr (Or.inl (lK_app.mpr (Or.inr (lK_one.mpr (l1.trans k2)))))
      by_cases hk3 : lK 3 ((ℓ ++ [lfo (clf F (fv F (nuf R)) F.length) (nuf R) Y r]) ++ (odx C (clf F (fv F (nuf R)) F.length) (nuf R) cs m (nx C r.2.2.2.2)).map (lfo (clf F (fv F (nuf R)) F.length) (nuf R) Y))
      · exact ⟨σ1, true, true, rfl, fAl_R g2, ⟨fun _ => hk, fun _ => rfl⟩, ⟨fun _ => hk3, fun _ => rfl⟩, fun z => by cases z⟩
      · exact ⟨σ1, true, false, rfl, fAl_R g2, ⟨fun _ => hk, fun _ => rfl⟩, ⟨fun z => by (cases z), fun z => absurd z hk3⟩, fun z => by cases z⟩
    · rw [show σ1.1 0 69 = 0 by rw [g3.1, if_neg k2], if_pos rfl]
      -- the flag
      obtain ⟨b', hb', eb⟩ : ∃ b' : Bool, (b' = true ↔ lK 3 (ℓ ++ [lfo (clf F (fv F (nuf R)) F.length) (nuf R) Y r])) ∧ (if bi b = 0 then (if (σ1.1 0 70) = 0 then (fX11_runAll_94 (nz q) (fX11_runAll_60 (nz q) f) 0 σ1) else fX11_runAll_94 (nz q) (fX11_runAll_60 (nz q) f) 1 σ1) else fX11_runAll_94 (nz q) (fX11_runAll_60 (nz q) f) 1 σ1) = fX11_runAll_94 (nz q) (fX11_runAll_60 (nz q) f) (bi b') σ1 := by
        rw [lK_app, ← hb, lK_one, l1, g3.2.1]
        by_cases k3 : r.1 = 3
        · refine ⟨true, by simp [k3], ?_⟩
          rw [if_pos k3]
          cases b
          · rw [if_pos (by rfl), if_neg (by decide)]; rfl
          · rw [if_neg (by decide)]; rfl
        · refine ⟨b, by simp [k3], ?_⟩
          rw [if_neg k3]
          cases b
          · rw [if_pos (by rfl), if_pos rfl]; rfl
          · rw [if_neg (by decide)]; rfl
      rw [eb]
      have ha1 : ¬ lK 3 ℓ → tAc σ1 ℓ := fun hn => by
        obtain ⟨s1, s2, s3, s4, s5, s6, s7, s8⟩ := ha hn
        exact ⟨(g2.2.2.2 79 (by omega)).trans s1, (g2.2.2.2 80 (by omega)).trans s2, (g2.2.2.2 81 (by omega)).trans s3, (g2.2.2.2 82 (by omega)).trans s4, (g2.2.1 0 78 (by omega)).trans s5, fun a ha => (g2.2.1 38 a (by omega)).trans (s6 a ha), s7, s8⟩
      have n2 : ¬ lK 2 (ℓ ++ [lfo (clf F (fv F (nuf R)) F.length) (nuf R) Y r]) := fun z => by
        rcases lK_app.mp z with z | z
        · exact h2 z
        · exact k2 (l1.symm.trans (lK_one.mp z))
      obtain ⟨σ2, i1, i2, i3⟩ := tAll_1 (a1 := nz q) (K := fX11_runAll_60 (nz q) f) (x2 := bi b') h1 g3 k2 f72 ha1
      rcases i3 with ⟨j1, j2⟩ | ⟨fo', j1, j2, j3⟩
      · rw [j2, j1]
        obtain ⟨f, rfl⟩ : ∃ e, f = e + 1 := ⟨f - 1, by omega⟩
        refine ⟨σ2, false, b', ?_, (fAl_R g2).tr i1, ?_, ?_, ?_⟩
        · unfold fX11_runAll_60
          rw [if_pos rfl]
          cases b' <;> rfl
        · simp only [odx, List.map_nil, List.append_nil]
          exact ⟨fun z => by (cases z), fun z => absurd z n2⟩
        · simp only [odx, List.map_nil, List.append_nil]
          exact hb'
        · intro _ hw
          simp only [odx, List.map_nil, List.append_nil]
          exact i2 (fun z => by rw [hb'.mpr z] at hw; cases hw)
      · rw [j2, j1]
        rw [j1] at hm
        simp only [odx, List.length_cons] at hm ⊢
        obtain ⟨σ3, lg, wd, r1, r2, r3, r4, r5⟩ := ih fo' (ℓ ++ [lfo (clf F (fv F (nuf R)) F.length) (nuf R) Y r]) σ2 f b' (by omega) (by omega) (tQn_A h1 i1) j3 hb' n2 i2
        exact ⟨σ3, lg, wd, r1, ((fAl_R g2).tr i1).tr r2, r3, r4, r5⟩
theorem tAll2 {a1 : Int32} : ∀ (m t f : Nat) (σ : cS), 100 - t = m → m < f → t ≤ 100 → (∀ a, a < t → σ.2.1 38 a = 0) → ∃ σ' f', fX11_runAll_2 a1 f (nz t) σ = fX11_runAll_2 a1 (f' + 1) (nz 100) σ' ∧ σ'.2.2 = σ.2.2 ∧ σ'.1 = σ.1 ∧ (∀ o j, o ≠ 38 → σ'.2.1 o j = σ.2.1 o j) ∧ ∀ a, a < 100 → σ'.2.1 38 a = 0 := by
  intro m
  induction m with
  | zero =>
    intro t f σ hm hf ht hz
    obtain ⟨f, rfl⟩ : ∃ e, f = e + 1 := ⟨f - 1, by omega⟩
    have : t = 100 := by omega
    subst this
    exact ⟨σ, f, rfl, rfl, rfl, fun _ _ _ => rfl, hz⟩
  | succ m ih =>
    intro t f σ hm hf ht hz
    obtain ⟨f, rfl⟩ : ∃ e, f = e + 1 := ⟨f - 1, by omega⟩
    obtain ⟨σ', f', i1, i2, i3, i4, i5⟩ := ih (t + 1) f (stL σ 38 t 0) (by omega) (by omega) (by omega) (fun a ha => by
      rw [gL, if_pos rfl]
      by_cases hat : a = t
      · rw [if_pos hat]
      · rw [if_neg hat]; exact hz a (by omega))
    refine ⟨σ', f', ?_, i2, i3, fun o j ho => by rw [i4 o j ho, gL, if_neg ho], i5⟩
    conv => lhs; unfold fX11_runAll_2
    rw [show (100 : Int32) = nz 100 from rfl, if_neg (by rw [nz_le (by omega) (by omega)]; omega), ck_n (show t < 100 by omega) (by omega), nz_tn (by omega), nz_s]
    exact i1
/-- ALL RUNS of the twin -/
theorem tAll {σ : cS} (h : tQn σ nm q o p C ch Y F R cs) :
    ∃ σ' lg wd, fX11_runAll (nz q) σ = some (ans lg wd, σ') ∧ fAl σ σ' ∧ (lg = true ↔ lK 2 (lvs C (clf F (fv F (nuf R)) F.length) (nuf R) cs Y 61 rt0 0)) ∧ (wd = true ↔ lK 3 (lvs C (clf F (fv F (nuf R)) F.length) (nuf R) cs Y 61 rt0 0)) ∧ (lg = false → wd = false → tAc σ' (lvs C (clf F (fv F (nuf R)) F.length) (nuf R) cs Y 61 rt0 0)) := by
  obtain ⟨σ1, f1, a1, a2, a3, a4, a5⟩ := tAll2 (a1 := nz q) 100 0 FU σ (by omega) (by unfold FU; omega) (by omega) (fun a ha => by omega)
  have e : fX11_runAll (nz q) σ = fX11_runAll_2 (nz q) (f1 + 1) (nz 100) σ1 := a1
  rw [e]
  conv => arg 1; ext σ'; arg 1; ext lg; arg 1; ext wd; arg 1; lhs; unfold fX11_runAll_2
  rw [show (100 : Int32) = nz 100 from rfl, if_pos (by rw [nz_le (by omega) (by omega)]; omega)]
  show ∃ σ' lg wd, fX11_runAll_60 (nz q) FU 0 1 (stI (stI (stI (stI (stI (stI (stL σ1 0 78 0) 0 79 0) 0 80 0) 0 81 0) 0 82 0) 0 76 0) 0 72 0) = _ ∧ _
  have F0 : fAl σ σ1 := ⟨a2, fun o j b _ => a4 o j b, fun o j _ _ _ _ _ => by rw [a3], fun j _ => by rw [a3]⟩
  have F1 : fAl σ (stI (stI (stI (stI (stI (stI (stL σ1 0 78 0) 0 79 0) 0 80 0) 0 81 0) 0 82 0) 0 76 0) 0 72 0) := F0.tr ((((((fAl_78.tr (fAl_0 (by omega))).tr (fAl_0 (by omega))).tr (fAl_0 (by omega))).tr (fAl_0 (by omega))).tr (fAl_0 (by omega))).tr (fAl_0 (by omega)))
  have hA : tAc (stI (stI (stI (stI (stI (stI (stL σ1 0 78 0) 0 79 0) 0 80 0) 0 81 0) 0 82 0) 0 76 0) 0 72 0) [] := by
    refine ⟨by simp [gI]; rfl, by simp [gI]; rfl, by simp [gI]; rfl, by simp [gI]; rfl, ?_, fun a ha => ?_, by simp [lX], by simp [lD]⟩
    · show (stL σ1 0 78 0).2.1 0 78 = _
      rw [gL, if_pos rfl, if_pos rfl]; rfl
    · show (stL σ1 0 78 0).2.1 38 a = _
      rw [gL, if_neg (by decide), a5 a ha]; rfl
  have hlen := lvs_len C (clf F (fv F (nuf R)) F.length) (nuf R) cs Y 61 rt0 0 (by simp only [rt0]; omega)
  have h37 : 3 ^ (7 - rt0.2.2.1) = 2187 := by decide
  have hod := od_all C (clf F (fv F (nuf R)) F.length) (nuf R) cs Y (cOk_d h.2.1.1) (f := 2188) (by omega)
  have hl : (od C (clf F (fv F (nuf R)) F.length) (nuf R) cs 2188 []).length < 2188 := by
    have := congrArg List.length hod
    rw [List.length_map] at this
    omega
  obtain ⟨σ', lg, wd, r1, r2, r3, r4, r5⟩ := tAll60 (q := q) (Y := Y) 2188 [] [] _ FU false hl (by unfold FU; omega) (tQn_A h F1) ⟨by simp [gI], by simp [gI]; rfl, by simp, by simp, rfl, by simp⟩ (by simp [lK]) (by simp [lK]) (fun _ => hA)
  rw [List.nil_append, hod] at r3 r4 r5
  exact ⟨σ', lg, wd, r1, F1.tr r2, r3, r4, r5⟩
end
/-! sums over all values -/
def sG (L : List Lf) : Nat → Nat
  | 0 => 0
  | k + 1 => sG L k + lG (nz k) L
theorem sG_nil : ∀ k, sG [] k = 0 := by
  intro k
  induction k with
  | zero => rfl
  | succ k ih => simp only [sG, ih, lG]
theorem sG_cons (l : Lf) (L : List Lf) : ∀ k, k ≤ 100 → sG (l :: L) k = sG L k + (if l.1 = 0 ∧ (∃ x, x < k ∧ l.2.2.2.1 = nz x) then l.2.2.2.2 else 0) := by
  intro k
  induction k with
  | zero => intro _; simp [sG]
  | succ k ih =>
    intro hk
    simp only [sG, ih (by omega), lG]
    by_cases h0 : l.1 = 0
    · by_cases hx : l.2.2.2.1 = nz k
      · have : ¬ ∃ x, x < k ∧ l.2.2.2.1 = nz x := by
          rintro ⟨x, h1, h2⟩
          rw [hx, nz_inj (by omega) (by omega)] at h2
          omega
        rw [if_neg (fun z => this z.2), if_pos ⟨h0, hx⟩, if_pos ⟨h0, k, by omega, hx⟩]; omega
      · by_cases he : ∃ x, x < k ∧ l.2.2.2.1 = nz x
        · obtain ⟨x, x1, x2⟩ := he
          rw [if_pos ⟨h0, x, x1, x2⟩, if_neg (fun z => hx z.2), if_pos ⟨h0, x, by omega, x2⟩]; omega
        · have : ¬ ∃ x, x < k + 1 ∧ l.2.2.2.1 = nz x := by
            rintro ⟨x, h1, h2⟩
            by_cases hxk : x = k
            · rw [hxk] at h2; exact hx h2
            · exact he ⟨x, by omega, h2⟩
          rw [if_neg (fun z => he z.2), if_neg (fun z => hx z.2), if_neg (fun z => this z.2)]; omega
    · rw [if_neg (fun z => h0 z.1), if_neg (fun z => h0 z.1), if_neg (fun z => h0 z.1)]; omega
theorem sG_all (L : List Lf) : (∀ l ∈ L, l.1 = 0 → nV l.2.2.2.1) → sG L 100 = lT L := by
  induction L with
  | nil => intro _; exact sG_nil 100
  | cons l L ih =>
    intro h
    rw [sG_cons l L 100 (by omega), ih (fun x hx => h x (List.mem_cons_of_mem _ hx))]
    simp only [lT]
    by_cases h0 : l.1 = 0
    · obtain ⟨x, x1, x2⟩ := h l List.mem_cons_self h0
      rw [if_pos ⟨h0, x, x1, x2⟩, if_pos h0]; omega
    · rw [if_neg (fun z => h0 z.1), if_neg h0]; omega
