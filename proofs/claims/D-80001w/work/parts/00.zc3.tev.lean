set_option maxRecDepth 100000
/-! ===== THE TWIN'S VALUES ===== -/
def f34 (σ σ' : cS) : Prop := σ'.2 = σ.2 ∧ (∀ o j, o ≠ 0 → o ≠ 34 → σ'.1 o j = σ.1 o j) ∧ (∀ j, j ≠ 61 → j ≠ 64 → σ'.1 0 j = σ.1 0 j)
theorem f34.rf {σ : cS} : f34 σ σ := ⟨rfl, fun _ _ _ _ => rfl, fun _ _ _ => rfl⟩
theorem f34.tr {σ σ1 σ2 : cS} (h : f34 σ σ1) (h' : f34 σ1 σ2) : f34 σ σ2 := ⟨h'.1.trans h.1, fun o j a b => (h'.2.1 o j a b).trans (h.2.1 o j a b), fun j a b => (h'.2.2 j a b).trans (h.2.2 j a b)⟩
theorem f34_0 {σ : cS} {j : Nat} {v : Int32} (hj : j = 61 ∨ j = 64) : f34 σ (stI σ 0 j v) := ⟨rfl, fun o k a b => by rw [gI, if_neg a], fun k a b => by rw [gI, if_pos rfl, if_neg (by omega)]⟩
theorem f34_34 {σ : cS} {j : Nat} {v : Int32} : f34 σ (stI σ 34 j v) := ⟨rfl, fun o k a b => by rw [gI, if_neg b], fun k a b => by rw [gI, if_neg (by decide)]⟩
/-- the pile of values, top first -/
def tSk (σ : cS) (S : List Int32) : Prop := σ.1 0 61 = nz S.length ∧ ∀ (j : Nat) (s : Int32), S[j]? = some s → σ.1 34 (S.length - 1 - j) = s
theorem tSk_I {σ : cS} {S : List Int32} {o j : Nat} {v : Int32} (h : tSk σ S) (ho : o ≠ 34 ∧ ¬ (o = 0 ∧ j = 61)) : tSk (stI σ o j v) S := by
  refine ⟨?_, fun k s hk => ?_⟩
  · rw [gI]
    by_cases h0 : 0 = o
    · rw [if_pos h0, if_neg (by omega)]; exact h.1
    · rw [if_neg h0]; exact h.1
  · rw [gI, if_neg (by omega)]; exact h.2 k s hk
theorem tPush {σ : cS} {S : List Int32} (v : Int32) (h : tSk σ S) (hl : S.length < 1200) : ∃ σ', fX11_push v σ = some ((), σ') ∧ tSk σ' (v :: S) ∧ f34 σ σ' ∧ σ'.1 0 64 = σ.1 0 64 := by
  refine ⟨stI (stI σ 34 S.length v) 0 61 (nz (S.length + 1)), ?_, ⟨?_, fun j s hj => ?_⟩, f34_34.tr (f34_0 (by omega)), by simp [gI]⟩
  · unfold fX11_push
    rw [h.1, ck_n hl (by omega), nz_tn (by omega), wI_e]
    have : (stI σ 34 S.length v).1 0 61 = nz S.length := by rw [gI, if_neg (by decide)]; exact h.1
    rw [this, nz_s, wI_e]
  · simp [gI]
  · rw [gI, if_neg (by decide), gI, if_pos rfl]
    cases j with
    | zero =>
      simp at hj
      rw [if_pos (by simp), hj]
    | succ j =>
      rw [List.getElem?_cons_succ] at hj
      have hjl := (List.getElem?_eq_some_iff.mp hj).1
      rw [List.length_cons, if_neg (by omega), show S.length + 1 - 1 - (j + 1) = S.length - 1 - j by omega]
      exact h.2 j s hj
theorem tPull {σ : cS} {S : List Int32} {a : Int32} (h : tSk σ (a :: S)) (hl : S.length < 1200) : fX11_pull σ = some (a, stI σ 0 61 (nz S.length)) ∧ tSk (stI σ 0 61 (nz S.length)) S := by
  refine ⟨?_, by simp [gI], fun j s hj => ?_⟩
  · unfold fX11_pull
    rw [h.1, List.length_cons, nz_ps, wI_e]
    have e : (stI σ 0 61 (nz S.length)).1 0 61 = nz S.length := by simp [gI]
    rw [e, ck_n hl (by omega), nz_tn (by omega), gI, if_neg (by decide)]
    have := h.2 0 a rfl
    rw [List.length_cons] at this
    simp at this
    rw [this]
  · rw [gI, if_neg (by decide)]
    have hjl := (List.getElem?_eq_some_iff.mp hj).1
    have := h.2 (j + 1) s (by rw [List.getElem?_cons_succ]; exact hj)
    rw [List.length_cons, show S.length + 1 - 1 - (j + 1) = S.length - 1 - j by omega] at this
    exact this
def tCal (σ : cS) (nm : Nat → Int32) (nF : Nat) (c a : Int32) : Int32 := match fr1 nm (c - 65) nF 0 with
  | none => a
  | some k => σ.1 35 (100 * k + a.toNatClampNeg)
def tNu (σ : cS) (q : Nat) (a : Int32) : Int32 := if σ.1 30 q ≤ a then 0 else σ.1 29 (20 * q + a.toNatClampNeg)
def tVr (σ : cS) (ov : Int32) (a : Nat) : Int32 := if ov < 0 then σ.1 33 a else σ.1 0 63
theorem f34.cal {σ σ' : cS} (h : f34 σ σ') {nm : Nat → Int32} {nF : Nat} : tCal σ' nm nF = tCal σ nm nF := by
  funext c a
  unfold tCal
  have : σ'.1 35 = σ.1 35 := by funext j; exact h.2.1 35 j (by decide) (by decide)
  rw [this]
theorem f34.nu {σ σ' : cS} (h : f34 σ σ') {q : Nat} : tNu σ' q = tNu σ q := by
  funext a
  unfold tNu
  rw [h.2.1 30 _ (by decide) (by decide), h.2.1 29 _ (by decide) (by decide)]
theorem f34.vr {σ σ' : cS} (h : f34 σ σ') {ov : Int32} : tVr σ' ov = tVr σ ov := by
  funext a
  unfold tVr
  rw [h.2.1 33 _ (by decide) (by decide), h.2.2 63 (by decide) (by decide)]
section
variable {ov : Int32} {nm : Nat → Int32} {nF q : Nat}
/-- one order of a sum -/
theorem tEv1 {v : Nat → Int32} {cl : Int32 → Int32 → Int32} {nu : Int32 → Int32} {σ : cS} {S : List Int32} {pc : Nat} {y : Sy} (hq : q < 16) (hF : nF ≤ 12) (h65 : σ.1 0 65 = nz q) (hR : ∃ R, R ≤ 20 ∧ σ.1 30 q = nz R) (hpc : pc < 12000) (h64 : σ.1 0 64 = nz pc) (hk : tSk σ S) (hl : S.length < 1199) (hn : ∀ s ∈ S, nV s)
    (e2 : σ.1 2 pc = (trS ov nm nF y).1) (e3 : σ.1 3 pc = (trS ov nm nF y).2) (hv : ∀ a, a < 6 → tVr σ ov a = v a) (hc : ∀ c a, nV a → tCal σ nm nF c a = cl c a) (hnu : ∀ a, nV a → tNu σ q a = nu a)
    (hw : ((y.1 = 0 ∧ nV y.2) ∨ (y.1 = 1 ∧ ∃ a, a < 6 ∧ y.2 = nz a)) ∨ (((y.1 = 2 ∧ ∃ a, 65 ≤ a ∧ a ≤ 90 ∧ y.2 = nz a) ∨ y.1 = 33 ∨ y.1 = 91) ∧ 1 ≤ S.length) ∨ (0 ≤ lvC y.1 ∧ 2 ≤ S.length)) :
    ∃ σ', fX11_doOrder σ = some (1, σ') ∧ tSk σ' (ev1 v cl nu y S) ∧ f34 σ σ' ∧ σ'.1 0 64 = nz (pc + 1) := by
  have h1 := tSk_I (o := 0) (j := 64) (v := nz (pc + 1)) hk (by omega)
  have F1 : f34 σ (stI σ 0 64 (nz (pc + 1))) := f34_0 (by omega)
  have g64 : (stI σ 0 64 (nz (pc + 1))).1 0 64 = nz (pc + 1) := by simp [gI]
  unfold fX11_doOrder
  rw [h64, ck_n hpc (by omega), ck_n hpc (by omega), nz_tn (by omega), wI_e, nz_s, e2, e3]
  have hc1 : ∀ c a, nV a → tCal (stI σ 0 64 (nz (pc + 1))) nm nF c a = cl c a := fun c a ha => by rw [F1.cal]; exact hc c a ha
  have hnu1 : ∀ a, nV a → tNu (stI σ 0 64 (nz (pc + 1))) q a = nu a := fun a ha => by rw [F1.nu]; exact hnu a ha
  have hv1 : ∀ a, a < 6 → tVr (stI σ 0 64 (nz (pc + 1))) ov a = v a := fun a ha => by rw [F1.vr]; exact hv a ha
  have g65 : (stI σ 0 64 (nz (pc + 1))).1 0 65 = nz q := by simpa [gI] using h65
  obtain ⟨R, hR1, hR2⟩ := hR
  have g30 : (stI σ 0 64 (nz (pc + 1))).1 30 q = nz R := by simpa [gI] using hR2
  clear h64 hk hv hc hnu h65 hR2 e2 e3
  generalize stI σ 0 64 (nz (pc + 1)) = σ1 at h1 F1 g64 hc1 hnu1 hv1 g65 g30 ⊢
  have pu : ∀ (τ : cS) (S' : List Int32) (w : Int32), tSk τ S' → S'.length < 1200 → f34 σ1 τ → τ.1 0 64 = nz (pc + 1) → ∃ σ', (bd (fX11_push w τ) fun _ σ2 => some ((1 : Int32), σ2)) = some (1, σ') ∧ tSk σ' (w :: S') ∧ f34 σ σ' ∧ σ'.1 0 64 = nz (pc + 1) := by
    intro τ S' w h2 h3 h4 h5
    obtain ⟨σ', p1, p2, p3, p4⟩ := tPush w h2 h3
    exact ⟨σ', by rw [p1, bd_s], p2, (F1.tr h4).tr p3, p4.trans h5⟩
  rcases hw with (⟨w1, w2⟩ | ⟨w1, a, w2, w3⟩) | ⟨w1, w2⟩ | ⟨w1, w2⟩
  · have et : trS ov nm nF y = (1, y.2) := by unfold trS; rw [if_pos w1]
    have ee : ev1 v cl nu y S = y.2 :: S := by unfold ev1; rw [if_pos w1]
    rw [et, ee]
    simp only
    rw [if_pos trivial]
    exact pu σ1 S y.2 h1 (by omega) f34.rf g64
  · have et : trS ov nm nF y = (if ov < 0 then 2 else 3, y.2) := by unfold trS; rw [if_neg (by rw [w1]; decide), if_pos w1]
    have ee : ev1 v cl nu y S = v a :: S := by unfold ev1; rw [if_neg (by rw [w1]; decide), if_pos w1, w3, nz_tn (by omega)]
    have hva := hv1 a w2
    unfold tVr at hva
    rw [et, ee]
    simp only
    by_cases ho : ov < 0
    · rw [if_pos ho] at hva
      rw [if_pos ho, if_neg (by decide), if_pos rfl, w3, ck_n w2 (by omega), nz_tn (by omega), hva]
      exact pu σ1 S (v a) h1 (by omega) f34.rf g64
    · rw [if_neg ho] at hva
      rw [if_neg ho, if_neg (by decide), if_neg (by decide), if_pos rfl, hva]
      exact pu σ1 S (v a) h1 (by omega) f34.rf g64
  · obtain ⟨s, S, rfl⟩ : ∃ s S', S = s :: S' := by
      cases S with
      | nil => simp at w2
      | cons s S => exact ⟨s, S, rfl⟩
    rw [List.length_cons] at hl
    obtain ⟨p1, p2⟩ := tPull h1 (by omega)
    have hs := hn s List.mem_cons_self
    have F2 : f34 σ1 (stI σ1 0 61 (nz S.length)) := f34_0 (by omega)
    have q64 : (stI σ1 0 61 (nz S.length)).1 0 64 = nz (pc + 1) := by simpa [gI] using g64
    rcases w1 with ⟨w1, a, w3, w4, w5⟩ | w1 | w1
    · have et : trS ov nm nF y = (5, ow (fr1 nm (y.2 - 65) nF 0)) := by unfold trS; rw [if_neg (by rw [w1]; decide), if_neg (by rw [w1]; decide), if_pos w1]
      have ee : ev1 v cl nu y (s :: S) = cl y.2 s :: S := by unfold ev1; rw [if_neg (by rw [w1]; decide), if_neg (by rw [w1]; decide), if_pos w1]; rfl
      rw [et, ee]
      simp only
      rw [if_neg (by decide), if_neg (by decide), if_neg (by decide), if_neg (by decide), if_pos trivial]
      have hcs := hc1 y.2 s hs
      unfold tCal at hcs
      cases hf : fr1 nm (y.2 - 65) nF 0 with
      | none =>
        rw [hf] at hcs
        simp only at hcs
        rw [show ow none = -1 from rfl, if_pos (by decide), ← hcs]
        exact ⟨σ1, rfl, h1, F1, g64⟩
      | some k =>
        have hkl := (fr1_lt _ _ hf).2.1
        rw [hf] at hcs
        simp only at hcs
        obtain ⟨x, hx, rfl⟩ := hs
        rw [nz_tn (by omega)] at hcs
        rw [show ow (some k) = nz k from rfl, if_neg (nz_ge0 (by omega)), p1, bd_s, show (100 : Int32) = nz 100 from rfl, nz_mul, nz_add, ck_n (by omega) (by omega), nz_tn (by omega)]
        have : (stI σ1 0 61 (nz S.length)).1 35 (100 * k + x) = cl y.2 (nz x) := by rw [gI, if_neg (by decide)]; exact hcs
        rw [this]
        exact pu _ S _ p2 (by omega) F2 q64
    · have et : trS ov nm nF y = (33, 0) := by unfold trS; rw [if_neg (by rw [w1]; decide), if_neg (by rw [w1]; decide), if_neg (by rw [w1]; decide), if_neg (by rw [w1]; decide), w1]
      have ee : ev1 v cl nu y (s :: S) = (if s = 0 then 1 else 0) :: S := by unfold ev1; rw [if_neg (by rw [w1]; decide), if_neg (by rw [w1]; decide), if_neg (by rw [w1]; decide), if_pos w1]; rfl
      rw [et, ee]
      simp only
      rw [if_neg (by decide), if_neg (by decide), if_neg (by decide), if_neg (by decide), if_neg (by decide), if_neg (by decide), if_neg (by decide), if_pos trivial, p1, bd_s]
      by_cases hz : s = 0
      · rw [if_pos hz, if_pos hz]; exact pu _ S _ p2 (by omega) F2 q64
      · rw [if_neg hz, if_neg hz]; exact pu _ S _ p2 (by omega) F2 q64
    · have et : trS ov nm nF y = (4, 0) := by unfold trS; rw [if_neg (by rw [w1]; decide), if_neg (by rw [w1]; decide), if_neg (by rw [w1]; decide), if_pos w1]
      have ee : ev1 v cl nu y (s :: S) = nu s :: S := by unfold ev1; rw [if_neg (by rw [w1]; decide), if_neg (by rw [w1]; decide), if_neg (by rw [w1]; decide), if_neg (by rw [w1]; decide), if_pos w1]; rfl
      rw [et, ee]
      simp only
      have q65 : (stI σ1 0 61 (nz S.length)).1 0 65 = nz q := by simpa [gI] using g65
      have q30 : (stI σ1 0 61 (nz S.length)).1 30 q = nz R := by simpa [gI] using g30
      have hns := hnu1 s hs
      unfold tNu at hns
      obtain ⟨x, hx, rfl⟩ := hs
      rw [g30, nz_tn (by omega)] at hns
      rw [if_neg (by decide), if_neg (by decide), if_neg (by decide), if_pos trivial, p1, bd_s, q65, ck_n hq (by omega), nz_tn (by omega), q30]
      by_cases hz : nz R ≤ nz x
      · rw [if_pos hz] at hns ⊢
        rw [← hns]; exact pu _ S _ p2 (by omega) F2 q64
      · rw [if_neg hz] at hns ⊢
        rw [nz_le (by omega) (by omega)] at hz
        rw [show (20 : Int32) = nz 20 from rfl, nz_mul, nz_add, ck_n (by omega) (by omega), nz_tn (by omega)]
        have : (stI σ1 0 61 (nz S.length)).1 29 (20 * q + x) = nu (nz x) := by rw [gI, if_neg (by decide)]; exact hns
        rw [this]
        exact pu _ S _ p2 (by omega) F2 q64
  · obtain ⟨n1, n2, n3, n4, n5, n6, n7, n8, n9, n10, n11⟩ := lv_ne w1
    obtain ⟨b, a, S, rfl⟩ : ∃ b a S', S = b :: a :: S' := by
      rcases S with _ | ⟨b, _ | ⟨a, S⟩⟩
      · simp at w2
      · simp at w2
      · exact ⟨b, a, S, rfl⟩
    simp only [List.length_cons] at hl
    obtain ⟨p1, p2⟩ := tPull h1 (by simp only [List.length_cons]; omega)
    obtain ⟨p3, p4⟩ := tPull p2 (by omega)
    have et : trS ov nm nF y = (y.1, 0) := by unfold trS; rw [if_neg n1, if_neg n2, if_neg n3, if_neg n5]
    have ee : ev1 v cl nu y (b :: a :: S) = opv y.1 a b :: S := by unfold ev1; rw [if_neg n1, if_neg n2, if_neg n3, if_neg n4, if_neg n5]; rfl
    rw [et, ee]
    simp only
    rw [if_neg n2, if_neg n3, if_neg n6, if_neg n7, if_neg n8, if_neg n9, if_neg n10, if_neg n4, if_neg n11]
    unfold fX11_doSign
    rw [p1, bd_s, p3, bd_s, tOp _ _ _ _ w1, bd_s]
    obtain ⟨σ', i1, i2, i3, i4⟩ := pu _ S (opv y.1 a b) p4 (by omega) ((f34_0 (by omega)).tr (f34_0 (by omega))) (by simpa [gI] using g64)
    rw [i1, bd_s, ck_t (by decide)]
    exact ⟨σ', rfl, i2, i3, i4⟩
/-- the orders of a sum -/
theorem tEvl {v : Nat → Int32} {cl : Int32 → Int32 → Int32} {nu : Int32 → Int32} (hE : gEn v cl nu) {a1 : Int32} (hq : q < 16) (hF : nF ≤ 12) : ∀ (y : List Sy) (f pc d e : Nat) (σ : cS) (S : List Int32), wfy d y e → S.length = d → d + y.length < 1199 → pc + y.length ≤ 12000 → (∀ s ∈ S, nV s) → σ.1 0 65 = nz q → (∃ R, R ≤ 20 ∧ σ.1 30 q = nz R) → σ.1 0 64 = nz pc → tSk σ S → tOA σ pc (y.map (trS ov nm nF)) → (∀ a, a < 6 → tVr σ ov a = v a) → (∀ c a, nV a → tCal σ nm nF c a = cl c a) → (∀ a, nV a → tNu σ q a = nu a) →
    ∃ σ', fX11_go_12 a1 (f + y.length) 1 σ = fX11_go_12 a1 f 1 σ' ∧ tSk σ' (evl v cl nu y S) ∧ f34 σ σ' ∧ σ'.1 0 64 = nz (pc + y.length) := by
  intro y
  induction y with
  | nil => intro f pc d e σ S hw hl hd hp hn h65 hR h64 hk hO hv hc hnu; exact ⟨σ, rfl, hk, f34.rf, h64⟩
  | cons y r ih =>
    intro f pc d e σ S hw hl hd hp hn h65 hR h64 hk hO hv hc hnu
    rw [List.length_cons] at hd hp ⊢
    have h0 := hO 0 (trS ov nm nF y) rfl
    rw [Nat.add_zero] at h0
    have hOr : tOA σ (pc + 1) (r.map (trS ov nm nF)) := fun k e hk => by
      have := hO (k + 1) e (by rw [List.map_cons, List.getElem?_cons_succ]; exact hk)
      rw [show pc + 1 + k = pc + (k + 1) by omega]; exact this
    have hwy : ((y.1 = 0 ∧ nV y.2) ∨ (y.1 = 1 ∧ ∃ a, a < 6 ∧ y.2 = nz a)) ∨ (((y.1 = 2 ∧ ∃ a, 65 ≤ a ∧ a ≤ 90 ∧ y.2 = nz a) ∨ y.1 = 33 ∨ y.1 = 91) ∧ 1 ≤ S.length) ∨ (0 ≤ lvC y.1 ∧ 2 ≤ S.length) := by
      rcases hw with ⟨h1, h2⟩ | ⟨h1, h2, h3⟩ | ⟨h1, h2, h3⟩
      · exact Or.inl h1
      · exact Or.inr (Or.inl ⟨h1, by omega⟩)
      · exact Or.inr (Or.inr ⟨h1, by omega⟩)
    obtain ⟨σ1, g1, g2, g3, g4⟩ := tEv1 (v := v) (cl := cl) (nu := nu) hq hF h65 hR (by omega) h64 hk (by omega) hn h0.1 h0.2 hv hc hnu hwy
    obtain ⟨m1, m2, m3⟩ := ev1_n hE (y := y) hn
    have hlen : ∃ d', wfy d' r e ∧ (ev1 v cl nu y S).length = d' ∧ d' ≤ d + 1 ∧ ∀ s ∈ ev1 v cl nu y S, nV s := by
      rcases hw with ⟨h1, h2⟩ | ⟨h1, h2, h3⟩ | ⟨h1, h2, h3⟩
      · obtain ⟨l1, l2⟩ := m1 h1
        exact ⟨d + 1, h2, by omega, by omega, l2⟩
      · obtain ⟨l1, l2⟩ := m2 h1 (by omega)
        exact ⟨d, h3, by omega, by omega, l2⟩
      · obtain ⟨l1, l2⟩ := m3 h1 (by omega)
        exact ⟨d - 1, h3, by omega, by omega, l2⟩
    obtain ⟨d', w1, w2, w3, w4⟩ := hlen
    have hg : ∀ j, j ≠ 61 → j ≠ 64 → σ1.1 0 j = σ.1 0 j := g3.2.2
    obtain ⟨σ2, k1, k2, k3, k4⟩ := ih f (pc + 1) d' e σ1 (ev1 v cl nu y S) w1 w2 (by omega) (by omega) w4 (by rw [hg 65 (by decide) (by decide)]; exact h65) (by rw [g3.2.1 30 q (by decide) (by decide)]; exact hR) g4 g2 (fun k e hk => by rw [g3.2.1 2 _ (by decide) (by decide), g3.2.1 3 _ (by decide) (by decide)]; exact hOr k e hk) (fun a ha => by rw [g3.vr]; exact hv a ha) (fun c a ha => by rw [g3.cal]; exact hc c a ha) (fun a ha => by rw [g3.nu]; exact hnu a ha)
    refine ⟨σ2, ?_, k2, g3.tr k3, ?_⟩
    · rw [show f + (r.length + 1) = f + r.length + 1 by omega]
      conv => lhs; unfold fX11_go_12
      rw [if_neg (by decide), g1, bd_s, k1]
    · rw [k4]; congr 1; omega
/-- a sum that ends (15 or 6): its value is pulled -/
theorem tSumE {v : Nat → Int32} {cl : Int32 → Int32 → Int32} {nu : Int32 → Int32} (hE : gEn v cl nu) {σ : cS} {y : List Sy} {pc : Nat} {en : Int32} (hen : en = 6 ∨ en = 15) (hq : q < 16) (hF : nF ≤ 12) (hw : wfy 0 y 1) (hy : y.length < 1199) (hp : pc + y.length < 12000) (h65 : σ.1 0 65 = nz q) (hR : ∃ R, R ≤ 20 ∧ σ.1 30 q = nz R) (hO : tOA σ pc (y.map (trS ov nm nF) ++ [(en, 0)])) (hv : ∀ a, a < 6 → tVr σ ov a = v a) (hc : ∀ c a, nV a → tCal σ nm nF c a = cl c a) (hnu : ∀ a, nV a → tNu σ q a = nu a) :
    ∃ σ' σ'', fX11_go (nz pc) σ = some ((), σ') ∧ fX11_pull σ' = some (val v cl nu y, σ'') ∧ f34 σ σ'' := by
  unfold fX11_go
  rw [wI_e, wI_e]
  have F2 : f34 σ (stI (stI σ 0 64 (nz pc)) 0 61 0) := (f34_0 (by omega)).tr (f34_0 (by omega))
  have hOy : tOA σ pc (y.map (trS ov nm nF)) := fun k e hk => hO k e (by
    have := (List.getElem?_eq_some_iff.mp hk).1
    rw [List.getElem?_append_left this]; exact hk)
  have hOe := hO y.length (en, 0) (by rw [List.getElem?_append_right (by simp)]; simp)
  obtain ⟨σ3, k1, k2, k3, k4⟩ := tEvl (a1 := nz pc) hE hq hF y (FU - y.length) pc 0 1 (stI (stI σ 0 64 (nz pc)) 0 61 0) [] hw rfl (by omega) (by omega) (fun s hs => by cases hs) (by rw [F2.2.2 65 (by decide) (by decide)]; exact h65) (by rw [F2.2.1 30 q (by decide) (by decide)]; exact hR) (by simp [gI]) ⟨by simp [gI]; rfl, fun j s hj => by simp at hj⟩ (fun k e hk => by rw [F2.2.1 2 _ (by decide) (by decide), F2.2.1 3 _ (by decide) (by decide)]; exact hOy k e hk) (fun a ha => by rw [F2.vr]; exact hv a ha) (fun c a ha => by rw [F2.cal]; exact hc c a ha) (fun a ha => by rw [F2.nu]; exact hnu a ha)
  rw [show FU = FU - y.length + y.length by unfold FU; omega, k1]
  obtain ⟨f, hf⟩ : ∃ f, FU - y.length = f + 2 := ⟨FU - y.length - 2, by unfold FU; omega⟩
  rw [hf]
  obtain ⟨e1, -⟩ := evl_n hE y hw (S := []) rfl (fun s hs => by cases hs)
  obtain ⟨a, ha⟩ := List.length_eq_one_iff.mp e1
  have F3 := F2.tr k3
  have q2 : σ3.1 2 (pc + y.length) = en := by rw [F3.2.1 2 _ (by decide) (by decide)]; exact hOe.1
  have hd : fX11_doOrder σ3 = some (0, stI σ3 0 64 (nz (pc + y.length + 1))) := by
    unfold fX11_doOrder
    rw [k4, ck_n hp (by omega), ck_n hp (by omega), nz_tn (by omega), wI_e, nz_s, q2]
    rcases hen with h | h
    · rw [h, if_neg (by decide), if_neg (by decide), if_neg (by decide), if_neg (by decide), if_neg (by decide), if_pos rfl]
    · rw [h, if_neg (by decide), if_neg (by decide), if_neg (by decide), if_neg (by decide), if_neg (by decide), if_neg (by decide), if_pos rfl]
  rw [ha] at k2
  have h4 := tSk_I (o := 0) (j := 64) (v := nz (pc + y.length + 1)) k2 (by omega)
  obtain ⟨p1, -⟩ := tPull h4 (by simp)
  refine ⟨stI σ3 0 64 (nz (pc + y.length + 1)), stI (stI σ3 0 64 (nz (pc + y.length + 1))) 0 61 (nz ([] : List Int32).length), ?_, ?_, (F3.tr (f34_0 (j := 64) (by omega))).tr (f34_0 (j := 61) (by omega))⟩
  · unfold fX11_go_12
    rw [if_neg (by decide), hd, bd_s]
    unfold fX11_go_12
    rw [if_pos rfl]
  · rw [p1]
    unfold val
    rw [ha]; rfl
end
