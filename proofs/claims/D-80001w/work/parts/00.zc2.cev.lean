set_option maxRecDepth 100000
/-! ===== THE COMPONENT'S VALUES ===== -/
def f84 (σ σ' : cS) : Prop := σ'.2 = σ.2 ∧ ∀ o j, o ≠ 84 → σ'.1 o j = σ.1 o j
theorem f84.rf {σ : cS} : f84 σ σ := ⟨rfl, fun _ _ _ => rfl⟩
theorem f84.tr {σ σ1 σ2 : cS} (h : f84 σ σ1) (h' : f84 σ1 σ2) : f84 σ σ2 := ⟨h'.1.trans h.1, fun o j e => (h'.2 o j e).trans (h.2 o j e)⟩
theorem f84_I {σ : cS} {j : Nat} {v : Int32} : f84 σ (stI σ 84 j v) := ⟨rfl, fun o k h => by rw [gI, if_neg h]⟩
def cCal (σ : cS) (o below : Nat) (c a : Int32) : Int32 := match fr1 (σ.1 (o + 31 + 10)) c below 0 with
  | none => a
  | some k => σ.1 (o + 46) (100 * k + a.toNatClampNeg)
def cNu (σ : cS) (o : Nat) (a : Int32) : Int32 := if σ.1 o 8 ≤ a then 0 else σ.1 (o + 47) a.toNatClampNeg
theorem f84.cl {σ σ' : cS} (h : f84 σ σ') {o below : Nat} (ho : o + 49 < 84 ∨ 84 < o) : cCal σ' o below = cCal σ o below := by
  funext c a
  unfold cCal
  have e1 : σ'.1 (o + 31 + 10) = σ.1 (o + 31 + 10) := by funext j; exact h.2 _ _ (by omega)
  have e2 : σ'.1 (o + 46) = σ.1 (o + 46) := by funext j; exact h.2 _ _ (by omega)
  rw [e1, e2]
theorem f84.nu {σ σ' : cS} (h : f84 σ σ') {o : Nat} (ho : o + 49 < 84 ∨ 84 < o) : cNu σ' o = cNu σ o := by
  funext a
  unfold cNu
  rw [h.2 o 8 (by omega), h.2 (o + 47) _ (by omega)]
/-- the values so far stand where the parts say -/
def cSt (σ : cS) (p : Nat) (I : List Nat) (S : List Int32) : Prop := I.length = S.length ∧ ∀ (j i : Nat) (s : Int32), I[j]? = some i → S[j]? = some s → i < p ∧ σ.1 84 i = s
theorem cSt_push {σ : cS} {p : Nat} {I : List Nat} {S : List Int32} {v : Int32} (h : cSt σ p I S) : cSt (stI σ 84 p v) (p + 1) (p :: I) (v :: S) := by
  refine ⟨by simp [h.1], fun j i s h1 h2 => ?_⟩
  cases j with
  | zero =>
    simp at h1 h2
    subst h1; subst h2
    exact ⟨by omega, by simp [gI]⟩
  | succ j =>
    rw [List.getElem?_cons_succ] at h1 h2
    obtain ⟨k1, k2⟩ := h.2 j i s h1 h2
    exact ⟨by omega, by rw [gI, if_pos rfl, if_neg (by omega)]; exact k2⟩
theorem cSt_tail {σ : cS} {p : Nat} {I : List Nat} {S : List Int32} (h : cSt σ p I S) : cSt σ p I.tail S.tail := by
  refine ⟨by rw [List.length_tail, List.length_tail, h.1], fun j i s h1 h2 => ?_⟩
  rw [List.getElem?_tail] at h1 h2
  exact h.2 _ i s h1 h2
theorem cSt_head {σ : cS} {p : Nat} {I : List Nat} {S : List Int32} (h : cSt σ p I S) (hl : 1 ≤ S.length) : I.headD 0 < p ∧ σ.1 84 (I.headD 0) = S.headD 0 := by
  obtain ⟨h1, h2⟩ := h
  cases I with
  | nil => simp at h1; omega
  | cons i I =>
    cases S with
    | nil => simp at hl
    | cons s S => exact h2 0 i s rfl rfl
section
variable {o a1 below : Nat} {a2 a3 : Int32}
theorem cCalled {σ : cS} {c a : Int32} (hb : below ≤ 12) (ha : nV a) : fX5_called o c (nz below) a σ = some (cCal σ o below c a, σ) := by
  obtain ⟨x, hx, rfl⟩ := ha
  unfold fX5_called cCal
  rw [cFo hb, bd_s]
  cases hf : fr1 (σ.1 (o + 31 + 10)) c below 0 with
  | none =>
    show (if ow none = -1 then _ else _) = _
    rw [if_pos (by rfl)]
  | some k =>
    have := (fr1_lt _ _ hf).2.1
    show (if nz k = -1 then _ else _) = _
    rw [if_neg (nz_m1 (by omega))]
    show ck (inB (nz 100 * nz k + nz x) 1200) (some (σ.1 (o + 46) (nz 100 * nz k + nz x).toNatClampNeg, σ)) = _
    rw [nz_mul, nz_add, ck_n (by omega) (by omega), nz_tn (by omega), nz_tn (by omega)]
theorem cNumb {σ : cS} {a : Int32} {R : Nat} (hR : R ≤ 20) (hR2 : σ.1 o 8 = nz R) (ha : nV a) : fX5_numberAt o a σ = some (cNu σ o a, σ) := by
  obtain ⟨x, hx, rfl⟩ := ha
  unfold fX5_numberAt cNu
  rw [hR2]
  by_cases h : nz R ≤ nz x
  · rw [if_pos h, if_pos h]
  · rw [if_neg h, if_neg h]
    rw [nz_le (by omega) (by omega)] at h
    rw [ck_n (by omega) (by omega)]
theorem cVal3 (hb : below ≤ 12) (ho : o + 49 < 84 ∨ 84 < o) (ha : a1 + 3 < 84 ∨ 84 < a1) (h83 : cpLa 83 = (2, 6)) (h84 : cpLa 84 = (2, 402)) {v : Nat → Int32} {cl : Int32 → Int32 → Int32} {nu : Int32 → Int32} (hE : gEn v cl nu) {rt : Nat} (hrt : rt < 402) :
    ∀ (y : List Sy) (p : Nat) (I : List Nat) (S : List Int32) (f e : Nat) (σ : cS), wfy S.length y e → p + y.length ≤ rt + 1 → cPA σ a1 p (bld p y I).1 → cSt σ p I S → (∀ s ∈ S, nV s) → (∀ s ∈ y, ∀ a, s.1 = 1 → s.2 = nz a → a < 6 → σ.1 83 a = v a) → (∀ c a, nV a → cCal σ o below c a = cl c a) → (∀ a, nV a → cNu σ o a = nu a) → (∀ j, j < below → True) → (∃ R, R ≤ 20 ∧ σ.1 o 8 = nz R) →
    ∃ σ', fX5_value_3 o a1 a2 (nz rt) 83 84 (nz below) (f + y.length) (nz p) σ = fX5_value_3 o a1 a2 (nz rt) 83 84 (nz below) f (nz (p + y.length)) σ' ∧ f84 σ σ' ∧ cSt σ' (p + y.length) (bld p y I).2 (evl v cl nu y S) := by
  intro y
  induction y with
  | nil =>
    intro p I S f e σ hw hp hA hS hn hv hc hnu _ hR
    exact ⟨σ, rfl, f84.rf, hS⟩
  | cons y r ih =>
    intro p I S f e σ hw hp hA hS hn hv hc hnu hx hR
    obtain ⟨R, hR1, hR2⟩ := hR
    rw [List.length_cons] at hp ⊢
    have hA0 := hA 0 (bl1 p y I).1 rfl
    simp only [Nat.add_zero] at hA0
    obtain ⟨A1, A2, A3⟩ := hA0
    have hAr : cPA σ a1 (p + 1) (bld (p + 1) r (bl1 p y I).2).1 := fun k e hk => by
      have := hA (k + 1) e (by show ((bl1 p y I).1 :: _)[k + 1]? = _; rw [List.getElem?_cons_succ]; exact hk)
      rw [show p + 1 + k = p + (k + 1) by omega]; exact this
    have i83 : ∀ {β : Type} (x : Nat) (K : Option β), x < 6 → ck (inB (nz x) (cpLa 83).2) K = K := fun x K hx => by rw [h83]; exact ck_n hx (by omega)
    have i84 : ∀ {β : Type} (x : Nat) (K : Option β), x < 402 → ck (inB (nz x) (cpLa 84).2) K = K := fun x K hx => by rw [h84]; exact ck_n hx (by omega)
    have hd : ∀ (L : List Int32), (∀ s ∈ L, nV s) → nV (L.headD 0) := by
      intro L hL
      cases L with
      | nil => exact ⟨0, by omega, rfl⟩
      | cons a L => exact hL a List.mem_cons_self
    obtain ⟨m1, m2, m3⟩ := ev1_n hE (y := y) hn
    -- one step, its value being w
    have step : ∀ (w : Int32) (I' : List Nat) (S' : List Int32) (d : Nat), cSt σ p I' S' → fX5_value_3 o a1 a2 (nz rt) 83 84 (nz below) (f + r.length + 1) (nz p) σ = fX5_value_3 o a1 a2 (nz rt) 83 84 (nz below) (f + r.length) (nz (p + 1)) (stI σ 84 p w) → (bl1 p y I).2 = p :: I' → ev1 v cl nu y S = w :: S' → wfy (ev1 v cl nu y S).length r e → (∀ s ∈ ev1 v cl nu y S, nV s) →
        ∃ σ', fX5_value_3 o a1 a2 (nz rt) 83 84 (nz below) (f + (r.length + 1)) (nz p) σ = fX5_value_3 o a1 a2 (nz rt) 83 84 (nz below) f (nz (p + (r.length + 1))) σ' ∧ f84 σ σ' ∧ cSt σ' (p + (r.length + 1)) (bld p (y :: r) I).2 (evl v cl nu (y :: r) S) := by
      intro w I' S' d hS' e1 e2 e3 e4 e5
      have hSn : cSt (stI σ 84 p w) (p + 1) (bl1 p y I).2 (ev1 v cl nu y S) := by rw [e2, e3]; exact cSt_push hS'
      have F := f84_I (σ := σ) (j := p) (v := w)
      obtain ⟨σ', g1, g2, g3⟩ := ih (p + 1) (bl1 p y I).2 (ev1 v cl nu y S) f e (stI σ 84 p w) e4 (by omega) (fun k e hk => by
          obtain ⟨x1, x2, x3⟩ := hAr k e hk
          exact ⟨by rw [F.2 _ _ (by omega)]; exact x1, by rw [F.2 _ _ (by omega)]; exact x2, by rw [F.2 _ _ (by omega)]; exact x3⟩) hSn e5 (fun s hs a h1 h2 h3 => by rw [F.2 _ _ (by omega)]; exact hv s (List.mem_cons_of_mem _ hs) a h1 h2 h3) (fun c a ha => by rw [F.cl ho]; exact hc c a ha) (fun a ha => by rw [F.nu ho]; exact hnu a ha) hx ⟨R, hR1, by rw [F.2 _ _ (by omega)]; exact hR2⟩
      refine ⟨σ', ?_, F.tr g2, ?_⟩
      · rw [show f + (r.length + 1) = f + r.length + 1 by omega, e1, g1, show p + 1 + r.length = p + (r.length + 1) by omega]
      · rw [show p + (r.length + 1) = p + 1 + r.length by omega]; exact g3
    have hu : ∀ X, (ck (inB (nz p) 402) <| ck (inB (nz p) 402) <| ck (inB (nz p) 402) X : Option (Int32 × cS)) = X := fun X => by rw [ck_n (show p < 402 by omega) (by omega), ck_n (show p < 402 by omega) (by omega), ck_n (show p < 402 by omega) (by omega)]
    have hnr : ¬ nz rt < nz p := by rw [nz_lt (by omega) (by omega)]; omega
    have hlt : p < 402 := by omega
    rcases hw with ⟨h1, h2⟩ | ⟨h1, h2, h3⟩ | ⟨h1, h2, h3⟩
    · obtain ⟨l1, l2⟩ := m1 h1
      have hbl : bl1 p y I = ((y.1, y.2, 0), p :: I) := by
        unfold bl1
        rw [if_pos (h1.imp (fun z => z.1) (fun z => z.1))]
      rw [hbl] at A1 A2
      simp only at A1 A2
      rcases h1 with ⟨q1, q2⟩ | ⟨q1, a, q2, q3⟩
      · refine step y.2 I S 0 hS ?_ (by rw [hbl]) (by unfold ev1; rw [if_pos q1]) (by rw [l1]; exact h2) l2
        conv => lhs; unfold fX5_value_3
        rw [if_neg hnr, hu, nz_tn (by omega), A1, if_pos q1, i84 p _ hlt, A2, wI_e, nz_s]
      · refine step (v a) I S 0 hS ?_ (by rw [hbl]) (by unfold ev1; rw [if_neg (by rw [q1]; decide), if_pos q1, q3, nz_tn (by omega)]) (by rw [l1]; exact h2) l2
        conv => lhs; unfold fX5_value_3
        rw [if_neg hnr, hu, nz_tn (by omega), A1, if_neg (by rw [q1]; decide), if_pos q1, A2, q3, i83 a _ q2, i84 p _ hlt, nz_tn (by omega), hv y List.mem_cons_self a q1 q3 q2, wI_e, nz_s]
    · obtain ⟨l1, l2⟩ := m2 h1 h2
      have h1' : y.1 = 2 ∨ y.1 = 33 ∨ y.1 = 91 := h1.imp (fun z => z.1) id
      have hn01 : ¬ (y.1 = 0 ∨ y.1 = 1) := by rcases h1' with q | q | q <;> rw [q] <;> decide
      have hbl : bl1 p y I = ((y.1, nz (I.headD 0), y.2), p :: I.tail) := by
        unfold bl1
        rw [if_neg hn01, if_pos h1']
      rw [hbl] at A1 A2 A3
      simp only at A1 A2 A3
      obtain ⟨k1, k2⟩ := cSt_head hS h2
      have hT := cSt_tail hS
      have hdS := hd S hn
      rcases h1' with q | q | q
      · refine step (cl y.2 (S.headD 0)) I.tail S.tail 0 hT ?_ (by rw [hbl]) (by unfold ev1; rw [if_neg (by rw [q]; decide), if_neg (by rw [q]; decide), if_pos q]) (by rw [l1]; exact h3) l2
        conv => lhs; unfold fX5_value_3
        rw [if_neg hnr, hu, nz_tn (by omega), A1, if_neg (by rw [q]; decide), if_neg (by rw [q]; decide), if_pos q, A2, A3, i84 _ _ (by omega), nz_tn (by omega), k2, cCalled hb hdS, bd_s, hc _ _ hdS, i84 p _ hlt, wI_e, nz_s]
      · refine step (if S.headD 0 = 0 then 1 else 0) I.tail S.tail 0 hT ?_ (by rw [hbl]) (by unfold ev1; rw [if_neg (by rw [q]; decide), if_neg (by rw [q]; decide), if_neg (by rw [q]; decide), if_pos q]) (by rw [l1]; exact h3) l2
        conv => lhs; unfold fX5_value_3
        rw [if_neg hnr, hu, nz_tn (by omega), A1, if_neg (by rw [q]; decide), if_neg (by rw [q]; decide), if_neg (by rw [q]; decide), if_pos q, A2, i84 _ _ (by omega), nz_tn (by omega), k2]
        by_cases hz : S.headD 0 = 0
        · rw [if_pos hz, if_pos hz, i84 p _ hlt, wI_e, nz_s]
        · rw [if_neg hz, if_neg hz, i84 p _ hlt, wI_e, nz_s]
      · refine step (nu (S.headD 0)) I.tail S.tail 0 hT ?_ (by rw [hbl]) (by unfold ev1; rw [if_neg (by rw [q]; decide), if_neg (by rw [q]; decide), if_neg (by rw [q]; decide), if_neg (by rw [q]; decide), if_pos q]) (by rw [l1]; exact h3) l2
        conv => lhs; unfold fX5_value_3
        rw [if_neg hnr, hu, nz_tn (by omega), A1, if_neg (by rw [q]; decide), if_neg (by rw [q]; decide), if_neg (by rw [q]; decide), if_neg (by rw [q]; decide), if_pos q, A2, i84 _ _ (by omega), nz_tn (by omega), k2, cNumb hR1 hR2 hdS, bd_s, hnu _ hdS, i84 p _ hlt, wI_e, nz_s]
    · obtain ⟨l1, l2⟩ := m3 h1 h2
      obtain ⟨n1, n2, n3, n4, n5, -⟩ := lv_ne h1
      have hbl : bl1 p y I = ((y.1, nz (I.tail.headD 0), nz (I.headD 0)), p :: I.tail.tail) := by
        unfold bl1
        rw [if_neg (by rintro (z | z); exact n1 z; exact n2 z), if_neg (by rintro (z | z | z); exact n3 z; exact n4 z; exact n5 z)]
      rw [hbl] at A1 A2 A3
      simp only at A1 A2 A3
      obtain ⟨k1, k2⟩ := cSt_head hS (by omega)
      have hT := cSt_tail hS
      obtain ⟨k3, k4⟩ := cSt_head hT (by rw [List.length_tail]; omega)
      refine step (opv y.1 (S.tail.headD 0) (S.headD 0)) I.tail.tail S.tail.tail 0 (cSt_tail hT) ?_ (by rw [hbl]) (by unfold ev1; rw [if_neg n1, if_neg n2, if_neg n3, if_neg n4, if_neg n5]) (by rw [l1]; exact h3) l2
      conv => lhs; unfold fX5_value_3
      rw [if_neg hnr, hu, nz_tn (by omega), A1, if_neg n1, if_neg n2, if_neg n3, if_neg n4, if_neg n5, ck_n (show p < 402 by omega) (by omega), A2, A3, i84 _ _ (by omega), i84 _ _ (by omega), nz_tn (by omega), nz_tn (by omega), k2, k4, cOp, bd_s, i84 p _ hlt, wI_e, nz_s]
theorem bld_hd (y : List Sy) : ∀ (p : Nat) (I : List Nat), y ≠ [] → (bld p y I).2.headD 0 = p + y.length - 1 := by
  induction y with
  | nil => intro p I h; exact absurd rfl h
  | cons a y ih =>
    intro p I _
    show (bld (p + 1) y (bl1 p a I).2).2.headD 0 = _
    cases y with
    | nil =>
      show (bl1 p a I).2.headD 0 = _
      unfold bl1
      repeat' split
      all_goals rfl
    | cons b y =>
      rw [ih (p + 1) _ (by simp)]
      simp; omega
theorem cp83 : cpLa 83 = (2, 6) := by decide +kernel
theorem cp84 : cpLa 84 = (2, 402) := by decide +kernel
/-- the component's value of a sum -/
theorem cValw {σ : cS} {y : List Sy} {p : Nat} (hb : below ≤ 12) (ho : o + 49 < 84 ∨ 84 < o) (ha : a1 + 3 < 84 ∨ 84 < a1) (ha1 : cpLa a1 = (1, 3)) {v : Nat → Int32} {cl : Int32 → Int32 → Int32} {nu : Int32 → Int32} (hE : gEn v cl nu) (hw : wfy 0 y 1) (hy : y ≠ []) (hp : p + y.length ≤ 402) (hA : cPA σ a1 p (bld p y []).1) (hv : ∀ s ∈ y, ∀ a, s.1 = 1 → s.2 = nz a → a < 6 → σ.1 83 a = v a) (hc : ∀ c a, nV a → cCal σ o below c a = cl c a) (hnu : ∀ a, nV a → cNu σ o a = nu a) (hR : ∃ R, R ≤ 20 ∧ σ.1 o 8 = nz R) :
    ∃ σ', fX5_value o a1 (nz p) (nz (p + y.length - 1)) 83 84 (nz below) σ = some (val v cl nu y, σ') ∧ f84 σ σ' := by
  have hyl : 1 ≤ y.length := by cases y with
    | nil => exact absurd rfl hy
    | cons a y => simp
  obtain ⟨σ', g1, g2, g3⟩ := cVal3 (o := o) (a1 := a1) (below := below) (a2 := nz p) hb ho ha cp83 cp84 hE (rt := p + y.length - 1) (by omega) y p [] [] (FU - y.length) 1 σ hw (by omega) hA ⟨rfl, fun j i s h1 => by simp at h1⟩ (fun s hs => by cases hs) hv hc hnu (fun _ _ => trivial) hR
  refine ⟨σ', ?_, g2⟩
  unfold fX5_value
  rw [ha1, cp83, cp84, ck_t (by decide), ck_t (by decide), ck_t (by decide), show FU = FU - y.length + y.length by unfold FU; omega, g1]
  obtain ⟨f, hf⟩ : ∃ f, FU - y.length = f + 1 := ⟨FU - y.length - 1, by unfold FU; omega⟩
  rw [hf]
  unfold fX5_value_3
  obtain ⟨e1, e2⟩ := evl_n hE y hw (S := []) rfl (fun s hs => by cases hs)
  obtain ⟨k1, k2⟩ := cSt_head g3 (by omega)
  rw [bld_hd y p [] hy] at k2
  rw [if_pos (by rw [nz_lt (by omega) (by omega)]; omega), cp84, ck_n (show p + y.length - 1 < 402 by omega) (by omega), nz_tn (by omega), k2]
  rfl
theorem cVal {σ : cS} {y : List Sy} {p : Nat} (hb : below ≤ 12) (ho : o + 49 < 84 ∨ 84 < o) (ha : a1 + 3 < 84 ∨ 84 < a1) (ha1 : cpLa a1 = (1, 3)) {v : Nat → Int32} {cl : Int32 → Int32 → Int32} {nu : Int32 → Int32} (hE : gEn v cl nu) (hw : wfy 0 y 1) (hy : y ≠ []) (hp : p + y.length ≤ 402) (hA : cPA σ a1 p (bld p y []).1) (hv : ∀ a, a < 6 → σ.1 83 a = v a) (hc : ∀ c a, nV a → cCal σ o below c a = cl c a) (hnu : ∀ a, nV a → cNu σ o a = nu a) (hR : ∃ R, R ≤ 20 ∧ σ.1 o 8 = nz R) :
    ∃ σ', fX5_value o a1 (nz p) (nz (p + y.length - 1)) 83 84 (nz below) σ = some (val v cl nu y, σ') ∧ f84 σ σ' := cValw hb ho ha ha1 hE hw hy hp hA (fun _ _ a _ _ h => hv a h) hc hnu hR
end
