set_option maxRecDepth 100000
/-! ===== THE TWIN's READER: primitives ===== -/
theorem cmp_lt {x y : Int64} : lg_cmp x y < 0 ↔ x < y := by
  unfold lg_cmp
  by_cases h : x > y
  · rw [if_pos h]; exact ⟨fun q => absurd q (by decide), fun q => absurd (Int64.lt_trans h q) Int64.lt_irrefl⟩
  · rw [if_neg h]
    by_cases h2 : x = y
    · rw [if_pos h2, h2]; exact ⟨fun q => absurd q (by decide), fun q => absurd q Int64.lt_irrefl⟩
    · rw [if_neg h2]
      refine ⟨fun _ => ?_, fun _ => by decide⟩
      rcases Int64.lt_or_le x y with q | q
      · exact q
      · rcases Int64.lt_or_eq_of_le q with q | q
        · exact absurd q h
        · exact absurd q.symm h2
theorem cmp_gt {x y : Int64} : 0 < lg_cmp x y ↔ y < x := by
  unfold lg_cmp
  by_cases h : x > y
  · rw [if_pos h]; exact ⟨fun _ => h, fun _ => by decide⟩
  · rw [if_neg h]
    refine ⟨fun q => ?_, fun q => absurd q h⟩
    split at q <;> exact absurd q (by decide)
theorem isIn11 (a lo hi : Int32) (σ : cS) : fX11_isIn a.toInt64 lo.toInt64 hi.toInt64 σ = some (if isI a lo hi = true then 1 else 0, σ) := by
  unfold fX11_isIn isI
  by_cases h1 : a < lo
  · have : ¬ lo ≤ a := fun q => by rw [i32_le] at q; rw [i32_lt] at h1; omega
    rw [if_pos (cmp_lt.mpr (Int32.toInt64_lt.mpr h1))]
    simp [this]
  · have h1' := i32_nlt.mp h1
    rw [if_neg (fun q => h1 (Int32.toInt64_lt.mp (cmp_lt.mp q)))]
    by_cases h2 : hi < a
    · have : ¬ a ≤ hi := fun q => by rw [i32_le] at q; rw [i32_lt] at h2; omega
      rw [if_pos (cmp_gt.mpr (Int32.toInt64_lt.mpr h2))]
      simp [this]
    · have h2' := i32_nlt.mp h2
      rw [if_neg (fun q => h2 (Int32.toInt64_lt.mp (cmp_gt.mp q)))]
      simp [h1', h2']
theorem tFig (a : Int32) (σ : cS) : fX11_isFigure a σ = some (if isI a 48 57 = true then 1 else 0, σ) := by
  unfold fX11_isFigure
  rw [show (48 : Int64) = (48 : Int32).toInt64 by decide, show (57 : Int64) = (57 : Int32).toInt64 by decide, isIn11, bd_s, ck_t]
  cases isI a 48 57 <;> decide
theorem tVar (a : Int32) (σ : cS) : fX11_isVar a σ = some (if isI a 97 102 = true then 1 else 0, σ) := by
  unfold fX11_isVar
  rw [show (97 : Int64) = (97 : Int32).toInt64 by decide, show (102 : Int64) = (102 : Int32).toInt64 by decide, isIn11, bd_s, ck_t]
  cases isI a 97 102 <;> decide
theorem tNam (a : Int32) (σ : cS) : fX11_isName a σ = some (if isI a 65 90 = true then 1 else 0, σ) := by
  unfold fX11_isName
  rw [show (65 : Int64) = (65 : Int32).toInt64 by decide, show (90 : Int64) = (90 : Int32).toInt64 by decide, isIn11, bd_s, ck_t]
  cases isI a 65 90 <;> decide
theorem tTim (c : Int32) (σ : cS) : fX11_isTimes c σ = some (if lvC c = 2 then 1 else 0, σ) := by
  unfold fX11_isTimes
  rcases lvC_cases c with ⟨e, h1, h2, h3, h4, h5, h6, h7⟩ | ⟨e, h⟩ | ⟨e, h⟩ | ⟨e, h⟩
  · rw [if_neg h2, if_neg h5, if_neg h1, e]; rfl
  · rcases h with rfl | rfl <;> rfl
  · rcases h with rfl | rfl <;> rfl
  · rcases h with rfl | rfl | rfl <;> rfl
theorem tPlu (c : Int32) (σ : cS) : fX11_isPlus c σ = some (if lvC c = 1 then 1 else 0, σ) := by
  unfold fX11_isPlus
  rcases lvC_cases c with ⟨e, h1, h2, h3, h4, h5, h6, h7⟩ | ⟨e, h⟩ | ⟨e, h⟩ | ⟨e, h⟩
  · rw [if_neg h3, if_neg h4, e]; rfl
  · rcases h with rfl | rfl <;> rfl
  · rcases h with rfl | rfl <;> rfl
  · rcases h with rfl | rfl | rfl <;> rfl
theorem tCom (c : Int32) (σ : cS) : fX11_isCompare c σ = some (if lvC c = 0 then 1 else 0, σ) := by
  unfold fX11_isCompare
  rcases lvC_cases c with ⟨e, h1, h2, h3, h4, h5, h6, h7⟩ | ⟨e, h⟩ | ⟨e, h⟩ | ⟨e, h⟩
  · rw [if_neg h6, if_neg h7, e]; rfl
  · rcases h with rfl | rfl <;> rfl
  · rcases h with rfl | rfl <;> rfl
  · rcases h with rfl | rfl | rfl <;> rfl
def mkB (c : Int32) : Bool := decide (c = 40) || decide (c = 91) || decide (c = 78)
theorem tMrk (c : Int32) (σ : cS) : fX11_isMark c σ = some (if mkB c = true then 1 else 0, σ) := by
  unfold fX11_isMark mkB
  by_cases h1 : c = 40
  · simp [h1]
  by_cases h2 : c = 91
  · simp [h2]
  by_cases h3 : c = 78
  · simp [h3]
  simp [h1, h2, h3]
/-- the text that is read: at tk, n signs -/
def tTx (σ : cS) (tk n : Nat) (tx : Nat → Int32) : Prop := σ.2.2 0 4 = some tk ∧ twLa tk = (2, 1000) ∧ tk ≠ 0 ∧ (tk = 1 ∨ 22 < tk) ∧ σ.1 0 5 = nz n ∧ n ≤ 600 ∧ ∀ k, k < n → σ.1 tk k = tx k ∧ sgn (tx k)
theorem tTx.at {σ : cS} {tk n : Nat} {tx : Nat → Int32} (h : tTx σ tk n tx) (v : Int32) : tTx (stI σ 0 6 v) tk n tx := by
  obtain ⟨h1, h2, h0, hk, h3, h4, h5⟩ := h
  refine ⟨h1, h2, h0, hk, by simpa [gI] using h3, h4, fun k hk => ?_⟩
  simpa [gI, h0] using h5 k hk
theorem tLook52 {σ : cS} {tk n : Nat} {tx : Nat → Int32} {i : Nat} (h : tTx σ tk n tx) (hi : σ.1 0 6 = nz i) (hn : i ≤ n) (hb : ¬ (i < n ∧ bl (tx i) = true)) : fX11_look_52 σ = some (pk n tx i, stI σ 0 6 (nz (sk n tx i))) := by
  obtain ⟨h1, h2, h0, -, h3, h4, h5⟩ := h
  unfold fX11_look_52 pk
  rw [sk_nb hb, stI_self hi, h3, hi]
  by_cases hlt : i < n
  · rw [if_neg (by rw [nz_le (by omega) (by omega)]; omega), rR_e h1, h2, ck_d rfl, ck_n (by omega) (by omega), nz_tn (by omega), (h5 i hlt).1, if_pos hlt]
  · rw [if_pos (by rw [nz_le (by omega) (by omega)]; omega), if_neg hlt]
theorem tLook0 {tk n : Nat} {tx : Nat → Int32} : ∀ (k i : Nat) (σ : cS), tTx σ tk n tx → σ.1 0 6 = nz i → i ≤ n → n - i < k → fX11_look_0 k σ = some (pk n tx i, stI σ 0 6 (nz (sk n tx i))) := by
  intro k
  induction k with
  | zero => intro i σ _ _ _ h; omega
  | succ k ih =>
    intro i σ h hi hn hk
    have h0 := h
    obtain ⟨h1, h2, hz, -, h3, h4, h5⟩ := h
    unfold fX11_look_0
    by_cases hlt : i < n
    · have step : bl (tx i) = true → fX11_look_0 k (stI σ 0 6 (nz (i + 1))) = some (pk n tx i, stI σ 0 6 (nz (sk n tx i))) := by
        intro hb
        rw [ih (i + 1) (stI σ 0 6 (nz (i + 1))) (h0.at _) (by simp [gI]) (by omega) (by omega), stI_stI]
        unfold pk
        rw [sk_bl hlt hb]
      rw [h3, hi, if_neg (by rw [nz_le (by omega) (by omega)]; omega), rR_e h1, h2, ck_d rfl, ck_n (by omega) (by omega), nz_tn (by omega), (h5 i hlt).1, nz_s, wI_e]
      by_cases c1 : tx i = 32
      · rw [if_pos c1]
        exact step (by simp [bl, c1])
      · rw [if_neg c1, rR_e h1, h2, ck_d rfl, ck_n (by omega) (by omega), (h5 i hlt).1]
        by_cases c2 : tx i = 10
        · rw [if_pos c2]
          exact step (by simp [bl, c2])
        · rw [if_neg c2]
          exact tLook52 h0 hi hn (by simp [bl, c1, c2])
    · rw [h3, hi, if_pos (by rw [nz_le (by omega) (by omega)]; omega)]
      exact tLook52 h0 hi hn (fun q => hlt q.1)
theorem tLook {σ : cS} {tk n : Nat} {tx : Nat → Int32} {i : Nat} (h : tTx σ tk n tx) (hi : σ.1 0 6 = nz i) (hn : i ≤ n) : fX11_look σ = some (pk n tx i, stI σ 0 6 (nz (sk n tx i))) := by
  have := h.2.2.2.2.2.1
  exact tLook0 FU i σ h hi hn (by unfold FU; omega)
theorem tStops {σ : cS} {i : Nat} (h : σ.1 0 7 = -1) (hi : σ.1 0 6 = nz i) : fX11_stops σ = some (0, stI σ 0 7 (nz i)) := by
  unfold fX11_stops
  rw [h, if_neg (by decide), wI_e, hi]
theorem tBlame {σ : cS} {n : Nat} {w : Option Nat} {q : Nat} (hw : σ.1 0 8 = ow w) (hg : wG n w) (hn : n ≤ 600) (hq : q ≤ 1000) : fX11_blame (nz q) σ = some ((), stI σ 0 8 (ow (nt w q))) := by
  unfold fX11_blame
  cases w with
  | none =>
    have hw' : σ.1 0 8 = -1 := hw
    rw [hw', if_pos (by decide)]; rfl
  | some x =>
    have hx := hg x rfl
    have hw' : σ.1 0 8 = nz x := hw
    rw [hw', if_neg (nz_ge0 (by omega))]
    by_cases hlt : q < x
    · rw [if_neg (by rw [nz_le (by omega) (by omega)]; omega)]
      show some ((), stI σ 0 8 (nz q)) = some ((), stI σ 0 8 (ow (if q < x then some q else some x)))
      rw [if_pos hlt]; rfl
    · rw [if_pos (by rw [nz_le (by omega) (by omega)]; omega)]
      show some ((), σ) = some ((), stI σ 0 8 (ow (if q < x then some q else some x)))
      rw [if_neg hlt, stI_self hw]
/-- an order is put -/
def stO (σ : cS) (o : Nat) (a b : Int32) : cS := stI (stI (stI σ 2 o a) 3 o b) 0 11 (nz (o + 1))
theorem tPut {σ : cS} {o : Nat} {a b : Int32} (h : σ.1 0 11 = nz o) (ho : o < 12000) : fX11_put a b σ = some ((), stO σ o a b) := by
  unfold fX11_put
  rw [h, ck_n ho (by omega), nz_tn (by omega), wI_e]
  have e1 : (stI σ 2 o a).1 0 11 = nz o := by simp [gI, h]
  rw [e1, ck_n ho (by omega), nz_tn (by omega), wI_e]
  have e2 : (stI (stI σ 2 o a) 3 o b).1 0 11 = nz o := by simp [gI, h]
  rw [e2, nz_s]
  rfl
theorem tPop {σ : cS} {o p : Nat} {c : Int32} (h : σ.1 0 11 = nz o) (ho : o < 12000) (hp : σ.1 0 16 = nz (p + 1)) (hp2 : p < 1200) (hc : σ.1 4 p = c) : fX11_pop σ = some ((), stO (stI σ 0 16 (nz p)) o c 0) := by
  unfold fX11_pop
  rw [hp, nz_ps, wI_e]
  have e1 : (stI σ 0 16 (nz p)).1 0 16 = nz p := by simp [gI]
  have e2 : (stI σ 0 16 (nz p)).1 4 p = c := by simp [gI, hc]
  rw [e1, ck_n hp2 (by omega), nz_tn (by omega), e2, tPut (o := o) (by simp [gI, h]) ho, bd_s]
