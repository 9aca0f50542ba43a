set_option maxRecDepth 100000
/-! ===== THE TWIN READS STATEMENTS: heads, blocks ===== -/
theorem posn_cons {o cb k : Nat} {c : Cd} {D : List Cd} (h : cb + 1 ≤ k) : posn o cb (c :: D) k = posn (o + osz c) (cb + 1) D k := by
  unfold posn
  obtain ⟨x, hx⟩ : ∃ x, k - cb = x + 1 := ⟨k - cb - 1, by omega⟩
  rw [hx, List.take_succ_cons, show k - (cb + 1) = x by omega]
  simp only [osum]; omega
theorem posn_le {o cb k : Nat} {C D : List Cd} (h : k ≤ cb + C.length) : posn o cb (C ++ D) k = posn o cb C k := by
  unfold posn
  rw [List.take_append_of_le_length (by omega)]
theorem posn_end {o cb : Nat} {C : List Cd} : posn o cb C (cb + C.length) = o + osum C := by
  unfold posn
  rw [show cb + C.length - cb = C.length by omega, List.take_length]
theorem posn_st {o cb : Nat} {C : List Cd} : posn o cb C cb = o := by
  unfold posn
  rw [Nat.sub_self]; rfl
theorem GJ_goal {cb x : Nat} {C : List Cd} {c : Cd} (h : GJ cb C) (hx : C[x]? = some c) (hk : c.1 = 4 ∨ c.1 = 5) : ∃ gl, c.2.2.2.2.2 = nz gl ∧ cb ≤ gl ∧ gl ≤ cb + C.length := by
  have hxl := (List.getElem?_eq_some_iff.mp hx).1
  rcases hk with h4 | h5
  · obtain ⟨gl, g1, g2, g3⟩ := (h x c hx).1 h4; exact ⟨gl, g1, by omega, g3⟩
  · obtain ⟨gl, g1, g2⟩ := (h x c hx).2 h5
    rcases g2 with ⟨g2, g3⟩ | ⟨g2, g3, -⟩
    · exact ⟨gl, g1, by omega, g3⟩
    · exact ⟨gl, g1, g2, by omega⟩
/-- code within other code: its orders are its own -/
theorem cmpl_CM {tr : Sy → Int32 × Int32} {q : Nat → Nat} {o cb dm : Nat} {C : List Cd} (h : GJ cb C) (hv : ∀ c ∈ C, cdV c) (hl : cb + C.length < 100000) (hq : ∀ k, cb ≤ k → k ≤ cb + C.length → q k = posn o cb C k) : cmpl tr q dm C = CM tr o cb dm C := by
  refine cmpl_eq C dm (fun c hc hk => ?_) hv
  obtain ⟨x, hx⟩ := List.getElem?_of_mem hc
  obtain ⟨gl, g1, g2, g3⟩ := GJ_goal h hx hk
  rw [g1, nz_tn (by omega)]
  exact hq gl g2 g3
theorem tOA_set {σ : cS} {p : Nat} {A D : List (Int32 × Int32)} {a b v : Int32} (h : tOA σ p (A ++ (a, b) :: D)) : tOA (stI σ 3 (p + A.length) v) p (A ++ (a, v) :: D) := by
  intro k e hk
  rw [gI, if_neg (by decide), gI, if_pos rfl]
  by_cases hka : k = A.length
  · subst hka
    rw [List.getElem?_append_right (Nat.le_refl _)] at hk
    simp at hk
    subst hk
    have := h A.length (a, b) (by rw [List.getElem?_append_right (Nat.le_refl _)]; simp)
    rw [if_pos rfl]
    exact ⟨this.1, rfl⟩
  · rw [if_neg (by omega)]
    refine h k e ?_
    by_cases hl : k < A.length
    · rw [List.getElem?_append_left hl] at hk ⊢; exact hk
    · rw [List.getElem?_append_right (by omega)] at hk ⊢
      obtain ⟨z, hz⟩ : ∃ z, k - A.length = z + 1 := ⟨k - A.length - 1, by omega⟩
      rw [hz] at hk ⊢
      simpa using hk
section
variable {tk n : Nat} {tx : Nat → Int32} {nm : Nat → Int32} {nF B : Nat} {sz : Int32} {a1 : Nat}
theorem rM_0 (f : Nat) (x : Int32) (σ : cS) : fX11_readModel_31 a1 sz (f + 1) 0 x σ = bd (fX11_put 15 0 σ) fun _ σ1 => bd (fX11_isWell σ1) fun r4 σ3 => ck (bz r4) <| some (r4, σ3) := by
  conv => lhs; unfold fX11_readModel_31
  rw [if_pos rfl]
theorem rM_g (f : Nat) (σ : cS) : fX11_readModel_31 a1 sz (f + 1) 1 0 σ = bd (fX11_put 15 0 σ) fun _ σ1 => bd (fX11_isWell σ1) fun r4 σ3 => ck (bz r4) <| some (r4, σ3) := by
  conv => lhs; unfold fX11_readModel_31
  rw [if_neg (by decide), if_pos rfl]
/-- a statement comes -/
theorem rM_st {σ : cS} {i : Nat} {w : Option Nat} {o g b st nc dm : Nat} {ch : List Int32} (f : Nat) (T : tTx σ tk n tx) (M : tMS σ i w o g b st nc dm ch) (hi : i ≤ n) (hb : b ≤ 1000) (hst : st ≤ 1000) (h125 : pk n tx i = 125 → b = 0) (hm1 : pk n tx i = -1 → b ≠ 0 ∨ st = 0) :
    fX11_readModel_31 a1 sz (f + 1) 1 1 σ = bd (fX11_readStatement (pk n tx i) (stI σ 0 6 (nz (sk n tx i)))) fun r σ1 => fX11_readModel_31 a1 sz f r 1 σ1 := by
  have M1 := M.go (sk n tx i)
  conv => lhs; unfold fX11_readModel_31
  rw [if_neg (by decide), if_neg (by decide), tLook T M.B.at hi, bd_s]
  have h68 : fX11_readModel_68 a1 sz (fX11_readModel_31 a1 sz f) 1 1 (pk n tx i) (stI σ 0 6 (nz (sk n tx i))) = bd (fX11_readStatement (pk n tx i) (stI σ 0 6 (nz (sk n tx i)))) fun r σ1 => fX11_readModel_31 a1 sz f r 1 σ1 := by
    unfold fX11_readModel_68
    rw [M1.bk, M1.sm]
    by_cases h0 : 0 ≤ pk n tx i
    · rw [if_pos h0]
    · rw [if_neg h0]
      have hpk : pk n tx i = -1 := by
        by_cases hq : pk n tx i = -1
        · exact hq
        · obtain ⟨h1, h2⟩ := pkc_ne hq
          obtain ⟨a, ha, ea⟩ := (T.2.2.2.2.2.2 _ h1).2
          rw [← h2, ea] at h0
          exact absurd (nz_0le (by omega)) h0
      rcases hm1 hpk with q | q
      · rw [if_neg (by rw [show (0 : Int32) = nz 0 from rfl, nz_inj (by omega) (by omega)]; exact q)]
      · by_cases hb0 : nz b = 0
        · rw [if_pos hb0, if_pos (by rw [q]; decide)]
        · rw [if_neg hb0]
  rw [h68, M1.bk]
  by_cases hc : pk n tx i = 125
  · rw [if_pos hc, if_pos (by rw [h125 hc]; decide)]
  · rw [if_neg hc]
/-- a block ends -/
theorem rM_cl {σ : cS} {i : Nat} {w : Option Nat} {o g b st nc dm : Nat} {ch : List Int32} (f : Nat) (T : tTx σ tk n tx) (M : tMS σ i w o g (b + 1) st nc dm ch) (hi : i ≤ n) (hb : b ≤ 1000) (h125 : pk n tx i = 125) :
    fX11_readModel_31 a1 sz (f + 1) 1 1 σ = bd (fX11_closeBlock (stI σ 0 6 (nz (sk n tx i)))) fun r σ1 => fX11_readModel_31 a1 sz f r 1 σ1 := by
  have M1 := M.go (sk n tx i)
  conv => lhs; unfold fX11_readModel_31
  rw [if_neg (by decide), if_neg (by decide), tLook T M.B.at hi, bd_s, if_pos h125, M1.bk, if_neg (by rw [nz_le0 (by omega)]; omega)]
/-- a block is opened -/
def bW (b : Nat) (w : Option Nat) (i : Nat) : Prop := 6 ≤ b → ∃ f, w = some f ∧ f ≤ i
theorem bW_go {b i pl : Nat} {w : Option Nat} (h : bW b w i) (hi : i ≤ pl) : (if b = 5 then nt w pl else w) = ntb (decide (5 ≤ b)) w pl ∧ bW (b + 1) (ntb (decide (5 ≤ b)) w pl) pl := by
  by_cases h8 : b = 5
  · subst h8
    refine ⟨by simp [ntb], fun _ => ?_⟩
    simp only [ntb, Nat.le_refl, decide_true, if_true]
    exact nt_le
  · by_cases h9 : 6 ≤ b
    · obtain ⟨f, rfl, hf⟩ := h h9
      have e : nt (some f) pl = some f := by simp [nt]; intro q; omega
      have e2 : ntb (decide (5 ≤ b)) (some f) pl = some f := by unfold ntb; rw [if_pos (by simp; omega)]; exact e
      rw [e2, if_neg (by omega)]
      exact ⟨rfl, fun _ => ⟨f, rfl, by omega⟩⟩
    · have e2 : ntb (decide (5 ≤ b)) w pl = w := by unfold ntb; rw [if_neg (by simp; omega)]
      rw [e2, if_neg (by omega)]
      exact ⟨rfl, fun q => by omega⟩
theorem bW_m {b i j : Nat} {w w' : Option Nat} (h : bW b w i) (hw : wM w w') (hj : i ≤ j) : bW b w' j := fun q => by
  obtain ⟨f, h1, h2⟩ := h q
  obtain ⟨f', h3, h4⟩ := hw f h1
  exact ⟨f', h3, by omega⟩
theorem tMS.sBk {σ : cS} {i : Nat} {w : Option Nat} {o g b st nc dm : Nat} {ch : List Int32} (h : tMS σ i w o g b st nc dm ch) (b' : Nat) : tMS (stI σ 0 41 (nz b')) i w o g b' st nc dm ch := by
  refine ⟨h.B.oth (by omega), by simp [gI], by simpa [gI] using h.sm, by simpa [gI] using h.nch, by simpa [gI] using h.ndm, h.c3p, fun k hk => by simpa [gI] using h.cv k hk⟩
theorem tMS.sSt {σ : cS} {i : Nat} {w : Option Nat} {o g b st nc dm : Nat} {ch : List Int32} (h : tMS σ i w o g b st nc dm ch) (s' : Nat) : tMS (stI σ 0 42 (nz s')) i w o g b s' nc dm ch := by
  refine ⟨h.B.oth (by omega), by simpa [gI] using h.bk, by simp [gI], by simpa [gI] using h.nch, by simpa [gI] using h.ndm, h.c3p, fun k hk => by simpa [gI] using h.cv k hk⟩
theorem tOpenBl {σ : cS} {i : Nat} {w : Option Nat} {o g b st nc dm : Nat} {ch : List Int32} (so be ho : Int32) (T : tTx σ tk n tx) (M : tMS σ i w o g b st nc dm ch) (hi : i ≤ n) (hb : b < 400) (hwg : wG n w) (hW : bW b w i) :
    (∃ e, pTk n tx 123 i = .error e ∧ fX11_openBlock so be ho σ = some (0, stI (stI σ 0 6 (nz e)) 0 7 (nz e))) ∨
    (∃ j, pTk n tx 123 i = .ok j ∧ ∃ σ', fX11_openBlock so be ho σ = some (1, σ') ∧ tMS σ' j (ntb (decide (5 ≤ b)) w (j - 1)) o g (b + 1) st nc dm ch ∧ (∀ x y z t, tMF x y b z t σ σ') ∧ σ'.1 18 b = so ∧ σ'.1 19 b = be ∧ σ'.1 20 b = ho ∧ bW (b + 1) (ntb (decide (5 ≤ b)) w (j - 1)) j) := by
  have hn6 : n ≤ 600 := T.2.2.2.2.2.1
  have hsg := sk_ge (n := n) (tx := tx) i
  unfold fX11_openBlock pTk
  rw [tLook T M.B.at hi, bd_s]
  have M1 := M.go (sk n tx i)
  by_cases hc : pk n tx i = 123
  · obtain ⟨hlt, etx⟩ := pkc_lt hc (by decide)
    rw [if_pos hc, if_pos hc, M1.bk, M1.B.at, show (5 : Int32) = nz 5 from rfl]
    refine Or.inr ⟨_, rfl, ?_⟩
    rw [Nat.add_sub_cancel]
    have hgo := bW_go hW hsg
    have fin : ∀ (σ2 : cS) (w' : Option Nat), tMS σ2 (sk n tx i) w' o g b st nc dm ch → (∀ x y z t u, tMF x y z t u σ σ2) → bW (b + 1) w' (sk n tx i) → ∃ σ', fX11_openBlock_30 so be ho σ2 = some (1, σ') ∧ tMS σ' (sk n tx i + 1) w' o g (b + 1) st nc dm ch ∧ (∀ x y z t, tMF x y b z t σ σ') ∧ σ'.1 18 b = so ∧ σ'.1 19 b = be ∧ σ'.1 20 b = ho ∧ bW (b + 1) w' (sk n tx i + 1) := by
      intro σ2 w' M2 F2 hW2
      unfold fX11_openBlock_30
      have M3 := M2.go (sk n tx i + 1)
      have M4 := M3.oth (a := 18) (j := b) (v := so) (Or.inl ⟨by decide, by decide⟩)
      have M5 := M4.oth (a := 19) (j := b) (v := be) (Or.inl ⟨by decide, by decide⟩)
      have M6 := M5.oth (a := 20) (j := b) (v := ho) (Or.inl ⟨by decide, by decide⟩)
      rw [wI_e, M2.B.at, nz_s, M3.bk, ck_n hb (by omega), nz_tn (by omega), wI_e, M4.bk, ck_n hb (by omega), nz_tn (by omega), wI_e, M5.bk, ck_n hb (by omega), nz_tn (by omega), wI_e, wI_e, M6.bk, nz_s]
      refine ⟨_, rfl, M6.sBk _, fun x y z t => (((((F2 x y b z t).tq (tMF_I (by omega))).tq (tMF_I (by omega))).tq (tMF_I (by omega))).tq (tMF_I (by omega))).tq (tMF_I (by omega)), by simp [gI], by simp [gI], by simp [gI], fun q => ?_⟩
      obtain ⟨f, h1, h2⟩ := hW2 q
      exact ⟨f, h1, by omega⟩
    by_cases h5 : b = 5
    · rw [if_pos h5] at hgo
      rw [if_pos (by rw [h5]), tBlame M1.B.fa hwg hn6 (by omega), bd_s, hgo.1]
      exact fin _ _ (M1.sFa _ (fun q => (ntb_none q).1)) (fun x y z t u => (tMF_I (by omega)).tq (tMF_I (by omega))) hgo.2
    · rw [if_neg h5] at hgo
      rw [if_neg (by rw [nz_inj (by omega) (by omega)]; exact h5), ← hgo.1]
      rw [← hgo.1] at hgo
      exact fin _ _ M1 (fun x y z t u => tMF_I (by omega)) hgo.2
  · rw [if_neg hc, if_neg hc, tStops M1.B.wr M1.B.at, bd_s, ck_t (by decide)]
    exact Or.inl ⟨_, rfl, rfl⟩
end
