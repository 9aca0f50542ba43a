set_option maxRecDepth 100000
theorem tSign {σ : cS} {i : Nat} {w : Option Nat} {o p0 d : Nat} {cm : Int32} {g m : Nat} {ls jc c : Int32} {Q : List Int32} (h : tE σ i w o (p0 + Q.length) d cm g (m + 1) ls jc) (hm : m < 1200) (hp : p0 + Q.length < 1200) (ho : o + Q.length ≤ 12000) (hs : lvC c = 0 ∨ lvC c = 1 ∨ lvC c = 2) (hcm : cm = 0 ∨ cm = 1) (ha : lvC c = 0 → cm = 0)
    (hQ : tPQ σ p0 Q) (hall : ∀ x ∈ Q, stl (if lvC c = 2 then 2 else 1) x = true) (hbot : p0 = 0 ∨ stl (if lvC c = 2 then 2 else 1) (σ.1 4 (p0 - 1)) = false) :
    ∃ σ', fX11_readSign c σ = some ((), σ') ∧ tE σ' (i + 1) w (o + Q.length) (p0 + 1) d (if lvC c = 0 then 1 else cm) g (m + 1) c jc ∧ (∀ b, tEF o p0 b m σ σ') ∧ tOA σ' o (Q.reverse.map opO) ∧ σ'.1 4 p0 = c ∧ σ'.1 13 m = (if σ.1 13 m ≤ lvC c then σ.1 13 m else lvC c) ∧ σ'.1 14 m = σ.1 14 m ∧ σ'.1 12 m = σ.1 12 m := by
  have e0 : fX11_readSign c σ = bd (fX11_lower (lvC c) σ) fun _ σ5 => fX11_readSign_40 c (if lvC c = 2 then 2 else 1) σ5 := by
    unfold fX11_readSign
    rw [tTim, bd_s, i10, tPlu, bd_s, i10]
    rcases hs with e | e | e
    · rw [e, if_neg (by decide), if_neg (by decide), if_neg (by decide)]
      congr 1; funext _ σ5
      rw [tTim, bd_s, i10, e, if_neg (by decide)]
    · rw [e, if_neg (by decide), if_pos rfl, if_neg (by decide)]
      congr 1; funext _ σ5
      rw [tTim, bd_s, i10, e, if_neg (by decide)]
    · rw [e, if_pos rfl, if_pos rfl]
      congr 1; funext _ σ5
      rw [tTim, bd_s, i10, e, if_pos rfl]
  obtain ⟨σ1, k1, h1, F1, k4, k5⟩ := tLower (lvC c) h hm
  rw [e0, k1, bd_s]
  have hx : (if lvC c = 2 then (2 : Int32) else 1) = 0 ∨ (if lvC c = 2 then (2 : Int32) else 1) = 1 ∨ (if lvC c = 2 then (2 : Int32) else 1) = 2 := by
    split
    · exact Or.inr (Or.inr rfl)
    · exact Or.inr (Or.inl rfl)
  obtain ⟨σ2, m1, F2, m3, m4, m5⟩ := tSettle hx Q.length Q FU o σ1 rfl (by unfold FU; omega) h1.pl (by omega) h1.od ho (fun k x hk => by rw [k5 _ _ (by decide)]; exact hQ k x hk) hall (by rw [k5 _ _ (by decide)]; exact hbot)
  have h2 := tE_pop h1 F2 m3 m4
  unfold fX11_readSign_40
  rw [show fX11_settle (if lvC c = 2 then 2 else 1) σ1 = some ((), σ2) from m1, bd_s, h2.cmp]
  have key : ∀ y0 : Int32, y0 = 0 ∨ y0 = 1 → ∃ σ', fX11_readSign_63 c y0 σ2 = some ((), σ') ∧ tE σ' (i + 1) w (o + Q.length) (p0 + 1) d y0 g (m + 1) c jc ∧ (∀ b, tEF o p0 b m σ2 σ') ∧ (∀ x y, x ≠ 0 → x ≠ 4 → σ'.1 x y = σ2.1 x y) ∧ σ'.1 4 p0 = c := by
    intro y0 hy
    unfold fX11_readSign_63
    have h3 := h2.sCm y0
    have h4 := h3.arr (a := 4) (b := p0) (v := c) (by decide)
    have h5 := h4.sPl (p0 + 1)
    have h6 := h5.go (i + 1)
    rw [ck_t (show bz y0 = true by rcases hy with rfl | rfl <;> decide), wI_e, h3.pl, ck_n (by omega) (by omega), nz_tn (by omega), wI_e, wI_e, h4.pl, nz_s, wI_e, h5.at, nz_s, wI_e]
    refine ⟨_, rfl, h6.sLs c, fun b => ((((tEF_I (by omega)).tq (tEF_I (by omega))).tq (tEF_I (by omega))).tq (tEF_I (by omega))).tq (tEF_I (by omega)), fun x y hx hx4 => by simp [gI, hx, hx4], by simp [gI]⟩
  have fin : ∀ σ', (∀ b, tEF o p0 b m σ2 σ') → (∀ x y, x ≠ 0 → x ≠ 4 → σ'.1 x y = σ2.1 x y) → σ'.1 4 p0 = c → (∀ b, tEF o p0 b m σ σ') ∧ tOA σ' o (Q.reverse.map opO) ∧ σ'.1 4 p0 = c ∧ σ'.1 13 m = (if σ.1 13 m ≤ lvC c then σ.1 13 m else lvC c) ∧ σ'.1 14 m = σ.1 14 m ∧ σ'.1 12 m = σ.1 12 m := by
    intro σ' hF hx h4
    refine ⟨fun b => ((F1 o p0 b).tq F2.E).tq (hF b), ?_, h4, ?_, ?_, ?_⟩
    · intro k e hk
      rw [hx _ _ (by decide) (by decide), hx _ _ (by decide) (by decide)]; exact m5 k e hk
    · rw [hx _ _ (by decide) (by decide), F2.2.1 _ _ (by decide) (by decide) (by decide)]; exact k4
    · rw [hx _ _ (by decide) (by decide), F2.2.1 _ _ (by decide) (by decide) (by decide)]; exact k5 _ _ (by decide)
    · rw [hx _ _ (by decide) (by decide), F2.2.1 _ _ (by decide) (by decide) (by decide)]; exact k5 _ _ (by decide)
  by_cases hc : cm = 0
  · rw [if_pos hc, tCom, bd_s, i10]
    by_cases hl : lvC c = 0
    · rw [if_pos hl, if_pos hl]
      obtain ⟨σ', q1, q2, q3, q4, q5⟩ := key 1 (Or.inr rfl)
      exact ⟨σ', q1, q2, fin σ' q3 q4 q5⟩
    · rw [if_neg hl, if_neg hl, hc]
      obtain ⟨σ', q1, q2, q3, q4, q5⟩ := key 0 (Or.inl rfl)
      exact ⟨σ', q1, q2, fin σ' q3 q4 q5⟩
  · have hl : lvC c ≠ 0 := fun q => hc (ha q)
    have hc1 : cm = 1 := by
      rcases hcm with q | q
      · exact absurd q hc
      · exact q
    rw [if_neg hc, if_neg hl, hc1]
    obtain ⟨σ', q1, q2, q3, q4, q5⟩ := key 1 (Or.inr rfl)
    exact ⟨σ', q1, q2, fin σ' q3 q4 q5⟩
/-- functions that a name may be: the first nF -/
def tRs (σ : cS) (nF : Nat) : Prop := nF ≤ 400 ∧ ((σ.1 0 19 = -1 ∧ σ.1 0 37 = nz nF) ∨ σ.1 0 19 = nz nF)
theorem tRs24 {σ : cS} {a : Int32} {nF : Nat} (hF : nF ≤ 400) : ∀ (f k : Nat) (x3 : Int32), k ≤ nF → nF - k < f → (x3 = -1 ∨ 0 ≤ x3) → fX11_resolve_24 a f (nz nF) x3 (nz k) σ = some (if 0 ≤ x3 then x3 else ow (fr1 (σ.1 15) a (nF - k) k), σ) := by
  intro f
  induction f with
  | zero => intro k x3 _ h; omega
  | succ f ih =>
    intro k x3 hk hf hx
    unfold fX11_resolve_24
    by_cases hlt : k < nF
    · obtain ⟨r, hr⟩ : ∃ r, nF - k = r + 1 := ⟨nF - k - 1, by omega⟩
      rw [if_neg (by rw [nz_le (by omega) (by omega)]; omega), ck_n (by omega) (by omega), nz_tn (by omega), nz_s, hr]
      have e1 := ih (k + 1) x3 (by omega) (by omega) hx
      have e2 := ih (k + 1) (nz k) (by omega) (by omega) (Or.inr (nz_0le (by omega)))
      rw [if_pos (nz_0le (by omega))] at e2
      rw [show nF - (k + 1) = r by omega] at e1
      unfold fr1
      by_cases hc : σ.1 15 k = a
      · rw [if_pos hc, if_pos hc]
        by_cases h0 : 0 ≤ x3
        · rw [if_pos h0, e1, if_pos h0, if_pos h0]
        · rw [if_neg h0, e2, if_neg h0]; rfl
      · rw [if_neg hc, if_neg hc, e1]
    · rw [if_pos (by rw [nz_le (by omega) (by omega)]; omega), show nF - k = 0 by omega]
      rcases hx with rfl | h
      · rfl
      · rw [if_pos h]
theorem tResolve {σ : cS} {nF : Nat} {a : Int32} (h : tRs σ nF) : fX11_resolve a σ = some (ow (fr1 (σ.1 15) a nF 0), σ) := by
  obtain ⟨hF, h⟩ := h
  unfold fX11_resolve
  have key := tRs24 (σ := σ) (a := a) hF FU 0 (-1) (by omega) (by unfold FU; omega) (Or.inl rfl)
  rw [if_neg (by decide), Nat.sub_zero] at key
  rcases h with ⟨h1, h2⟩ | h1
  · rw [h1, if_pos (by decide), h2]; exact key
  · rw [h1, if_neg (nz_ge0 (by omega))]; exact key
theorem st4 {σ : cS} {a b c d : Int32} : stI (stI (stI (stI σ 0 6 a) 0 12 b) 0 12 c) 0 6 d = stI (stI σ 0 6 d) 0 12 c := by
  apply Prod.ext
  · funext x y
    simp only [gI]
    by_cases hx : x = 0
    · by_cases h6 : y = 6
      · simp [hx, h6]
      · by_cases h12 : y = 12
        · simp [hx, h12]
        · simp [hx, h6, h12]
    · simp [hx]
  · rfl
theorem tTakeN {σ : cS} {tk n : Nat} {tx : Nat → Int32} {i : Nat} (h : tTx σ tk n tx) (hi : σ.1 0 6 = nz i) (hn : i ≤ n) (hc : isI (pk n tx i) 48 57 = true) : fX11_takeNumber σ = some (1, stI (stI σ 0 6 (nz (pNm n tx (sk n tx i)).1)) 0 12 (pNm n tx (sk n tx i)).2.2) := by
  obtain ⟨a, ha, ea⟩ := isI_dig hc
  obtain ⟨hlt, etx⟩ := pkc_ne (n := n) (tx := tx) (i := i) (by rw [ea]; exact nz_m1 (by omega))
  have hT := h
  obtain ⟨h1, h2, h0, hk, h3, h4, h5⟩ := h
  unfold fX11_takeNumber
  rw [tLook hT hi hn, bd_s, tFig, bd_s, i10, if_pos hc, wI_e, show (stI σ 0 6 (nz (sk n tx i))).1 0 6 = nz (sk n tx i) by simp [gI], nz_s, stI_stI, wI_e]
  unfold pNm
  rw [etx]
  by_cases h48 : pk n tx i = 48
  · rw [if_pos h48, if_neg (fun q => q.1 h48)]
  · rw [if_neg h48]
    have e5 : (stI (stI σ 0 6 (nz (sk n tx i + 1))) 0 12 (pk n tx i - 48)).1 0 5 = nz n := by simp [gI, h3]
    have e6 : (stI (stI σ 0 6 (nz (sk n tx i + 1))) 0 12 (pk n tx i - 48)).1 0 6 = nz (sk n tx i + 1) := by simp [gI]
    rw [e5, e6]
    by_cases hl2 : sk n tx i + 1 < n
    · have er : (stI (stI σ 0 6 (nz (sk n tx i + 1))) 0 12 (pk n tx i - 48)).2.2 0 4 = some tk := h1
      have ex : (stI (stI σ 0 6 (nz (sk n tx i + 1))) 0 12 (pk n tx i - 48)).1 tk (sk n tx i + 1) = tx (sk n tx i + 1) := by simpa [gI, h0] using (h5 _ hl2).1
      have e12 : (stI (stI σ 0 6 (nz (sk n tx i + 1))) 0 12 (pk n tx i - 48)).1 0 12 = pk n tx i - 48 := by simp [gI]
      rw [if_neg (by rw [nz_le (by omega) (by omega)]; omega), rR_e er, h2, ck_d rfl, ck_n (by omega) (by omega), nz_tn (by omega), ex, tFig, bd_s, i10]
      by_cases hd : isI (tx (sk n tx i + 1)) 48 57 = true
      · rw [if_pos hd, if_pos ⟨h48, hl2, hd⟩, rR_e er, h2, ck_d rfl, e6, ck_n (by omega) (by omega), nz_tn (by omega), ex, e12, wI_e, wI_e]
        rw [show (stI (stI (stI σ 0 6 (nz (sk n tx i + 1))) 0 12 (pk n tx i - 48)) 0 12 (((10 : Int32) * (pk n tx i - 48)) + tx (sk n tx i + 1) - 48)).1 0 6 = nz (sk n tx i + 1) by simp [gI], nz_s, st4]
      · rw [if_neg hd, if_neg (fun q => hd q.2.2)]
    · rw [if_pos (by rw [nz_le (by omega) (by omega)]; omega), if_neg (fun q => hl2 q.2.1)]
theorem op_nomk {c : Int32} (h : 0 ≤ lvC c) : mkB c = false := by
  rcases lvC_cases c with q | q | q | q
  · rw [q.1] at h; exact absurd h (by decide)
  · rcases q.2 with rfl | rfl <;> decide
  · rcases q.2 with rfl | rfl <;> decide
  · rcases q.2 with rfl | rfl | rfl <;> decide
/-- the mark that was opened last is found under the signs Q -/
theorem tClose7 {σ : cS} {p0 : Nat} {c mk : Int32} (hmk : σ.1 4 p0 = mk) (hm : mkB mk = true) : ∀ (q f : Nat), q < f → p0 + q < 1200 → (∀ x, x < q → mkB (σ.1 4 (p0 + 1 + x)) = false) →
    fX11_close_7 c f (nz (p0 + q)) σ = if (if mk = 91 then c = 93 else c = 41) then fX11_close_61 c 1 σ else fX11_close_61 c 0 σ := by
  intro q
  induction q with
  | zero =>
    intro f hf hp _
    obtain ⟨f, rfl⟩ : ∃ e, f = e + 1 := ⟨f - 1, by omega⟩
    unfold fX11_close_7
    rw [ck_n (by omega) (by omega), nz_tn (by omega), Nat.add_zero, hmk, tMrk, bd_s, i10, if_pos hm, ck_n (by omega) (by omega), hmk]
    by_cases h91 : mk = 91
    · simp [h91]
    · simp [h91]
  | succ q ih =>
    intro f hf hp hall
    obtain ⟨f, rfl⟩ : ∃ e, f = e + 1 := ⟨f - 1, by omega⟩
    have hno : mkB (σ.1 4 (p0 + (q + 1))) = false := by
      have := hall q (by omega)
      rwa [show p0 + 1 + q = p0 + (q + 1) by omega] at this
    have e := ih f (by omega) (by omega) (fun x hx => hall x (by omega))
    unfold fX11_close_7
    rw [ck_n (by omega) (by omega), nz_tn (by omega), tMrk, bd_s, i10, hno, if_neg (by decide), nz_pn (by omega), show p0 + (q + 1) - 1 = p0 + q by omega]
    exact e
/-- a bracket that doesn't fit -/
theorem tCloseN {σ : cS} {i : Nat} {w : Option Nat} {o p d : Nat} {cm : Int32} {g m : Nat} {ls jc : Int32} {c : Int32} (h : tE σ i w o p d cm g m ls jc) : fX11_close_61 c 0 σ = some (0, stI σ 0 7 (nz i)) := by
  unfold fX11_close_61
  rw [if_pos rfl, tStops h.wr h.at, bd_s, ck_t (by decide)]
/-- the orders that a closed mark gives -/
def mkO (mk rs : Int32) : List (Int32 × Int32) := if mk = 91 then [(4, 0)] else if mk = 78 then [(5, rs)] else []
theorem tClose {σ : cS} {i : Nat} {w : Option Nat} {o p1 k d : Nat} {cm : Int32} {g m nF : Nat} {ls jc c mk cm0 gr : Int32} {Q : List Int32} (h : tE σ i w o (p1 + k + 1 + Q.length) d cm g (m + 1) ls jc) (hp : p1 + k + 1 + Q.length < 1200) (hm : m < 1200) (ho : o + Q.length + 1 + k ≤ 12000) (hd : k + 1 ≤ d) (hd2 : d ≤ 100000)
    (hmk : mk = 40 ∨ mk = 91 ∨ mk = 78) (h4 : σ.1 4 (p1 + k) = mk) (hfit : if mk = 91 then c = 93 else c = 41) (h6 : σ.1 6 (p1 + k) = cm0) (hcm : cm0 = 0 ∨ cm0 = 1) (hQ : tPQ σ (p1 + k + 1) Q) (hall : ∀ x ∈ Q, 0 ≤ lvC x) (h33 : ∀ x, x < k → σ.1 4 (p1 + x) = 33) (hbot : p1 = 0 ∨ σ.1 4 (p1 - 1) ≠ 33)
    (h12 : σ.1 12 m = gr) (hgr : gr = -1 ∨ ∃ x, x < 600 ∧ gr = nz x) (hal : σ.1 14 m = -1 ∨ ∃ y, y < 600 ∧ σ.1 14 m = nz y) (hR : tRs σ nF) :
    ∃ σ', fX11_close c σ = some (1, σ') ∧ tE σ' (i + 1) w (o + Q.length + (mkO mk (ow (fr1 (σ.1 15) (σ.1 5 (p1 + k)) nF 0))).length + k) p1 (d - 1 - k) cm0 g m 0 gr ∧ tOA σ' o (Q.reverse.map opO ++ (mkO mk (ow (fr1 (σ.1 15) (σ.1 5 (p1 + k)) nF 0)) ++ List.replicate k (33, 0))) ∧
      (∀ a b e, (∀ x, gr = nz x → b ≤ x) → tEF o a b e σ σ') ∧ (∀ x, gr = nz x → x < 600 → σ'.1 8 x = nz i ∧ σ'.1 11 x = (if σ.1 13 m < 3 ∨ σ.1 14 m < 0 then σ.1 13 m else σ.1 11 (σ.1 14 m).toNatClampNeg) ∧ σ'.1 7 x = σ.1 7 x ∧ σ'.1 9 x = σ.1 9 x ∧ σ'.1 10 x = σ.1 10 x) ∧ (∀ x y, 7 ≤ x → x ≤ 11 → gr ≠ nz y → σ'.1 x y = σ.1 x y) := by
  have hmb : mkB mk = true := by rcases hmk with rfl | rfl | rfl <;> decide
  have hnm : ∀ x, x < Q.length → mkB (σ.1 4 (p1 + k + 1 + x)) = false := by
    intro x hx
    have := hQ x Q[x] (by simp [hx])
    rw [this]; exact op_nomk (hall _ (List.getElem_mem hx))
  unfold fX11_close
  rw [h.pl, nz_p (by omega), show p1 + k + 1 + Q.length - 1 = p1 + k + Q.length by omega, tClose7 h4 hmb Q.length FU (by unfold FU; omega) (by omega) hnm, if_pos hfit]
  unfold fX11_close_61
  rw [if_neg (by decide)]
  obtain ⟨σ1, s1, F1, s3, s4, s5⟩ := tSettle (x := 0) (Or.inl rfl) (p0 := p1 + k + 1) Q.length Q FU o σ rfl (by unfold FU; omega) h.pl (by omega) h.od (by omega) hQ (fun x hx => by unfold stl; simp [hall x hx]) (Or.inr (by
    rw [show p1 + k + 1 - 1 = p1 + k by omega, h4]; rcases hmk with rfl | rfl | rfl <;> decide))
  have h1 := tE_pop h F1 s3 s4
  rw [show fX11_settle 0 σ = some ((), σ1) from s1, bd_s, wI_e, h1.pl, nz_ps]
  have h2 := h1.sPl (p1 + k)
  have g4 : ∀ x y, x ≠ 0 → x ≠ 2 → x ≠ 3 → (stI σ1 0 16 (nz (p1 + k))).1 x y = σ.1 x y := fun x y a b c => by rw [gI, if_neg a]; exact F1.2.1 x y a b c
  have hO2 : tOA (stI σ1 0 16 (nz (p1 + k))) o (Q.reverse.map opO) := tOA_F (o0 := o + Q.length) (p0 := 0) (g0 := 0) (m0 := 0) s5 (tEF_I (by omega)) (by simp)
  have F2 : ∀ a b e, tEF o a b e σ (stI σ1 0 16 (nz (p1 + k))) := fun a b e => F1.E.tq (tEF_I (by omega))
  generalize stI σ1 0 16 (nz (p1 + k)) = σ2 at h2 g4 hO2 F2 ⊢
  rw [h2.pl, ck_n (by omega) (by omega), ck_n (by omega) (by omega), nz_tn (by omega), g4 6 _ (by decide) (by decide) (by decide), h6, ck_t (show bz cm0 = true by rcases hcm with rfl | rfl <;> decide), wI_e, g4 4 _ (by decide) (by decide) (by decide), h4]
  have h3 := h2.sCm cm0
  rw [wI_e, h3.dp, nz_p (by omega)]
  have h5 := h3.sDp (d - 1)
  rw [wI_e, h5.om, nz_ps]
  have h7 := h5.sOm m
  have F7 : ∀ a b e, tEF o a b e σ (stI (stI (stI σ2 0 20 cm0) 0 17 (nz (d - 1))) 0 30 (nz m)) := fun a b e => (((F2 a b e).tq (tEF_I (by omega))).tq (tEF_I (by omega))).tq (tEF_I (by omega))
  have g7 : ∀ x y, x ≠ 0 → x ≠ 2 → x ≠ 3 → (stI (stI (stI σ2 0 20 cm0) 0 17 (nz (d - 1))) 0 30 (nz m)).1 x y = σ.1 x y := fun x y a b c => by rw [← g4 x y a b c]; simp [gI, a]
  have hO7 : tOA (stI (stI (stI σ2 0 20 cm0) 0 17 (nz (d - 1))) 0 30 (nz m)) o (Q.reverse.map opO) := by
    refine tOA_F (o0 := o + Q.length) (p0 := 0) (g0 := 0) (m0 := 0) hO2 (((tEF_I (by omega)).tq (tEF_I (by omega))).tq (tEF_I (by omega))) (by simp)
  generalize stI (stI (stI σ2 0 20 cm0) 0 17 (nz (d - 1))) 0 30 (nz m) = σ7 at h7 F7 g7 hO7 ⊢
  rw [h7.om, ck_n hm (by omega), nz_tn (by omega), g7 12 _ (by decide) (by decide) (by decide), h12]
  -- what comes behind, for any store with the groups written
  have rest : ∀ σ8 : cS, tE σ8 i w (o + Q.length) (p1 + k) (d - 1) cm0 g m ls jc → (∀ x y, x = 4 ∨ x = 5 ∨ x = 15 → σ8.1 x y = σ7.1 x y) → tOA σ8 o (Q.reverse.map opO) → tRs σ8 nF →
      ∃ σ', fX11_close_212 c mk gr σ8 = some (1, σ') ∧ tE σ' (i + 1) w (o + Q.length + (mkO mk (ow (fr1 (σ.1 15) (σ.1 5 (p1 + k)) nF 0))).length + k) p1 (d - 1 - k) cm0 g m 0 gr ∧ tOA σ' o (Q.reverse.map opO ++ (mkO mk (ow (fr1 (σ.1 15) (σ.1 5 (p1 + k)) nF 0)) ++ List.replicate k (33, 0))) ∧ (∀ a b e, tEF (o + Q.length) a b e σ8 σ') := by
    intro σ8 h8 g8 hO8 hR8
    have tail : ∀ (σ9 : cS) (E : List (Int32 × Int32)), E.length ≤ 1 → tE σ9 i w (o + Q.length + E.length) (p1 + k) (d - 1) cm0 g m ls jc → (∀ y, σ9.1 4 y = σ8.1 4 y) → tOA σ9 o (Q.reverse.map opO ++ E) →
        ∃ σ', fX11_close_253 c gr σ9 = some (1, σ') ∧ tE σ' (i + 1) w (o + Q.length + E.length + k) p1 (d - 1 - k) cm0 g m 0 gr ∧ tOA σ' o (Q.reverse.map opO ++ (E ++ List.replicate k (33, 0))) ∧ (∀ a b e, tEF (o + Q.length + E.length) a b e σ9 σ') := by
      intro σ9 E hE h9 g9 hO9
      unfold fX11_close_253
      rw [wI_e, h9.at, nz_s]
      have h10 := h9.go (i + 1)
      have e4 : ∀ y, (stI σ9 0 6 (nz (i + 1))).1 4 y = σ.1 4 y := fun y => by rw [gI, if_neg (by decide), g9, g8 _ _ (Or.inl rfl), g7 _ _ (by decide) (by decide) (by decide)]
      obtain ⟨σ11, a1, a2, a3, a4, a5⟩ := tAtomE k FU (o + Q.length + E.length) (d - 1) ls _ (by unfold FU; omega) (by omega) h10 (by omega) (by omega) (by omega) (fun x hx => (e4 _).trans (h33 x hx)) (by rw [e4]; exact hbot)
      rw [show fX11_atomEnds (stI σ9 0 6 (nz (i + 1))) = some ((), σ11) from a1, bd_s, wI_e]
      refine ⟨_, rfl, a2.sJc gr, ?_, fun a b e => ((tEF_I (by omega)).tq (a3 a b e)).tq (tEF_I (by omega))⟩
      rw [← List.append_assoc]
      have e1 : tOA σ11 o (Q.reverse.map opO ++ E) := tOA_F (tOA_F (o0 := o + Q.length + E.length) (p0 := 0) (g0 := 0) (m0 := 0) hO9 (tEF_I (by omega)) (by simp; omega)) (a3 0 0 0) (by simp; omega)
      have e2 := tOA_app e1 (F := List.replicate k (33, 0)) (by rw [List.length_append, List.length_map, List.length_reverse, ← Nat.add_assoc]; exact a4)
      exact tOA_F (o0 := o + Q.length + E.length + k) (p0 := 0) (g0 := 0) (m0 := 0) e2 (tEF_I (by omega)) (by simp; omega)
    unfold fX11_close_212 mkO
    by_cases m91 : mk = 91
    · rw [if_pos m91, if_pos m91, tPut h8.od (by omega), bd_s]
      obtain ⟨σ', q1, q2, q3, q4⟩ := tail (stO σ8 (o + Q.length) 4 0) [(4, 0)] (by simp) (h8.put 4 0) (fun y => by simp [stO, gI]) (tOA_app (tOA_F (o0 := o + Q.length) (p0 := 0) (g0 := 0) (m0 := 0) hO8 (tEF_O (Nat.le_refl _)) (by simp)) (by rw [List.length_map, List.length_reverse]; exact tOA_one))
      exact ⟨σ', q1, q2, q3, fun a b e => (tEF_O (Nat.le_refl _)).tr (q4 a b e) (by omega) (Nat.le_refl _) (Nat.le_refl _) (Nat.le_refl _)⟩
    · rw [if_neg m91, if_neg m91]
      by_cases m78 : mk = 78
      · rw [if_pos m78, if_pos m78, h8.pl, ck_n (by omega) (by omega), nz_tn (by omega), tResolve hR8, bd_s, g8 _ _ (Or.inr (Or.inl rfl)), g7 _ _ (by decide) (by decide) (by decide), show σ8.1 15 = σ.1 15 by funext y; rw [g8 _ _ (Or.inr (Or.inr rfl)), g7 _ _ (by decide) (by decide) (by decide)], tPut h8.od (by omega), bd_s]
        obtain ⟨σ', q1, q2, q3, q4⟩ := tail (stO σ8 (o + Q.length) 5 (ow (fr1 (σ.1 15) (σ.1 5 (p1 + k)) nF 0))) [(5, ow (fr1 (σ.1 15) (σ.1 5 (p1 + k)) nF 0))] (by simp) (h8.put _ _) (fun y => by simp [stO, gI]) (tOA_app (tOA_F (o0 := o + Q.length) (p0 := 0) (g0 := 0) (m0 := 0) hO8 (tEF_O (Nat.le_refl _)) (by simp)) (by rw [List.length_map, List.length_reverse]; exact tOA_one))
        exact ⟨σ', q1, q2, q3, fun a b e => (tEF_O (Nat.le_refl _)).tr (q4 a b e) (by omega) (Nat.le_refl _) (Nat.le_refl _) (Nat.le_refl _)⟩
      · rw [if_neg m78, if_neg m78]
        obtain ⟨σ', q1, q2, q3, q4⟩ := tail σ8 [] (by simp) h8 (fun y => rfl) (by simpa using hO8)
        exact ⟨σ', q1, q2, q3, fun a b e => (q4 a b e).wk (by simp) (Nat.le_refl _) (Nat.le_refl _) (Nat.le_refl _)⟩
  have hR7 : tRs σ7 nF := by
    refine ⟨hR.1, ?_⟩
    have k19 := (F7 0 0 0).2.2.1 19 (by decide) (by decide) (by decide) (by decide) (by decide) (by decide) (by decide) (by decide) (by decide) (by decide) (by decide) (by decide) (by decide)
    have k37 := (F7 0 0 0).2.2.1 37 (by decide) (by decide) (by decide) (by decide) (by decide) (by decide) (by decide) (by decide) (by decide) (by decide) (by decide) (by decide) (by decide)
    rw [k19, k37]; exact hR.2
  rcases hgr with rfl | ⟨x, hx, rfl⟩
  · rw [if_pos (by decide)]
    obtain ⟨σ', q1, q2, q3, q4⟩ := rest σ7 h7 (fun _ _ _ => rfl) hO7 hR7
    refine ⟨σ', q1, q2, q3, fun a b e _ => (F7 a b e).tr (q4 a b e) (by omega) (Nat.le_refl _) (Nat.le_refl _) (Nat.le_refl _), fun x hx h6 => absurd hx.symm (nz_m1 (by omega)), fun x y hx1 hx2 _ => ?_⟩
    rw [(q4 0 (y + 1) 0).2.2.2.2.2.1 x y hx1 hx2 (by omega), g7 x y (by omega) (by omega) (by omega)]
  · rw [if_neg (nz_ge0 (by omega)), ck_n hx (by omega), nz_tn (by omega), wI_e, h7.at]
    have h8 := h7.arr (a := 8) (b := x) (v := nz i) (by decide)
    rw [h8.om, ck_n hm (by omega), ck_n hm (by omega), nz_tn (by omega)]
    have e13 : (stI σ7 8 x (nz i)).1 13 m = σ.1 13 m := by rw [gI, if_neg (by decide), g7 _ _ (by decide) (by decide) (by decide)]
    have e14 : (stI σ7 8 x (nz i)).1 14 m = σ.1 14 m := by rw [gI, if_neg (by decide), g7 _ _ (by decide) (by decide) (by decide)]
    have e11 : ∀ y, (stI σ7 8 x (nz i)).1 11 y = σ.1 11 y := fun y => by rw [gI, if_neg (by decide), g7 _ _ (by decide) (by decide) (by decide)]
    rw [e13, e14]
    have key : ∀ lv : Int32, lv = (if σ.1 13 m < 3 ∨ σ.1 14 m < 0 then σ.1 13 m else σ.1 11 (σ.1 14 m).toNatClampNeg) → ∃ σ', fX11_close_212 c mk (nz x) (stI (stI σ7 8 x (nz i)) 11 x lv) = some (1, σ') ∧ tE σ' (i + 1) w (o + Q.length + (mkO mk (ow (fr1 (σ.1 15) (σ.1 5 (p1 + k)) nF 0))).length + k) p1 (d - 1 - k) cm0 g m 0 (nz x) ∧ tOA σ' o (Q.reverse.map opO ++ (mkO mk (ow (fr1 (σ.1 15) (σ.1 5 (p1 + k)) nF 0)) ++ List.replicate k (33, 0))) ∧
      (∀ a b e, (∀ y, nz x = nz y → b ≤ y) → tEF o a b e σ σ') ∧ (∀ y, nz x = nz y → y < 600 → σ'.1 8 y = nz i ∧ σ'.1 11 y = (if σ.1 13 m < 3 ∨ σ.1 14 m < 0 then σ.1 13 m else σ.1 11 (σ.1 14 m).toNatClampNeg) ∧ σ'.1 7 y = σ.1 7 y ∧ σ'.1 9 y = σ.1 9 y ∧ σ'.1 10 y = σ.1 10 y) ∧ (∀ z y, 7 ≤ z → z ≤ 11 → nz x ≠ nz y → σ'.1 z y = σ.1 z y) := by
      intro lv hlv
      have h9 := h8.arr (a := 11) (b := x) (v := lv) (by decide)
      have F9 : ∀ a b e, b ≤ x → tEF o a b e σ (stI (stI σ7 8 x (nz i)) 11 x lv) := fun a b e hb => ((F7 a b e).tq (tEF_I (by omega))).tq (tEF_I (by omega))
      obtain ⟨σ', q1, q2, q3, q4⟩ := rest _ h9 (fun z y hz => by rw [gI, if_neg (by omega), gI, if_neg (by omega)]) (tOA_F (o0 := o + Q.length) (p0 := 0) (g0 := 0) (m0 := 0) hO7 ((tEF_I (by omega)).tq (tEF_I (by omega))) (by simp)) (by
        refine ⟨hR7.1, ?_⟩
        have := hR7.2
        simpa [gI] using this)
      refine ⟨σ', q1, q2, q3, fun a b e hb => (F9 a b e (hb x rfl)).tr (q4 a b e) (by omega) (Nat.le_refl _) (Nat.le_refl _) (Nat.le_refl _), fun y hy h6 => ?_, fun z y hz1 hz2 hne => ?_⟩
      · rw [nz_inj (by omega) (by omega)] at hy
        subst hy
        have q6 : ∀ z, 7 ≤ z → z ≤ 11 → σ'.1 z x = (stI (stI σ7 8 x (nz i)) 11 x lv).1 z x := fun z hz1 hz2 => (q4 0 (x + 1) 0).2.2.2.2.2.1 z x hz1 hz2 (by omega)
        refine ⟨?_, ?_, ?_, ?_, ?_⟩
        · rw [q6 8 (by omega) (by omega)]; simp [gI]
        · rw [q6 11 (by omega) (by omega), ← hlv]; simp [gI]
        · rw [q6 7 (by omega) (by omega), gI, if_neg (by decide), gI, if_neg (by decide), g7 _ _ (by decide) (by decide) (by decide)]
        · rw [q6 9 (by omega) (by omega), gI, if_neg (by decide), gI, if_neg (by decide), g7 _ _ (by decide) (by decide) (by decide)]
        · rw [q6 10 (by omega) (by omega), gI, if_neg (by decide), gI, if_neg (by decide), g7 _ _ (by decide) (by decide) (by decide)]
      · have hxy : y ≠ x := fun q => hne (by rw [q])
        rw [(q4 0 (y + 1) 0).2.2.2.2.2.1 z y hz1 hz2 (by omega), gI]
        by_cases z11 : z = 11
        · rw [if_pos z11, if_neg hxy, gI, if_neg (by omega), g7 _ _ (by omega) (by omega) (by omega)]
        · rw [if_neg z11, gI]
          by_cases z8 : z = 8
          · rw [if_pos z8, if_neg hxy, g7 _ _ (by omega) (by omega) (by omega)]
          · rw [if_neg z8, g7 _ _ (by omega) (by omega) (by omega)]
    by_cases hl3 : σ.1 13 m < 3
    · rw [if_pos hl3, ck_n hm (by omega), ck_n hx (by omega), wI_e]
      exact key _ (by rw [if_pos (Or.inl hl3)])
    · rw [if_neg hl3]
      rcases hal with ha | ⟨y, hy, ha⟩
      · rw [ha] at key ⊢
        rw [if_neg (by decide), ck_n hm (by omega), ck_n hx (by omega), wI_e]
        exact key _ (by rw [if_pos (Or.inr (by decide))])
      · rw [ha] at key ⊢
        rw [if_pos (nz_0le (by omega)), ck_n hy (by omega), ck_n hx (by omega), wI_e, e11]
        exact key _ (by rw [if_neg (by rintro (q | q); exact hl3 q; exact nz_ge0 (by omega) q)])
