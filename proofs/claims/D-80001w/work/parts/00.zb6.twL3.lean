set_option maxRecDepth 100000
theorem fr1_congr {f f' : Nat → Int32} {c : Int32} : ∀ (m j : Nat), (∀ x, x < j + m → f x = f' x) → fr1 f c m j = fr1 f' c m j := by
  intro m
  induction m with
  | zero => intro j _; rfl
  | succ m ih =>
    intro j h
    unfold fr1
    rw [h j (by omega), ih (j + 1) (fun x hx => h x (by omega))]
theorem trS_congr {ov : Int32} {f f' : Nat → Int32} {k : Nat} (h : ∀ x, x < k → f x = f' x) : trS ov f k = trS ov f' k := by
  funext y
  unfold trS
  rw [fr1_congr k 0 (fun x hx => h x (by omega))]
/-- the twin's functions stand -/
def tFns (σ : cS) : Nat → Nat → List Fn → Prop
  | _, _, [] => True
  | k, o, f :: F => (σ.1 15 k = f.1 - 65 ∧ σ.1 16 k = f.2.1 ∧ σ.1 17 k = nz o ∧ tOA σ o (f.2.2.map (trS f.2.1 (σ.1 15) k) ++ [(6, 0)])) ∧ tFns σ (k + 1) (o + f.2.2.length + 1) F
def fo : List Fn → Nat
  | [] => 0
  | f :: F => f.2.2.length + 1 + fo F
theorem fo_app (F : List Fn) : ∀ G, fo (F ++ G) = fo F + fo G := by
  induction F with
  | nil => intro G; simp [fo]
  | cons f F ih => intro G; simp only [List.cons_append, fo, ih]; omega
theorem tFns_app {σ : cS} (F : List Fn) : ∀ {k o : Nat} {G : List Fn}, tFns σ k o F → tFns σ (k + F.length) (o + fo F) G → tFns σ k o (F ++ G) := by
  induction F with
  | nil => intro k o G _ h; simpa [fo] using h
  | cons f F ih =>
    intro k o G h h'
    refine ⟨h.1, ih h.2 ?_⟩
    rw [List.length_cons] at h'
    simp only [fo] at h'
    rw [show k + 1 + F.length = k + (F.length + 1) by omega, show o + f.2.2.length + 1 + fo F = o + (f.2.2.length + 1 + fo F) by omega]
    exact h'
theorem tFns_L {o0 g0 nF : Nat} {σ σ' : cS} (hf : tLF o0 g0 nF σ σ') (F : List Fn) : ∀ {k o : Nat}, tFns σ k o F → k + F.length ≤ nF → o + fo F ≤ o0 → tFns σ' k o F := by
  induction F with
  | nil => intro k o _ _ _; trivial
  | cons f F ih =>
    intro k o h hk ho
    rw [List.length_cons] at hk
    simp only [fo] at ho
    obtain ⟨⟨a1, a2, a3, a4⟩, a5⟩ := h
    have k15 : ∀ x j, 15 ≤ x → x ≤ 17 → j < nF → σ'.1 x j = σ.1 x j := fun x j h1 h2 h3 => hf.2.2.2.2.2 x j h1 h2 h3
    refine ⟨⟨(k15 _ _ (by omega) (by omega) (by omega)).trans a1, (k15 _ _ (by omega) (by omega) (by omega)).trans a2, (k15 _ _ (by omega) (by omega) (by omega)).trans a3, ?_⟩, ih a5 (by omega) (by omega)⟩
    rw [trS_congr (f := σ'.1 15) (f' := σ.1 15) (fun x hx => k15 15 x (by omega) (by omega) (by omega))]
    exact tOA_L a4 hf (by simp; omega)
theorem tFns_nm {σ : cS} (F : List Fn) : ∀ {k o : Nat}, tFns σ k o F → ∀ j, j < F.length → ∀ g, F[j]? = some g → σ.1 15 (k + j) = g.1 - 65 := by
  induction F with
  | nil => intro k o _ j hj; simp at hj
  | cons f F ih =>
    intro k o h j hj g hg
    cases j with
    | zero => simp at hg; subst hg; exact h.1.1
    | succ j =>
      rw [List.getElem?_cons_succ] at hg
      rw [List.length_cons] at hj
      have := ih h.2 j (by omega) g hg
      rw [show k + 1 + j = k + (j + 1) by omega] at this
      exact this
/-- what a library's reading leaves as it was -/
def tRL (o0 : Nat) (σ σ' : cS) : Prop := σ'.2.1 = σ.2.1 ∧ (∀ o j, ¬ (o = 0 ∧ j = 4) → σ'.2.2 o j = σ.2.2 o j) ∧ (∀ o j, o ≠ 0 → o < 2 ∨ 22 < o → σ'.1 o j = σ.1 o j) ∧ (∀ j, j < 5 ∨ 46 < j → σ'.1 0 j = σ.1 0 j) ∧ (∀ o j, o = 2 ∨ o = 3 → j < o0 → σ'.1 o j = σ.1 o j)
theorem tRL.tr {o0 o1 : Nat} {σ σ1 σ2 : cS} (h : tRL o0 σ σ1) (h' : tRL o1 σ1 σ2) (ho : o0 ≤ o1) : tRL o0 σ σ2 := by
  obtain ⟨a1, a2, a3, a4, a5⟩ := h
  obtain ⟨b1, b2, b3, b4, b5⟩ := h'
  exact ⟨b1.trans a1, fun o j e => (b2 o j e).trans (a2 o j e), fun o j e1 e2 => (b3 o j e1 e2).trans (a3 o j e1 e2), fun j e => (b4 j e).trans (a4 j e), fun o j e1 e2 => (b5 o j e1 (by omega)).trans (a5 o j e1 e2)⟩
theorem tRL_L {o0 g0 nF : Nat} {σ σ' : cS} (h : tLF o0 g0 nF σ σ') : tRL o0 σ σ' := by
  obtain ⟨a1, a2, a3, a4, -⟩ := h
  exact ⟨by rw [a1], fun o j _ => by rw [a1], a2, fun j e => a3 j (by omega), a4⟩
theorem tRL_G {o0 : Nat} {σ σ' : cS} (h : tRG o0 σ σ') : tRL o0 σ σ' := ⟨h.1, h.2.1, fun o j e1 e2 => h.2.2.1 o j e1 (by omega), fun j e => h.2.2.2.1 j (by omega), h.2.2.2.2⟩
section
variable {tk n : Nat} {tx : Nat → Int32} {B : Nat}
/-- a library was read -/
def tWL (σ : cS) (tk n : Nat) (tx : Nat → Int32) (o : Nat) (F : List Fn) (r : List Int32) : Prop := tTx σ tk n tx ∧ σ.1 0 37 = nz F.length ∧ tFns σ 0 o F ∧ σ.1 0 11 = nz (o + fo F) ∧ tGP σ n tx r
def tLR (σ0 : cS) (tk n : Nat) (tx : Nat → Int32) (o : Nat) (x : Option (Int32 × cS)) (r : Except Nat (List Fn × List Int32)) : Prop := match r with
  | .error e => ∃ σ', x = some (0, σ') ∧ tRL 0 σ0 σ' ∧ tFt σ' e
  | .ok q => ∃ σ', x = some (1, σ') ∧ tRL o σ0 σ' ∧ tWL σ' tk n tx o q.1 q.2
theorem tLi (hB : B ≤ 9000) {σ0 : cS} {o : Nat} {a1 : Nat} {a2 : Int32} : ∀ (k i : Nat) (w : Option Nat) (F : List Fn) (r : List Int32) (σ : cS) (f g : Nat),
    nbr n tx i < k → nbr n tx i + 2 ≤ f → i ≤ n → nbr n tx i ≤ 400 → wG n w → tTx σ tk n tx → tB σ i w (o + fo F) g → o + fo F ≤ B + 3 * i → g ≤ i → F.length ≤ i → 2 * F.length + nbr n tx i ≤ 400 → σ.1 0 37 = nz F.length → tLF o 0 0 σ0 σ → tFns σ 0 o F → GI σ 0 g 0 i → PF n tx σ 0 g 0 i r →
    tLR σ0 tk n tx o (fX11_readLibrary_16 a1 a2 f 1 1 σ) (eb (pLi n tx k i w F r) fun q => wOk q.2.1 (q.2.2.1, q.2.2.2)) := by
  intro k
  induction k with
  | zero => intro i w F r σ f g h; omega
  | succ k ih =>
    intro i w F r σ f g hk hf hi hnb hwg T h ho hg hFi hFl h37 hF0 hFn hG hP
    have hn6 : n ≤ 600 := T.2.2.2.2.2.1
    obtain ⟨f, rfl⟩ : ∃ e, f = e + 2 := ⟨f - 2, by omega⟩
    have hr := tFn hB T h hi hwg ho hg hnb (by omega) h37 (fun j hj g hg => by have := tFns_nm F hFn j hj g hg; rw [Nat.zero_add] at this; exact this)
    have hN := pFn_n (n := n) (tx := tx) (i := i) (w := w) (F := F) hi
    conv => arg 6; unfold fX11_readLibrary_16
    rw [if_neg (by decide), if_neg (by decide)]
    unfold pLi
    rcases hq : pFn n tx i w F with e | q
    · rw [hq] at hr hN
      have hN : e ≤ n := hN
      obtain ⟨σ', r1, r2, r3, r4⟩ := hr
      have T' := tTx_L T r4
      rw [r1, bd_s, tLook T' r3 hN, bd_s]
      have hF1 : tFt (stI σ' 0 6 (nz (sk n tx e))) e := ⟨by omega, Or.inl (by simpa [gI] using r2)⟩
      have hF2 : tFt (stI (stI σ' 0 6 (nz (sk n tx e))) 0 37 0) e := ⟨by omega, Or.inl (by simpa [gI] using r2)⟩
      have h47 : ∀ x4, fX11_readLibrary_16 a1 a2 (f + 1) 0 x4 (stI σ' 0 6 (nz (sk n tx e))) = some (0, stI (stI σ' 0 6 (nz (sk n tx e))) 0 37 0) := by
        intro x4
        unfold fX11_readLibrary_16
        rw [if_pos rfl]
        unfold fX11_readLibrary_47
        rw [tWell0 hF1, bd_s, if_pos rfl, wI_e, tWell0 hF2, bd_s, ck_t (by decide)]
      rw [h47, h47]
      have FF : tRL 0 σ0 (stI (stI σ' 0 6 (nz (sk n tx e))) 0 37 0) := tRL_L ((tLF0 hF0).tq ((r4.tq (tLF_I (by omega))).tq (tLF_I (by omega))))
      split
      · exact ⟨_, rfl, FF, hF2⟩
      · exact ⟨_, rfl, FF, hF2⟩
    · rw [hq] at hr
      simp only [eb]
      obtain ⟨σ', g', r1, r2, r3, r4, r5, r6, r7, r8, r9, r10, r11, r12⟩ := hr
      obtain ⟨c1, c2, c3, c4, c5, c6, c7, c8, c9⟩ := pFn_facts hi hq
      have hnd := nbr_diffA (n := n) (tx := tx) (i := i) (j := q.1) (by omega)
      have hy1 : 0 < q.2.2.1.2.2.length := by
        obtain ⟨l0, r0, hTR⟩ := c8
        exact hTR.cl.1
      have T' := tTx_L T r4
      rw [r1, bd_s, tLook T' r2.at c2, bd_s]
      have B2 := r2.go (sk n tx q.1)
      have Fs : ∀ a b c, tLF a b c σ' (stI σ' 0 6 (nz (sk n tx q.1))) := fun a b c => tLF_I (by omega)
      have hsl := sk_le (n := n) (tx := tx) c2
      have hsg := sk_ge (n := n) (tx := tx) q.1
      have hns := nbr_sk (n := n) (tx := tx) q.1
      have hfo : fo (F ++ [q.2.2.1]) = fo F + (q.2.2.1.2.2.length + 1) := by rw [fo_app]; simp [fo]
      have hlen : (F ++ [q.2.2.1]).length = F.length + 1 := by simp
      have hsm : gSm 0 g σ σ' := gSm_L r4 (Nat.le_refl _)
      have FnA : tFns σ' 0 o (F ++ [q.2.2.1]) := by
        refine tFns_app F (tFns_L r4 F hFn (by omega) (by omega)) ⟨⟨?_, ?_, ?_, ?_⟩, trivial⟩
        · rw [Nat.zero_add]; exact r5
        · rw [Nat.zero_add]; exact r6
        · rw [Nat.zero_add]; exact r7
        · rw [Nat.zero_add]; exact r8
      have Fn2 : tFns (stI σ' 0 6 (nz (sk n tx q.1))) 0 o (F ++ [q.2.2.1]) := tFns_L (Fs (o + fo (F ++ [q.2.2.1])) 0 (F.length + 1)) _ FnA (by omega) (by omega)
      have F2 : tLF o 0 0 σ0 (stI σ' 0 6 (nz (sk n tx q.1))) := (hF0.tr r4 (by omega) (Nat.zero_le _) (Nat.zero_le _)).tq (Fs _ _ _)
      have e37 : (stI σ' 0 6 (nz (sk n tx q.1))).1 0 37 = nz (F ++ [q.2.2.1]).length := by rw [hlen]; simpa [gI] using r3
      have hsm2 : gSm 0 g' σ' (stI σ' 0 6 (nz (sk n tx q.1))) := gSm_L (Fs 0 g' 0) (Nat.le_refl _)
      have G2 : GI (stI σ' 0 6 (nz (sk n tx q.1))) 0 g' 0 (sk n tx q.1) := ((((hG.sm hsm).wk (Nat.le_refl _) (by omega)).app (r11.wk (by omega) (Nat.le_refl _))).sm hsm2).wk (Nat.le_refl _) hsg
      have P2 : PF n tx (stI σ' 0 6 (nz (sk n tx q.1))) 0 g' 0 (sk n tx q.1) (r ++ q.2.2.2) := PF_sk (by omega) ((PF_app (Nat.zero_le _) r9 (by omega) (by omega) (by omega) (hG.sm hsm) r11 (hP.sm hsm) r12).sm hsm2)
      have T2 := tTx_L T' (Fs 0 0 0)
      have B2' : tB (stI σ' 0 6 (nz (sk n tx q.1))) (sk n tx q.1) q.2.1 (o + fo (F ++ [q.2.2.1])) g' := by
        rw [hfo, show o + (fo F + (q.2.2.1.2.2.length + 1)) = o + fo F + q.2.2.1.2.2.length + 1 by omega]; exact B2
      generalize stI σ' 0 6 (nz (sk n tx q.1)) = σ2 at Fn2 F2 e37 G2 P2 T2 B2' ⊢
      by_cases hc : pk n tx q.1 = -1
      · rw [if_pos ((pk_neg T').mpr hc), if_pos hc]
        simp only
        have hskn := sk_end T' c2 hc
        rw [hskn] at P2 G2
        conv => arg 6; unfold fX11_readLibrary_16
        rw [if_neg (by decide), if_pos rfl]
        unfold fX11_readLibrary_47
        cases hw : q.2.1 with
        | none =>
          rw [hw] at B2'
          rw [tWell1 B2'.wr B2'.fa, bd_s, if_neg (by decide), wI_e, e37, stI_self e37, tWell1 B2'.wr B2'.fa, bd_s, ck_t (by decide)]
          exact ⟨_, rfl, tRL_L F2, T2, e37, Fn2, B2'.od, g', B2'.gr, by omega, G2, P2⟩
        | some p =>
          have hp : p < n := c5.1 hwg p hw
          have hF : tFt σ2 p := ⟨by omega, Or.inr ⟨B2'.wr, by rw [B2'.fa, hw]; rfl⟩⟩
          have hF2 : tFt (stI σ2 0 37 0) p := ⟨by omega, Or.inr ⟨by simpa [gI] using B2'.wr, by have := B2'.fa; rw [hw] at this; simpa [gI, ow] using this⟩⟩
          rw [tWell0 hF, bd_s, if_pos rfl, wI_e, tWell0 hF2, bd_s, ck_t (by decide)]
          exact ⟨_, rfl, tRL_L ((tLF0 F2).tq (tLF_I (by omega))), hF2⟩
      · rw [if_neg (fun z => hc ((pk_neg T').mp z)), if_neg hc]
        have hsame : pLi n tx k q.1 q.2.1 (F ++ [q.2.2.1]) (r ++ q.2.2.2) = pLi n tx k (sk n tx q.1) q.2.1 (F ++ [q.2.2.1]) (r ++ q.2.2.2) := by
          cases k with
          | zero => rfl
          | succ k =>
            unfold pLi
            have : ∀ F, pFn n tx q.1 q.2.1 F = pFn n tx (sk n tx q.1) q.2.1 F := by
              intro F
              unfold pFn pLe
              rw [pk_sk, sk_sk]
            rw [this]
        rw [hsame]
        exact ih (sk n tx q.1) q.2.1 (F ++ [q.2.2.1]) (r ++ q.2.2.2) σ2 (f + 1) g' (by omega) (by omega) hsl (by omega) (c5.1 hwg) T2 B2' (by omega) (by omega) (by omega) (by omega) e37 F2 Fn2 G2 P2
/-- the twin reads a library -/
theorem tRdL {σ : cS} {o : Nat} (h : tSrc σ tk n tx) (hnb : nbr n tx 0 ≤ 400) (ho : σ.1 0 11 = nz o) (ho9 : o ≤ 9000) : tLR σ tk n tx o (fX11_readLibrary tk (nz n) σ) (rdL n tx) := by
  obtain ⟨σ1, h1, T1, B1, e18, e19, F1⟩ := tBegin h ho
  have hnl := nbr_le (n := n) (tx := tx) (i := 0)
  have hn6 := h.2.2.2.1
  unfold fX11_readLibrary rdL
  rw [h.1, ck_t (by decide), h1, bd_s, wI_e]
  have F2 : ∀ a b c, tLF a b c σ1 (stI σ1 0 37 0) := fun a b c => tLF_I (by omega)
  have hr := tLi (a1 := tk) (a2 := nz n) ho9 (σ0 := stI σ1 0 37 0) (o := o) FU 0 none [] [] (stI σ1 0 37 0) FU 0 (by unfold FU; omega) (by unfold FU; omega) (Nat.zero_le _) hnb (fun p hp => by cases hp) (tTx_L T1 (F2 0 0 0)) (B1.oth (by omega)) (by simp [fo]) (Nat.zero_le _) (Nat.zero_le _) (by simpa using hnb) (by simp [gI]; rfl) tLF.rf trivial GI_nil (fun D _ => rfl)
  have FF : ∀ x, tRL x σ (stI σ1 0 37 0) := fun x => (tRL_G (F1 x)).tr (tRL_L (F2 x 0 0)) (Nat.le_refl _)
  generalize hR : (eb (pLi n tx FU 0 none [] []) fun q => wOk q.2.1 (q.2.2.1, q.2.2.2)) = R at hr ⊢
  rcases R with e | q
  · obtain ⟨σ', r1, r2, r3⟩ := hr
    exact ⟨σ', r1, (FF 0).tr r2 (Nat.le_refl _), r3⟩
  · obtain ⟨σ', r1, r2, r3⟩ := hr
    exact ⟨σ', r1, (FF o).tr r2 (Nat.le_refl _), r3⟩
end
