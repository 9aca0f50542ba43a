set_option maxRecDepth 100000
section
variable {tk n : Nat} {tx : Nat → Int32} {own ov : Int32} {nm : Nat → Int32} {nF B : Nat}
/-- where a sum begins -/
def tSH (B tk n : Nat) (tx : Nat → Int32) (own ov : Int32) (nm : Nat → Int32) (nF : Nat) (σ : cS) (L : Int32) (i : Nat) (w : Option Nat) (o p dep g m f : Nat) (cm β : Int32) : Prop :=
  nbr n tx i + 2 ≤ f ∧ i ≤ n ∧ wG n w ∧ dW dep w i ∧ tCo σ tk n tx own ov nm nF ∧ tE σ i w o p dep cm g (m + 1) β (-1) ∧ (cm = 0 ∨ cm = 1) ∧ p ≤ i ∧ g ≤ i ∧ m ≤ i ∧ dep ≤ i ∧ o + p ≤ B + 3 * i ∧ ((L = 0 ∧ β = 0 ∧ cm = 0 ∧ σ.1 13 m = 3 ∧ σ.1 14 m = -1) ∨ (L = 1 ∧ lvC β = 0 ∧ cm = 1 ∧ σ.1 13 m < 1) ∨ (L = 2 ∧ lvC β = 1 ∧ σ.1 13 m < 2) ∨ (L = 3 ∧ lvC β = 2 ∧ σ.1 13 m < 3)) ∧ (p = 0 ∨ (σ.1 4 (p - 1) ≠ 33 ∧ lvC (σ.1 4 (p - 1)) < L))
theorem op_nodig {c : Int32} (h : 0 ≤ lvC c) : isI c 48 57 = false := by
  rcases lvC_cases c with q | q | q | q
  · rw [q.1] at h; exact absurd h (by decide)
  · rcases q.2 with rfl | rfl <;> decide
  · rcases q.2 with rfl | rfl <;> decide
  · rcases q.2 with rfl | rfl | rfl <;> decide
theorem op_nobl {c : Int32} (h : 0 ≤ lvC c) : bl c = false := by
  rcases lvC_cases c with q | q | q | q
  · rw [q.1] at h; exact absurd h (by decide)
  · rcases q.2 with rfl | rfl <;> decide
  · rcases q.2 with rfl | rfl <;> decide
  · rcases q.2 with rfl | rfl | rfl <;> decide
theorem op_n33 {c : Int32} (h : 0 ≤ lvC c) : c ≠ 33 := by rintro rfl; exact absurd h (by decide)
theorem stl_of {s c : Int32} (hs : s = 0 ∨ s = 1 ∨ s = 2) (h1 : 1 ≤ lvC c) (h2 : s ≤ lvC c) : stl (if s = 2 then 2 else 1) c = true := by
  unfold stl
  rcases lvC_in c with e | e | e | e <;> rw [e] at h1 h2 ⊢ <;> rcases hs with rfl | rfl | rfl <;> revert h1 h2 <;> decide
theorem stl_no {L s c : Int32} (hL : lvL L) (hs : s = 0 ∨ s = 1 ∨ s = 2) (h1 : L ≤ s) (h2 : lvC c < L) : stl (if s = 2 then 2 else 1) c = false := by
  unfold stl
  rcases lvC_in c with e | e | e | e <;> rw [e] at h2 ⊢ <;> rcases hs with rfl | rfl | rfl <;> rcases hL with rfl | rfl | rfl | rfl <;> revert h1 h2 <;> decide
theorem i32_lt_of {a b c : Int32} (h1 : a ≤ b) (h2 : b < c) : a < c := by rw [i32_le] at h1; rw [i32_lt] at h2 ⊢; omega
theorem i32_le_tr {a b c : Int32} (h1 : a ≤ b) (h2 : b ≤ c) : a ≤ c := by rw [i32_le] at h1 h2 ⊢; omega
theorem i32_lt_le {a b c : Int32} (h1 : a < b) (h2 : b ≤ c) : a < c := by rw [i32_le] at h2; rw [i32_lt] at h1 ⊢; omega
theorem i32_eq {a b : Int32} (h1 : a ≤ b) (h2 : b ≤ a) : a = b := by rw [i32_le] at h1 h2; exact Int32.toInt.inj (by omega)
theorem i32_rf (a : Int32) : a ≤ a := by rw [i32_le]; omega
theorem lv_s1 {s : Int32} (hs : s = 0 ∨ s = 1 ∨ s = 2) : s < s + 1 ∧ s < 3 ∧ ∀ x : Int32, (x = -1 ∨ x = 0 ∨ x = 1 ∨ x = 2) → x < s + 1 → x ≤ s := by
  rcases hs with rfl | rfl | rfl
  · refine ⟨by decide, by decide, fun x hx h => ?_⟩; rcases hx with rfl | rfl | rfl | rfl <;> revert h <;> decide
  · refine ⟨by decide, by decide, fun x hx h => ?_⟩; rcases hx with rfl | rfl | rfl | rfl <;> revert h <;> decide
  · refine ⟨by decide, by decide, fun x hx h => ?_⟩; rcases hx with rfl | rfl | rfl | rfl <;> revert h <;> decide
theorem trS_op {c : Int32} (h : 0 ≤ lvC c) : trS ov nm nF (c, 0) = opO c := by
  unfold trS opO
  have h0 : c ≠ 0 := by rintro rfl; exact absurd h (by decide)
  have h1 : c ≠ 1 := by rintro rfl; exact absurd h (by decide)
  have h2 : c ≠ 2 := by rintro rfl; exact absurd h (by decide)
  have h9 : c ≠ 91 := by rintro rfl; exact absurd h (by decide)
  simp [h0, h1, h2, h9]
theorem nbr_diff {n : Nat} {tx : Nat → Int32} {i j : Nat} (h : i ≤ j) : nbr n tx i ≤ nbr n tx j + (j - i) := by
  obtain ⟨k, rfl⟩ : ∃ k, j = i + k := ⟨j - i, by omega⟩
  induction k with
  | zero => simp
  | succ k ih =>
    have ih := ih (by omega)
    by_cases hk : i + k < n
    · have := nbr_s (tx := tx) hk
      have h2 : nbr n tx (i + k) ≤ 1 + nbr n tx (i + k + 1) := by rw [this]; split <;> omega
      rw [show i + (k + 1) = i + k + 1 by omega]; omega
    · have := nbr_end (n := n) (tx := tx) (i := i + k) (by omega)
      omega
theorem tLp (hB : B ≤ 9000) {R : Int32 → Nat → Nat → Option Nat → ER} {L : Int32} (hL : lvL L) {dep i0 : Nat} {cm : Int32} (hi0 : dep ≤ i0)
    (hF : ∀ L dep i w q, lvL L → i ≤ n → R L dep i w = .ok q → GFs n tx L i w q)
    (hM : ∀ L dep i w q, R L dep i w = .ok q → wM w q.2.1)
    (hS : ∀ L i w σ f o p g m cm β, lvL L → tSH B tk n tx own ov nm nF σ L i w o p dep g m f cm β → nbr n tx i < nbr n tx i0 → tSR n tx ov nm nF σ L i o p dep g m f cm (fX11_readE_26 f 1 1 1 σ) (R L dep i w))
    {σ0 : cS} {o p g m f0 : Nat} (hm : m ≤ i0) (hpi : p ≤ i0) (hbot : p = 0 ∨ (σ0.1 4 (p - 1) ≠ 33 ∧ lvC (σ0.1 4 (p - 1)) < L)) :
    ∀ (kf i : Nat) (w : Option Nat) (l : Int32) (r : List Int32) (y : List Sy) (σ : cS) (f g1 : Nat) (cm1 : Int32) (E : List (Int32 × Int32)) (Q : List Int32),
      nbr n tx i < kf → nbr n tx i + 2 ≤ f → i0 ≤ i → i ≤ n → nbr n tx i < nbr n tx i0 + 0 + 1 → y.length + nbr n tx i ≤ nbr n tx i0 → TR y l r → wG n w → dW dep w i → tCo σ tk n tx own ov nm nF → tE σ (sk n tx i) w (o + E.length) (p + Q.length) dep cm1 g1 (m + 1) 0 (-1) →
      p + Q.length ≤ sk n tx i → g1 ≤ sk n tx i → o + E.length + (p + Q.length) ≤ B + 3 * sk n tx i → (cm1 = 0 ∨ cm1 = 1) → (1 ≤ L → cm1 = cm) → (L = 0 → cm1 = 0) → (L = 1 → cm1 = 1) →
      tEF o p g m σ0 σ → tOA σ o E → tPQ σ p Q → (∀ c ∈ Q, L ≤ lvC c ∧ 1 ≤ lvC c ∧ lvC (pk n tx i) ≤ lvC c) → y.map (trS ov nm nF) = E ++ Q.reverse.map opO → g ≤ g1 → GI σ g g1 i0 (sk n tx i) → PC n tx σ g g1 i0 (sk n tx i) (par l (if lvC (pk n tx i) < L then L else lsS (lvC (pk n tx i))) r) →
      σ.1 12 m = σ0.1 12 m → (1 ≤ L → σ.1 13 m = σ0.1 13 m ∧ σ0.1 13 m < L) → (alR σ0 g m → alR σ g1 m) → (L = 0 → elv σ m = l ∧ lvC (pk n tx i) ≤ σ.1 13 m) → f0 + nbr n tx i ≤ f + nbr n tx i0 →
      tSR n tx ov nm nF σ0 L i0 o p dep g m f0 cm (fX11_readE_26 f 1 0 1 σ) (pLp n tx R L dep kf i w l r y) := by
  intro kf
  induction kf with
  | zero => intro i w l r y σ f g1 cm1 E Q h; omega
  | succ kf ih =>
    intro i w l r y σ f g1 cm1 E Q hk hf hii hi hlt0 hyl hT hwg hW C h hpq hg1 ho hcm hcmL hcm0 hcm1 hEF hO hPQ hQ hmap hgg hGI hPC h12 hlv1 hal hlv0 hff
    have hn6 : n ≤ 600 := C.1.2.2.2.2.2.1
    have hsg := sk_ge (n := n) (tx := tx) i
    have hsl := sk_le (n := n) (tx := tx) hi
    have hns := nbr_sk (n := n) (tx := tx) i
    unfold pLp
    by_cases hlt : lvC (pk n tx i) < L
    · rw [if_pos hlt]
      rw [if_pos hlt] at hPC
      refine ⟨f, σ, g1, cm1, E, Q, rfl, ?_, h, hcm, hcmL, ?_, hEF, hO, hPQ, fun c hc => ⟨(hQ c hc).1, i32_le_tr (by decide) (hQ c hc).2.1⟩, hmap, hgg, hg1, hGI, hPC, h12, fun q => (hlv1 q).1, hal, fun q => (hlv0 q).1⟩
      · simp only; omega
      · rintro ⟨rfl, hop⟩
        simp only at hop
        rw [pk_sk] at hop
        rcases hop with e | e | e
        · rw [e] at hlt; exact absurd hlt (by decide)
        · rw [e] at hlt; exact absurd hlt (by decide)
        · rw [e.1] at hlt; exact absurd hlt (by decide)
    · rw [if_neg hlt]
      rw [if_neg hlt] at hPC
      have hgo := lv_go hL (lvC_in (pk n tx i)) hlt
      have hs3 : lvC (pk n tx i) = 0 ∨ lvC (pk n tx i) = 1 ∨ lvC (pk n tx i) = 2 := by
        rcases hgo with ⟨e, _⟩ | ⟨e, _⟩
        · exact Or.inl e
        · exact Or.inr e
      obtain ⟨hu1, hu2, hu3⟩ := lv_up hs3
      obtain ⟨hv1, hv2, hv3⟩ := lv_s1 hs3
      have hLs := i32_nlt.mp hlt
      have hne : lvC (pk n tx i) ≠ -1 := by rcases hs3 with e | e | e <;> rw [e] <;> decide
      obtain ⟨hlt2, etx⟩ := pkc_ne (lvC_m1 hne)
      have htk := nbr_tk hlt2
      obtain ⟨f, rfl⟩ : ∃ e, f = e + 1 := ⟨f - 1, by omega⟩
      rw [rE_n, tLook C.1 h.at hsl, sk_sk, pk_sk, stI_self h.at, bd_s, tNoteN _ h, bd_s, h.cmp]
      have hop : lvC (pk n tx i) = 2 ∨ lvC (pk n tx i) = 1 ∨ (lvC (pk n tx i) = 0 ∧ cm1 = 0) := by
        rcases hgo with ⟨e, e2⟩ | ⟨e | e, _⟩
        · exact Or.inr (Or.inr ⟨e, hcm0 e2⟩)
        · exact Or.inr (Or.inl e)
        · exact Or.inl e
      rw [if_pos hop]
      obtain ⟨σ2, a1, h2, F2, O2, a5, a6, a7, a8⟩ := tSign (c := pk n tx i) h (by omega) (by omega) (by omega) hs3 hcm (fun e => by
        rcases hgo with ⟨_, e2⟩ | ⟨e2, _⟩
        · exact hcm0 e2
        · rcases e2 with e2 | e2 <;> rw [e2] at e <;> exact absurd e (by decide)) hPQ (fun c hc => stl_of hs3 (hQ c hc).2.1 (hQ c hc).2.2) (by
        rcases hbot with q | ⟨_, q⟩
        · exact Or.inl q
        · by_cases hp0 : p = 0
          · exact Or.inl hp0
          · refine Or.inr ?_
            rw [hEF.2.2.2.2.1 4 _ (Or.inl rfl) (by omega)]
            exact stl_no hL hs3 hLs q)
      rw [a1, bd_s]
      -- the level of the sum that is open
      have hl13 : (L = 0 → σ2.1 13 m = lvC (pk n tx i)) ∧ (1 ≤ L → σ2.1 13 m = σ0.1 13 m) ∧ σ2.1 13 m < lvC (pk n tx i) + 1 := by
        rw [a6]
        refine ⟨fun e => ?_, fun e => ?_, ?_⟩
        · obtain ⟨-, e3⟩ := hlv0 e
          split
          · next q => exact i32_eq q e3
          · rfl
        · obtain ⟨e1, e2⟩ := hlv1 e
          have : σ.1 13 m ≤ lvC (pk n tx i) := by rw [e1]; rw [i32_lt] at e2; rw [i32_le] at hLs ⊢; omega
          rw [if_pos this, e1]
        · split
          · next q => exact i32_lt_of q hv1
          · exact hv1
      have C2 := tCo_F C (F2 0)
      have hSH : tSH B tk n tx own ov nm nF σ2 (lvC (pk n tx i) + 1) (sk n tx i + 1) w (o + E.length + Q.length) (p + 1) dep g1 m f (if lvC (pk n tx i) = 0 then 1 else cm1) (pk n tx i) := by
        refine ⟨by omega, by omega, hwg, dW_mono hW (by omega), C2, h2, ?_, by omega, by omega, by omega, by omega, by omega, ?_, ?_⟩
        · split
          · exact Or.inr rfl
          · exact hcm
        · have h3 := hl13.2.2
          rcases hs3 with e | e | e
          · rw [e] at h3 ⊢
            exact Or.inr (Or.inl ⟨by decide, rfl, by rw [if_pos rfl], h3⟩)
          · rw [e] at h3 ⊢
            exact Or.inr (Or.inr (Or.inl ⟨by decide, rfl, h3⟩))
          · rw [e] at h3 ⊢
            exact Or.inr (Or.inr (Or.inr ⟨by decide, rfl, h3⟩))
        · refine Or.inr ?_
          rw [show p + 1 - 1 = p by omega, a5]
          exact ⟨op_n33 hu3, hv1⟩
      have hr := hS _ _ _ _ _ _ _ _ _ _ _ hu1 hSH (by omega)
      have hF2 : tEF o p g m σ0 σ2 := hEF.tr (F2 g) (by omega) (Nat.le_refl _) (Nat.le_refl _) (Nat.le_refl _)
      rcases hq : R (lvC (pk n tx i) + 1) dep (sk n tx i + 1) w with e | q
      · rw [hq] at hr
        obtain ⟨σ', r1, r2, r3, r4⟩ := hr
        exact ⟨σ', r1, r2, hF2.tr r3 (by omega) (by omega) hgg (Nat.le_refl _), r4⟩
      · rw [hq] at hr
        obtain ⟨f', σ', g', cm', E2, Q2, r1, r2, r3, r4, r5, r6, r7, r8, r9, r10, r11, r12, r13, r14, r15, r16, r17, r18, r19⟩ := hr
        obtain ⟨⟨f1, f2, f3, f4, f5⟩, f6, f7, f8⟩ := hF _ _ _ _ _ hu1 (by omega) hq
        have hm2 := hM _ _ _ _ _ hq
        have hlen2 : E2.length + Q2.length = q.2.2.2.2.length := by
          have := congrArg List.length r11
          simp only [List.length_map, List.length_append, List.length_reverse] at this
          omega
        have hlen1 : E.length + Q.length = y.length := by
          have := congrArg List.length hmap
          simp only [List.length_map, List.length_append, List.length_reverse] at this
          omega
        have hnd := nbr_diff (n := n) (tx := tx) (i := sk n tx i + 1) (j := q.1) (by omega)
        have hal3 : alR σ0 g m → alR σ' g' m := fun a => r18 (by unfold alR; rw [a7]; exact hal a)
        have r5 := r5 hu2
        have r17 := r17 hu2
        have hF3 : tEF o p g m σ0 σ' := hF2.tr r7 (by omega) (by omega) hgg (Nat.le_refl _)
        have hsm : gSm g g1 σ σ' := fun a x a1 a2 x1 x2 => (r7.2.2.2.2.2.1 a x a1 a2 x2).trans ((F2 g1).2.2.2.2.2.1 a x a1 a2 x2)
        have hO3 : tOA σ' o (E ++ Q.reverse.map opO ++ E2) := by
          refine tOA_app (tOA_F (tOA_app (tOA_F hO (F2 0) (Nat.le_refl _)) O2) r7 (by simp; omega)) ?_
          rw [List.length_append, List.length_map, List.length_reverse, ← Nat.add_assoc]; exact r8
        have hPQ3 : tPQ σ' p (pk n tx i :: Q2) := by
          intro x c hx
          cases x with
          | zero => simp at hx; subst hx; rw [Nat.add_zero, r7.2.2.2.2.1 4 p (Or.inl rfl) (by omega)]; exact a5
          | succ x => simp at hx; have := r9 x c hx; rwa [show p + 1 + x = p + (x + 1) by omega] at this
        have hmap3 : (y ++ (q.2.2.2.2 ++ [(pk n tx i, 0)])).map (trS ov nm nF) = (E ++ Q.reverse.map opO ++ E2) ++ (pk n tx i :: Q2).reverse.map opO := by
          rw [List.map_append, List.map_append, hmap, r11, List.map_cons, List.map_nil, trS_op hu3]
          simp
        have hlE : o + (E ++ Q.reverse.map opO ++ E2).length = o + E.length + Q.length + E2.length := by simp; omega
        have hlQ : p + (pk n tx i :: Q2).length = p + 1 + Q2.length := by simp; omega
        have hGI3 : GI σ' g g' i0 q.1 := ((hGI.sm hsm).wk (Nat.le_refl _) (by omega)).app (r14.wk (by omega) (Nat.le_refl _))
        have hPC3 : PC n tx σ' g g' i0 q.1 (par l (lsS (lvC (pk n tx i))) r ++ pk n tx i :: par q.2.2.1 (lvC (pk n tx i) + 1) q.2.2.2.1) := by
          intro D hD
          obtain ⟨hD1, hD2⟩ := DA_split hD hgg r12 (show i0 ≤ sk n tx i + 1 by omega) (by omega) (by omega) ((hGI.sm hsm).wk (Nat.le_refl _) (by omega)) r14
          obtain ⟨f3, e3⟩ := (hPC.sm hsm) D (fun x x1 x2 => hD1 x x1 (by omega))
          obtain ⟨f4', e4⟩ := r15 D hD2
          have hDs : D (sk n tx i) = false := by
            rw [hD1 _ (by omega) (by omega), gOb_out (hGI.sm hsm) (by omega) (Or.inr (Nat.le_refl _)) (by omega), etx, op_nobl hu3]; rfl
          refine ⟨f4', ?_⟩
          rw [e3, out_c hlt2 hDs (by rw [etx]; exact op_nodig hu3), etx, e4, List.append_assoc]
          rfl
        simp only [eb]
        rw [r1]
        by_cases h0 : lvC (pk n tx i) = 0
        · have hL0 : L = 0 := by
            rcases hgo with ⟨_, e⟩ | ⟨e, _⟩
            · exact e
            · rcases e with e | e <;> rw [e] at h0 <;> exact absurd h0 (by decide)
          rw [if_pos h0]
          have hcm' : cm' = 1 := by rw [r5, if_pos h0]
          refine ⟨f', σ', g', cm', E ++ Q.reverse.map opO ++ E2, pk n tx i :: Q2, rfl, ?_, ?_, r4, ?_, ?_, hF3, hO3, hPQ3, ?_, hmap3, by omega, r13, hGI3, ?_, ?_, ?_, hal3, ?_⟩
          · simp only; omega
          · simp only; rw [hlE, hlQ]; exact r3
          · intro q1; rw [hL0] at q1; exact absurd q1 (by decide)
          · rintro ⟨-, hop⟩
            simp only at hop
            have hx := f8 hu2
            rw [h0] at hx
            rcases hop with e | e | e
            · rw [e] at hx; exact absurd hx (by decide)
            · rw [e] at hx; exact absurd hx (by decide)
            · rw [hcm'] at e; exact absurd e.2 (by decide)
          · intro c hc
            simp only [List.mem_cons] at hc
            rcases hc with rfl | hc
            · exact ⟨hLs, hu3⟩
            · exact ⟨by rw [hL0]; exact (r10 c hc).2, (r10 c hc).2⟩
          · simp only
            rw [hL0, par_le (by decide)]
            rw [h0] at hPC3
            exact hPC3
          · rw [r16, a8, h12]
          · intro q1; rw [hL0] at q1; exact absurd q1 (by decide)
          · intro _
            have e13 : σ'.1 13 m = 0 := by rw [r17, hl13.1 hL0, h0]
            unfold elv
            rw [e13, if_pos (Or.inl (by decide))]
        · rw [if_neg h0]
          have hs12 : lvC (pk n tx i) = 1 ∨ lvC (pk n tx i) = 2 := by
            rcases hs3 with e | e
            · exact absurd e h0
            · exact e
          have els : lsS (lvC (pk n tx i)) = lvC (pk n tx i) := by unfold lsS; rw [if_neg h0]
          rw [els] at hPC3
          have hx := hv3 _ (lvC_in (pk n tx q.1)) (f8 hu2)
          have hx2 := lv_ls hs12 (lvC_in (pk n tx q.1)) (f8 hu2)
          have hTR := TR.bin (c := pk n tx i) hu3 hT f4
          rw [els] at hTR
          rw [if_neg h0] at r5
          refine ih q.1 q.2.1 (lvC (pk n tx i)) _ _ σ' f' g' cm' (E ++ Q.reverse.map opO ++ E2) (pk n tx i :: Q2) (by omega) (by omega) (by omega) f2 (by omega) (by simp only [List.length_append, List.length_cons, List.length_nil]; omega) hTR (f5 hwg) (dW_m hW hm2 (by omega)) (tCo_F C2 r7) ?_ ?_ ?_ ?_ r4 ?_ ?_ ?_ hF3 hO3 hPQ3 ?_ hmap3 (by omega) ?_ ?_ ?_ ?_ hal3 ?_ (by omega)
          · rw [f7, hlE, hlQ]; exact r3
          · rw [f7, hlQ]; omega
          · rw [f7]; exact r13
          · rw [f7, hlE, hlQ]; omega
          · intro q1; rw [r5]; exact hcmL q1
          · intro q1; rw [r5]; exact hcm0 q1
          · intro q1; rw [r5]; exact hcm1 q1
          · intro c hc
            simp only [List.mem_cons] at hc
            rcases hc with rfl | hc
            · exact ⟨hLs, by rcases hs12 with e | e <;> rw [e] <;> decide, hx⟩
            · have := (r10 c hc).1
              refine ⟨i32_le_tr hLs (i32_le_tr ?_ this), i32_le_tr hu2 this, i32_le_tr hx (i32_le_tr ?_ this)⟩ <;> (rw [i32_le]; rw [i32_lt] at hv1; omega)
          · rw [f7]; exact hGI3
          · rw [f7]
            have hpar : ∀ Z : List Int32, par (lvC (pk n tx i)) (if lvC (pk n tx q.1) < L then L else lsS (lvC (pk n tx q.1))) Z = Z := by
              intro Z
              apply par_le
              split
              · exact hLs
              · exact hx2
            rw [hpar]; exact hPC3
          · rw [r16, a8, h12]
          · intro q1
            refine ⟨?_, (hlv1 q1).2⟩
            rw [r17, hl13.2.1 q1]
          · intro q1
            have e13 : σ'.1 13 m = lvC (pk n tx i) := by rw [r17, hl13.1 q1]
            refine ⟨?_, by rw [e13]; exact hx⟩
            unfold elv
            rw [e13, if_pos (Or.inl hv2)]
end
