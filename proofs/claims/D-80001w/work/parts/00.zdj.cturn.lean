set_option maxRecDepth 100000
/-! ===== THE COMPONENT: layers change places ===== -/
/-- what a turn changes -/
def fTu (σ σ' : cS) : Prop := (∀ o j, ¬ (o = 74 ∧ j ≤ 8) → σ'.2.2 o j = σ.2.2 o j) ∧ (∀ o j, o ≠ 75 → o ≠ 79 → σ'.2.1 o j = σ.2.1 o j) ∧ (∀ o j, ¬ (o = 74 ∧ (j = 4 ∨ j = 9)) → σ'.1 o j = σ.1 o j)
section
variable {ka wa ma pa kb wb mb pb : Nat}
theorem cTurn2 (hA : ar2 ka wa ma pa kb wb mb pb) {L N : List En} : ∀ (Q P : List En) (f : Nat) (σ : cS), L = P ++ Q → Q.length < f → cCu σ ka wa ma pa → cNx σ kb wb mb pb → (∀ (k : Nat) (e : En), L[k]? = some e → σ.1 pa k = nz e.1) → (∀ e ∈ L, e.1 < 8192) → (∀ i, i < 8192 → (∀ e ∈ Q, e.1 ≠ i) → σ.2.1 ka i = 0) → cLy σ kb wb mb pb N → σ.1 74 4 = nz L.length → L.length ≤ 4096 → σ.1 74 9 = nz N.length →
    ∃ σ', fX6_turn_2 f (nz P.length) σ = some ((), σ') ∧ fTu σ σ' ∧ cCu σ' kb wb mb pb ∧ cNx σ' ka wa ma pa ∧ cLy σ' kb wb mb pb N ∧ cLy σ' ka wa ma pa [] ∧ σ'.1 74 4 = nz N.length ∧ σ'.1 74 9 = nz 0 := by
  obtain ⟨l1, l2, l3, l4⟩ := arr_la hA.a
  obtain ⟨m1, m2, m3, m4⟩ := arr_la hA.b
  have hka : ka = 75 ∨ ka = 79 := by rcases hA with ⟨rfl, -⟩ | ⟨rfl, -⟩ <;> simp
  have hkb : kb ≠ ka ∧ wb ≠ ka := by rcases hA with ⟨rfl, rfl, rfl, rfl, rfl, rfl, rfl, rfl⟩ | ⟨rfl, rfl, rfl, rfl, rfl, rfl, rfl, rfl⟩ <;> decide
  have h74 : ma ≠ 74 ∧ pa ≠ 74 ∧ mb ≠ 74 ∧ pb ≠ 74 := by rcases hA with ⟨rfl, rfl, rfl, rfl, rfl, rfl, rfl, rfl⟩ | ⟨rfl, rfl, rfl, rfl, rfl, rfl, rfl, rfl⟩ <;> decide
  intro Q
  induction Q with
  | nil =>
    intro P f σ hL hf hC hN hP hb hz hM h4 hl h9
    obtain ⟨f, rfl⟩ : ∃ e, f = e + 1 := ⟨f - 1, by omega⟩
    rw [List.append_nil] at hL
    obtain ⟨c1, c2, c3, c4⟩ := hC
    obtain ⟨n1, n2, n3, n4⟩ := hN
    unfold fX6_turn_2
    rw [h4, hL, if_pos (by rw [nz_le (by rw [← hL]; omega) (by rw [← hL]; omega)]; omega)]
    have rr : ∀ {x : Nat} {K : Nat → Option (Unit × cS)}, rR (some x) K = K x := rfl
    have wr : ∀ {τ : cS} {a b : Nat} {x : Option Nat} {K : cS → Option (Unit × cS)}, wR τ a b x K = K (stR τ a b x) := rfl
    have wi : ∀ {τ : cS} {a b : Nat} {x : Int32} {K : cS → Option (Unit × cS)}, wI τ a b x K = K (stI τ a b x) := rfl
    rw [c1, rr, ck_d l1, c2, rr, ck_d l2, c3, rr, ck_d l3, c4, rr, ck_d l4, n1, rr, ck_d m1, wr, show (stR σ 74 0 (some kb)).2.2 74 6 = some wb by simpa [gR] using n2, rr, ck_d m2, wr, show (stR (stR σ 74 0 (some kb)) 74 1 (some wb)).2.2 74 7 = some mb by simpa [gR] using n3, rr, ck_d m3, wr, show (stR (stR (stR σ 74 0 (some kb)) 74 1 (some wb)) 74 2 (some mb)).2.2 74 8 = some pb by simpa [gR] using n4, rr, ck_d m4, wr, wi, wr, wr, wr, wr, wi, show (stR (stR (stR (stR σ 74 0 (some kb)) 74 1 (some wb)) 74 2 (some mb)) 74 3 (some pb)).1 74 9 = nz N.length from h9]
    generalize hτ : stI (stR (stR (stR (stR (stI (stR (stR (stR (stR σ 74 0 (some kb)) 74 1 (some wb)) 74 2 (some mb)) 74 3 (some pb)) 74 4 (nz N.length)) 74 5 (some ka)) 74 6 (some wa)) 74 7 (some ma)) 74 8 (some pa)) 74 9 0 = τ
    have hL2 : τ.2.1 = σ.2.1 := by rw [← hτ]; rfl
    have hI : ∀ a b, ¬ (a = 74 ∧ (b = 4 ∨ b = 9)) → τ.1 a b = σ.1 a b := by
      intro a b hab
      rw [← hτ, gI]
      by_cases ha : a = 74
      · rw [if_pos ha, if_neg (fun q => hab ⟨ha, Or.inr q⟩)]
        show (stI (stR (stR (stR (stR σ 74 0 (some kb)) 74 1 (some wb)) 74 2 (some mb)) 74 3 (some pb)) 74 4 (nz N.length)).1 a b = _
        rw [gI, if_pos ha, if_neg (fun q => hab ⟨ha, Or.inl q⟩)]; rfl
      · rw [if_neg ha]
        show (stI (stR (stR (stR (stR σ 74 0 (some kb)) 74 1 (some wb)) 74 2 (some mb)) 74 3 (some pb)) 74 4 (nz N.length)).1 a b = _
        rw [gI, if_neg ha]; rfl
    have e4 : τ.1 74 4 = nz N.length := by
      rw [← hτ, gI, if_pos rfl, if_neg (by decide)]
      show (stI (stR (stR (stR (stR σ 74 0 (some kb)) 74 1 (some wb)) 74 2 (some mb)) 74 3 (some pb)) 74 4 (nz N.length)).1 74 4 = _
      rw [gI, if_pos rfl, if_pos rfl]
    have e9 : τ.1 74 9 = nz 0 := by rw [← hτ, gI, if_pos rfl, if_pos rfl]; rfl
    have hR : ∀ a b, ¬ (a = 74 ∧ b ≤ 8) → τ.2.2 a b = σ.2.2 a b := by
      intro a b hab
      rw [← hτ, gI_R, gR, gR, gR, gR, gI_R, gR, gR, gR, gR]
      by_cases ha : a = 74
      · have hb : 8 < b := by omega
        simp only [if_pos ha, if_neg (show ¬ b = 8 by omega), if_neg (show ¬ b = 7 by omega), if_neg (show ¬ b = 6 by omega), if_neg (show ¬ b = 5 by omega), if_neg (show ¬ b = 3 by omega), if_neg (show ¬ b = 2 by omega), if_neg (show ¬ b = 1 by omega), if_neg (show ¬ b = 0 by omega)]
      · simp only [if_neg ha]
    have hC' : cCu τ kb wb mb pb := by
      refine ⟨?_, ?_, ?_, ?_⟩ <;> (rw [← hτ, gI_R]; simp [gR, gI_R])
    have hN' : cNx τ ka wa ma pa := by
      refine ⟨?_, ?_, ?_, ?_⟩ <;> (rw [← hτ, gI_R]; simp [gR, gI_R])
    clear hτ
    refine ⟨τ, rfl, ⟨hR, fun o j _ _ => by rw [hL2], hI⟩, hC', hN', ?_, ⟨?_, ?_, ?_, ?_⟩, e4, e9⟩
    · exact cLy_f hM (fun j => by rw [hL2]) (fun j => by rw [hL2]) (fun j => hI _ _ (fun q => h74.2.2.1 q.1)) (fun j => hI _ _ (fun q => h74.2.2.2 q.1))
    · intro k e hk; cases hk
    · intro e he; cases he
    · intro i hi _; rw [hL2]; exact hz i hi (fun e he => by cases he)
    · exact List.nodup_nil
  | cons e Q ih =>
    intro P f σ hL hf hC hN hP hb hz hM h4 hl h9
    obtain ⟨f, rfl⟩ : ∃ e, f = e + 1 := ⟨f - 1, by omega⟩
    have hLl : L.length = P.length + Q.length + 1 := by rw [hL, List.length_append, List.length_cons]; omega
    have hget : L[P.length]? = some e := by rw [hL, List.getElem?_append_right (Nat.le_refl _), Nat.sub_self]; rfl
    have he := hP P.length e hget
    have he8 := hb e (List.mem_of_getElem? hget)
    conv => arg 1; ext σ'; arg 1; lhs; unfold fX6_turn_2
    rw [h4, if_neg (by rw [nz_le (by omega) (by omega)]; omega), hC.1]
    show ∃ σ', (ck (decide (cpLa ka = (4, 8192))) _) = _ ∧ _
    rw [ck_d l1, hC.2.2.2]
    show ∃ σ', (ck (decide (cpLa pa = (2, 4096))) _) = _ ∧ _
    rw [ck_d l4, ck_n (show P.length < 4096 by omega) (by omega), nz_tn (by omega), he, ck_n he8 (by omega), nz_tn (by omega), nz_s]
    show ∃ σ', fX6_turn_2 f (nz (P.length + 1)) (stL σ ka e.1 0) = _ ∧ _
    have hkk : ∀ a b, a ≠ ka → (stL σ ka e.1 0).2.1 a b = σ.2.1 a b := fun a b h => by rw [gL, if_neg h]
    obtain ⟨σ', i1, i2, i3⟩ := ih (P ++ [e]) f (stL σ ka e.1 0) (by rw [hL]; simp) (by simp only [List.length_cons] at hf; omega) hC hN hP hb (fun i hi hne => by
      rw [gL, if_pos rfl]
      by_cases hie : i = e.1
      · rw [if_pos hie]
      · rw [if_neg hie]
        exact hz i hi (fun x hx => by
          rcases List.mem_cons.mp hx with q | q
          · rw [q]; exact fun z => hie z.symm
          · exact hne x q)) (cLy_f hM (fun j => hkk _ _ hkb.1) (fun j => hkk _ _ hkb.2) (fun _ => rfl) (fun _ => rfl)) h4 hl h9
    rw [List.length_append] at i1
    exact ⟨σ', i1, ⟨i2.1, fun o j a b => (i2.2.1 o j a b).trans (hkk o j (by omega)), i2.2.2⟩, i3⟩
theorem cTurn (hA : ar2 ka wa ma pa kb wb mb pb) {L N : List En} {σ : cS} (hC : cCu σ ka wa ma pa) (hN : cNx σ kb wb mb pb) (hL : cLy σ ka wa ma pa L) (hM : cLy σ kb wb mb pb N) (h4 : σ.1 74 4 = nz L.length) (hl : L.length ≤ 4096) (h9 : σ.1 74 9 = nz N.length) :
    ∃ σ', fX6_turn σ = some ((), σ') ∧ fTu σ σ' ∧ cCu σ' kb wb mb pb ∧ cNx σ' ka wa ma pa ∧ cLy σ' kb wb mb pb N ∧ cLy σ' ka wa ma pa [] ∧ σ'.1 74 4 = nz N.length ∧ σ'.1 74 9 = nz 0 :=
  cTurn2 hA (L := L) L [] FU σ rfl (by unfold FU; omega) hC hN hL.1 (fun e he => (hL.2.1 e he).1) hL.2.2.1 hM h4 hl h9
end
