set_option maxRecDepth 100000
theorem nl_add (a b : Nat) : nl a + nl b = nl (a + b) := (Int64.ofNat_add a b).symm
section
variable {ka wa ma pa : Nat}
theorem k121 (hA : arr ka wa ma pa) {σ : cS} (hN : cNx σ ka wa ma pa) {j : Nat} (hj : j < 8192) (a1 : Int64) (a2 : Int32) : fX6_keep_121 a1 a2 (nz j) σ = some ((), stI (stL σ wa j (σ.2.1 wa j + a1)) ma j (σ.1 ma j + a2)) := by
  obtain ⟨l1, l2, l3, l4⟩ := arr_la hA
  unfold fX6_keep_121
  rw [hN.2.1]
  show ck (decide (cpLa wa = (4, 8192))) _ = _
  rw [l2, ck_t (by decide), ck_n hj (by omega), ck_n hj (by omega), nz_tn (by omega)]
  show rR ((stL σ wa j (σ.2.1 wa j + a1)).2.2 74 7) _ = _
  rw [show (stL σ wa j (σ.2.1 wa j + a1)).2.2 74 7 = some ma from hN.2.2.1]
  show ck (decide (cpLa ma = (2, 8192))) _ = _
  rw [l3, ck_t (by decide), ck_n hj (by omega), ck_n hj (by omega)]
  rfl
theorem arr_ne (hA : arr ka wa ma pa) : ka ≠ wa ∧ ma ≠ pa ∧ ma ≠ 74 ∧ pa ≠ 74 := by
  rcases hA with ⟨rfl, rfl, rfl, rfl⟩ | ⟨rfl, rfl, rfl, rfl⟩ <;> decide
theorem cKeep (hA : arr ka wa ma pa) {σ : cS} {L : List En} {c : Cfg} {w m : Nat} (hN : cNx σ ka wa ma pa) (hL : cLy σ ka wa ma pa L) (hl : L.length < 4096) (hcnt : σ.1 74 9 = nz L.length) (hr : cRu σ c) (hc : cfO c) :
    ∃ σ' L', fX6_keep (nl w) (nz m) σ = some ((), σ') ∧ adL L c w m L' ∧ cLy σ' ka wa ma pa L' ∧ σ'.1 74 9 = nz L'.length ∧ fKp ka wa ma pa σ σ' := by
  obtain ⟨l1, l2, l3, l4⟩ := arr_la hA
  obtain ⟨n1, n2, n3, n4⟩ := arr_ne hA
  obtain ⟨kp1, kp2⟩ := key_pos hc.2.2 (by have := hc.1; omega) (by have := hc.2.1; omega)
  unfold fX6_keep
  rw [cPacked hr (by have := hc.1; omega) (by have := hc.2.1; omega), bd_s]
  obtain ⟨i, hi, ei⟩ := and8191 ((((nl (key c) ^^^ (((nl (key c)).toUInt64 >>> ((29 : Int32).toInt64.toUInt64 &&& Int64.toUInt64 63)).toInt64)) * 2654435769).toUInt64 >>> ((19 : Int32).toInt64.toUInt64 &&& Int64.toUInt64 63)).toInt64).toInt32
  rw [ei]
  obtain ⟨j, j1, j2, j3⟩ := cSlot (key0 := nl (key c)) (a1 := nl w) (a2 := nz m) hA hN hL (by omega) 0 FU i hi (fun s hs => by omega) (by omega) (by unfold FU; omega)
  rw [j3]
  unfold fX6_keep_66
  have rT : ∀ (K : Nat → Option (Unit × cS)), rR (σ.2.2 74 5) K = K ka := fun K => by rw [hN.1]; rfl
  rw [rT, l1, ck_t (by decide), ck_n j1 (by omega), nz_tn (by omega)]
  by_cases h0 : σ.2.1 ka j = 0
  · -- a new entry
    have hnj : ∀ e ∈ L, e.1 ≠ j := by
      intro e he q
      obtain ⟨x1, x2, x3, x4, x5⟩ := hL.2.1 e he
      rw [q, h0] at x2
      exact (key_pos x5.2.2 (by have := x5.1; omega) (by have := x5.2.1; omega)).1 x2.symm
    rw [if_pos (lgc0.mpr h0), rT, l1, ck_t (by decide), ck_n j1 (by omega)]
    show ∃ σ' L', rR ((stL σ ka j (nl (key c))).2.2 74 6) _ = _ ∧ _
    rw [show (stL σ ka j (nl (key c))).2.2 74 6 = some wa from hN.2.1]
    show ∃ σ' L', ck (decide (cpLa wa = (4, 8192))) _ = _ ∧ _
    rw [l2, ck_t (by decide), ck_n j1 (by omega)]
    show ∃ σ' L', rR ((stL (stL σ ka j (nl (key c))) wa j 0).2.2 74 7) _ = _ ∧ _
    rw [show (stL (stL σ ka j (nl (key c))) wa j 0).2.2 74 7 = some ma from hN.2.2.1]
    show ∃ σ' L', ck (decide (cpLa ma = (2, 8192))) _ = _ ∧ _
    rw [l3, ck_t (by decide), ck_n j1 (by omega)]
    show ∃ σ' L', rR ((stI (stL (stL σ ka j (nl (key c))) wa j 0) ma j 0).2.2 74 8) _ = _ ∧ _
    rw [show (stI (stL (stL σ ka j (nl (key c))) wa j 0) ma j 0).2.2 74 8 = some pa from hN.2.2.2]
    show ∃ σ' L', ck (decide (cpLa pa = (2, 4096))) _ = _ ∧ _
    have e9 : (stI (stL (stL σ ka j (nl (key c))) wa j 0) ma j 0).1 74 9 = nz L.length := by
      rw [gI, if_neg (fun q => n3 q.symm)]; exact hcnt
    rw [l4, ck_t (by decide), e9, nz_s, wI_e, ck_n hl (by omega), nz_tn (by omega), wI_e]
    have hN2 : cNx (stI (stI (stI (stL (stL σ ka j (nl (key c))) wa j 0) ma j 0) 74 9 (nz (L.length + 1))) pa L.length (nz j)) ka wa ma pa := hN
    rw [k121 hA hN2 j1]
    generalize hτ : stI (stL (stI (stI (stI (stL (stL σ ka j (nl (key c))) wa j 0) ma j 0) 74 9 (nz (L.length + 1))) pa L.length (nz j)) wa j ((stI (stI (stI (stL (stL σ ka j (nl (key c))) wa j 0) ma j 0) 74 9 (nz (L.length + 1))) pa L.length (nz j)).2.1 wa j + nl w)) ma j ((stI (stI (stI (stL (stL σ ka j (nl (key c))) wa j 0) ma j 0) 74 9 (nz (L.length + 1))) pa L.length (nz j)).1 ma j + nz m) = τ
    have hI : ∀ a b, a ≠ ma → a ≠ pa → ¬ (a = 74 ∧ b = 9) → τ.1 a b = σ.1 a b := by
      intro a b h1 h2 h3
      rw [← hτ, gI, if_neg h1, gL_I, gI, if_neg h2, gI]
      by_cases ha : a = 74
      · rw [if_pos ha, if_neg (fun q => h3 ⟨ha, q⟩), gI, if_neg h1]; rfl
      · rw [if_neg ha, gI, if_neg h1]; rfl
    have hM1 : τ.1 ma j = nz m := by
      rw [← hτ, gI, if_pos rfl, if_pos rfl, gI, if_neg n2, gI, if_neg n3, gI, if_pos rfl, if_pos rfl, Int32.zero_add]
    have hM : ∀ b, b ≠ j → τ.1 ma b = σ.1 ma b := by
      intro b hb
      rw [← hτ, gI, if_pos rfl, if_neg hb, gL_I, gI, if_neg n2, gI, if_neg n3, gI, if_pos rfl, if_neg hb]; rfl
    have hP1 : τ.1 pa L.length = nz j := by
      rw [← hτ, gI, if_neg (fun q => n2 q.symm), gL_I, gI, if_pos rfl, if_pos rfl]
    have hP : ∀ b, b ≠ L.length → τ.1 pa b = σ.1 pa b := by
      intro b hb
      rw [← hτ, gI, if_neg (fun q => n2 q.symm), gL_I, gI, if_pos rfl, if_neg hb, gI, if_neg n4, gI, if_neg (fun q => n2 q.symm)]; rfl
    have h9 : τ.1 74 9 = nz (L.length + 1) := by
      rw [← hτ, gI, if_neg (fun q => n3 q.symm), gL_I, gI, if_neg (fun q => n4 q.symm), gI, if_pos rfl, if_pos rfl]
    have hK1 : τ.2.1 ka j = nl (key c) := by
      rw [← hτ, gI_L, gL, if_neg n1, gI_L, gI_L, gI_L, gL, if_neg n1, gL, if_pos rfl, if_pos rfl]
    have hK : ∀ b, b ≠ j → τ.2.1 ka b = σ.2.1 ka b := by
      intro b hb
      rw [← hτ, gI_L, gL, if_neg n1, gI_L, gI_L, gI_L, gL, if_neg n1, gL, if_pos rfl, if_neg hb]
    have hW1 : τ.2.1 wa j = nl w := by
      rw [← hτ, gI_L, gL, if_pos rfl, if_pos rfl, gI_L, gI_L, gI_L, gL, if_pos rfl, if_pos rfl, Int64.zero_add]
    have hW : ∀ b, b ≠ j → τ.2.1 wa b = σ.2.1 wa b := by
      intro b hb
      rw [← hτ, gI_L, gL, if_pos rfl, if_neg hb, gI_L, gI_L, gI_L, gL, if_pos rfl, if_neg hb, gL, if_neg (fun q => n1 q.symm)]
    have hO : ∀ a b, a ≠ ka → a ≠ wa → τ.2.1 a b = σ.2.1 a b := by
      intro a b h1 h2
      rw [← hτ, gI_L, gL, if_neg h2, gI_L, gI_L, gI_L, gL, if_neg h2, gL, if_neg h1]
    have hR : τ.2.2 = σ.2.2 := by rw [← hτ]; rfl
    clear hτ
    refine ⟨τ, L ++ [(j, c, w, m)], rfl, Or.inr ⟨j, rfl⟩, ⟨?_, ?_, ?_, ?_⟩, ?_, ⟨hR, hO, hI⟩⟩
    · intro k e hk
      by_cases hkl : k < L.length
      · rw [List.getElem?_append_left hkl] at hk
        rw [hP k (by omega)]; exact hL.1 k e hk
      · rw [List.getElem?_append_right (by omega)] at hk
        have hk0 : k - L.length = 0 := by
          have := (List.getElem?_eq_some_iff.mp hk).1
          simp at this; omega
        rw [hk0] at hk
        simp at hk
        rw [show k = L.length by omega, hP1, ← hk]
    · intro e he
      rcases List.mem_append.mp he with q | q
      · obtain ⟨x1, x2, x3, x4, x5⟩ := hL.2.1 e q
        have hne := hnj e q
        exact ⟨x1, by rw [hK _ hne]; exact x2, by rw [hW _ hne]; exact x3, by rw [hM _ hne]; exact x4, x5⟩
      · simp at q
        subst q
        exact ⟨j1, hK1, hW1, hM1, hc⟩
    · intro b hb hne
      have hbj : b ≠ j := fun q => hne (j, c, w, m) (by simp) q.symm
      rw [hK b hbj]
      exact hL.2.2.1 b hb (fun e he => hne e (List.mem_append_left _ he))
    · rw [List.map_append]
      refine List.nodup_append.mpr ⟨hL.2.2.2, by simp, ?_⟩
      intro a ha b hb
      simp at hb
      obtain ⟨e, he, rfl⟩ := List.mem_map.mp ha
      rw [hb]; exact hnj e he
    · rw [h9, List.length_append]; rfl
  · -- an entry grows
    have h1 : σ.2.1 ka j = nl (key c) := j2.resolve_left h0
    rw [if_neg (fun q => h0 (lgc0.mp q)), k121 hA hN j1]
    have hex : ∃ e ∈ L, e.1 = j := by
      apply Classical.byContradiction
      intro hno
      exact h0 (hL.2.2.1 j j1 (fun e he q => hno ⟨e, he, q⟩))
    obtain ⟨⟨s0, c0, w0, m0⟩, he, hej⟩ := hex
    simp only at hej
    subst hej
    obtain ⟨x1, x2, x3, x4, x5⟩ := hL.2.1 _ he
    simp only at x1 x2 x3 x4 x5
    have hcc : c0 = c := by
      refine key_inj x5 hc (nl_inj (key_pos x5.2.2 (by have := x5.1; omega) (by have := x5.2.1; omega)).2 kp2 ?_)
      rw [← x2, h1]
    subst hcc
    obtain ⟨A, Bb, hAB⟩ := List.append_of_mem he
    rw [x3, x4, nl_add, nz_add]
    generalize hτ : stI (stL σ wa s0 (nl (w0 + w))) ma s0 (nz (m0 + m)) = τ
    have hM1 : τ.1 ma s0 = nz (m0 + m) := by rw [← hτ, gI, if_pos rfl, if_pos rfl]
    have hM : ∀ a b, ¬ (a = ma ∧ b = s0) → τ.1 a b = σ.1 a b := by
      intro a b hab
      rw [← hτ, gI]
      by_cases ha : a = ma
      · rw [if_pos ha, if_neg (fun q => hab ⟨ha, q⟩)]; rfl
      · rw [if_neg ha]; rfl
    have hW1 : τ.2.1 wa s0 = nl (w0 + w) := by rw [← hτ, gI_L, gL, if_pos rfl, if_pos rfl]
    have hW : ∀ a b, ¬ (a = wa ∧ b = s0) → τ.2.1 a b = σ.2.1 a b := by
      intro a b hab
      rw [← hτ, gI_L, gL]
      by_cases ha : a = wa
      · rw [if_pos ha, if_neg (fun q => hab ⟨ha, q⟩)]
      · rw [if_neg ha]
    have hR : τ.2.2 = σ.2.2 := by rw [← hτ]; rfl
    clear hτ
    have hnd := hL.2.2.2
    rw [hAB, List.map_append, List.map_cons] at hnd
    obtain ⟨nd1, nd2, nd3⟩ := List.nodup_append.mp hnd
    have ndB := (List.nodup_cons.mp nd2).1
    have hneA : ∀ e ∈ A, e.1 ≠ s0 := fun e he q => nd3 e.1 (List.mem_map.mpr ⟨e, he, rfl⟩) s0 List.mem_cons_self q
    have hneB : ∀ e ∈ Bb, e.1 ≠ s0 := fun e he q => ndB (List.mem_map.mpr ⟨e, he, q⟩)
    refine ⟨τ, A ++ (s0, c0, w0 + w, m0 + m) :: Bb, rfl, Or.inl ⟨A, Bb, s0, w0, m0, hAB, rfl⟩, ⟨?_, ?_, ?_, ?_⟩, ?_, ⟨hR, fun a b _ h2 => hW a b (fun q => h2 q.1), fun a b h2 _ _ => hM a b (fun q => h2 q.1)⟩⟩
    · intro k e hk
      rw [hM _ _ (fun q => n2 q.1.symm)]
      by_cases hkA : k = A.length
      · rw [hkA, List.getElem?_append_right (Nat.le_refl _), Nat.sub_self] at hk
        simp at hk
        have := hL.1 A.length (s0, c0, w0, m0) (by rw [hAB, List.getElem?_append_right (Nat.le_refl _), Nat.sub_self]; rfl)
        rw [hkA, this, ← hk]
      · refine hL.1 k e ?_
        rw [hAB]
        by_cases hlt : k < A.length
        · rw [List.getElem?_append_left hlt] at hk ⊢; exact hk
        · rw [List.getElem?_append_right (by omega)] at hk ⊢
          obtain ⟨z, hz⟩ : ∃ z, k - A.length = z + 1 := ⟨k - A.length - 1, by omega⟩
          rw [hz, List.getElem?_cons_succ] at hk ⊢
          exact hk
    · intro e hm
      rcases List.mem_append.mp hm with q | q
      · obtain ⟨y1, y2, y3, y4, y5⟩ := hL.2.1 e (by rw [hAB]; exact List.mem_append_left _ q)
        have hne := hneA e q
        exact ⟨y1, by rw [hW _ _ (fun z => n1 z.1)]; exact y2, by rw [hW _ _ (fun z => hne z.2)]; exact y3, by rw [hM _ _ (fun z => hne z.2)]; exact y4, y5⟩
      · rcases List.mem_cons.mp q with q | q
        · subst q
          exact ⟨x1, by rw [hW _ _ (fun z => n1 z.1)]; exact x2, hW1, hM1, x5⟩
        · obtain ⟨y1, y2, y3, y4, y5⟩ := hL.2.1 e (by rw [hAB]; exact List.mem_append_right _ (List.mem_cons_of_mem _ q))
          have hne := hneB e q
          exact ⟨y1, by rw [hW _ _ (fun z => n1 z.1)]; exact y2, by rw [hW _ _ (fun z => hne z.2)]; exact y3, by rw [hM _ _ (fun z => hne z.2)]; exact y4, y5⟩
    · intro b hb hne
      rw [hW _ _ (fun z => n1 z.1)]
      refine hL.2.2.1 b hb (fun e hm => ?_)
      rw [hAB] at hm
      rcases List.mem_append.mp hm with q | q
      · exact hne e (List.mem_append_left _ q)
      · rcases List.mem_cons.mp q with q | q
        · rw [q]; exact hne (s0, c0, w0 + w, m0 + m) (by simp)
        · exact hne e (List.mem_append_right _ (List.mem_cons_of_mem _ q))
    · rw [List.map_append, List.map_cons]; exact hnd
    · rw [hM _ _ (fun q => n3 q.1.symm), hcnt, hAB]
      simp
end
