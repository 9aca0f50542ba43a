set_option maxRecDepth 100000
/-! ===== THE COMPONENT: a run ends ===== -/
/-- results so far -/
def cRs (σ : cS) (A S X D : Nat) (lg wd : Bool) (G : Nat → Nat) : Prop := σ.1 74 14 = nz A ∧ σ.1 74 15 = nz S ∧ σ.1 74 16 = nz X ∧ σ.1 74 17 = nz D ∧ σ.1 74 18 = bi lg ∧ σ.1 74 19 = bi wd ∧ X ≤ 60 ∧ D ≤ 7 ∧ ∀ a, a < 100 → σ.2.1 86 a = nl (G a)
theorem nl_sh16 {w d : Nat} (hd : d ≤ 7) : nl w <<< (((4 : Int32) * ((7 : Int32) - nz d)).toInt64 &&& 63) = nl (w * 16 ^ (7 - d)) := by
  have : d = 0 ∨ d = 1 ∨ d = 2 ∨ d = 3 ∨ d = 4 ∨ d = 5 ∨ d = 6 ∨ d = 7 := by omega
  rcases this with h | h | h | h | h | h | h | h <;> subst h
  · exact nl_shl (k := 28) (by decide) (by omega)
  · exact nl_shl (k := 24) (by decide) (by omega)
  · exact nl_shl (k := 20) (by decide) (by omega)
  · exact nl_shl (k := 16) (by decide) (by omega)
  · exact nl_shl (k := 12) (by decide) (by omega)
  · exact nl_shl (k := 8) (by decide) (by omega)
  · exact nl_shl (k := 4) (by decide) (by omega)
  · exact nl_shl (k := 0) (by decide) (by omega)
/-- what an end changes -/
def fEn (σ σ' : cS) : Prop := σ'.2.2 = σ.2.2 ∧ (∀ o j, o ≠ 86 → σ'.2.1 o j = σ.2.1 o j) ∧ (∀ o j, o ≠ 83 → o ≠ 84 → ¬ (o = 74 ∧ 14 ≤ j ∧ j ≤ 22) → σ'.1 o j = σ.1 o j)
theorem fEn.tr {σ σ1 σ2 : cS} (h : fEn σ σ1) (h' : fEn σ1 σ2) : fEn σ σ2 := ⟨h'.1.trans h.1, fun o j a => (h'.2.1 o j a).trans (h.2.1 o j a), fun o j a b c => (h'.2.2 o j a b c).trans (h.2.2 o j a b c)⟩
theorem fEn_I {σ : cS} {j : Nat} {v : Int32} (h : 14 ≤ j ∧ j ≤ 22) : fEn σ (stI σ 74 j v) := ⟨rfl, fun _ _ _ => rfl, fun o k _ _ c => by
  rw [gI]
  by_cases ha : o = 74
  · rw [if_pos ha, if_neg (by omega)]
  · rw [if_neg ha]⟩
theorem fEn_R {σ σ' : cS} (h : fRu σ σ') : fEn σ σ' := ⟨by rw [h.1], fun _ _ _ => by rw [h.1], fun o j a b c => h.2 o j a b (by omega)⟩
theorem fEn_L {σ : cS} {j : Nat} {v : Int64} : fEn σ (stL σ 86 j v) := ⟨rfl, fun o k h => by rw [gL, if_neg h], fun _ _ _ _ _ => rfl⟩
theorem fEn.q {σ σ' : cS} (h : fEn σ σ') : fQ σ σ' := fun o j ho => h.2.2 o j (by omega) (by omega) (by omega)
theorem i32max {a b : Nat} (ha : a < 1000) (hb : b < 1000) : (if nz a < nz b then nz b else nz a) = nz (max a b) := by
  by_cases h : a < b
  · rw [if_pos (by rw [nz_lt (by omega) (by omega)]; exact h)]; congr 1; omega
  · rw [if_neg (by rw [nz_lt (by omega) (by omega)]; exact h)]; congr 1; omega
section
variable {o : Nat} {C : List Cd} {ch : List Int32} {Y : List Sy} {F : List Fn} {R : List Int32}
theorem cEnd {σ : cS} {c : Cfg} {w m n A S X D : Nat} {lg wd : Bool} {G : Nat → Nat} (h : cQn σ o C ch Y F R) (hr : cRu σ c) (hd : c.2.2.1 ≤ 7) (hn : n ≤ 60) (hs : cRs σ A S X D lg wd G) :
    ∃ σ', fX6_end o (nl w) (nz m) (nz n) σ = some ((), σ') ∧ fEn σ σ' ∧ cRs σ' (A + m) (S + if c.2.2.2 = true then m else 0) (max X n) (max D c.2.2.1) lg wd (fun a => G a + if c.2.2.2 = true ∧ nz a = val (vof c.2.1) (clf F (fv F (nuf R)) F.length) (nuf R) Y then w * 16 ^ (7 - c.2.2.1) else 0) := by
  obtain ⟨s1, s2, s3, s4, s5, s6, s7, s8, s9⟩ := hs
  obtain ⟨r1, r2, r3, r4, r5⟩ := hr
  have fin : ∀ (y : Nat), ∃ σ3, fX6_end_29 o (nl w) (nz m) (nz n) (nz y) ((stI σ 74 14 (nz (A + m))).1 74 15) (stI σ 74 14 (nz (A + m))) = (if c.2.2.2 = true then (bd (fX6_asked o σ3) fun r5 σ4 => ck (inB r5 100) <| ck (inB r5 100) <| wL σ4 86 r5.toNatClampNeg ((σ4.2.1 86 r5.toNatClampNeg) + (nl w <<< (((4 : Int32) * ((7 : Int32) - (σ4.1 74 21))).toInt64 &&& 63))) fun σ6 => some ((), σ6)) else some ((), σ3)) ∧ fEn σ σ3 ∧ cRu σ3 c ∧ cRs σ3 (A + m) (S + y) (max X n) (max D c.2.2.1) lg wd G := by
    intro y
    have e15 : (stI σ 74 14 (nz (A + m))).1 74 15 = nz S := by simpa [gI] using s2
    unfold fX6_end_29
    rw [e15, nz_add, wI_e]
    have e16 : (stI (stI σ 74 14 (nz (A + m))) 74 15 (nz (S + y))).1 74 16 = nz X := by simpa [gI] using s3
    rw [e16, i32max (by omega) (by omega), wI_e]
    have e17 : (stI (stI (stI σ 74 14 (nz (A + m))) 74 15 (nz (S + y))) 74 16 (nz (max X n))).1 74 17 = nz D := by simpa [gI] using s4
    have e21 : (stI (stI (stI σ 74 14 (nz (A + m))) 74 15 (nz (S + y))) 74 16 (nz (max X n))).1 74 21 = nz c.2.2.1 := by simpa [gI] using r2
    rw [e17, e21, i32max (by omega) (by omega), wI_e]
    have e22 : (stI (stI (stI (stI σ 74 14 (nz (A + m))) 74 15 (nz (S + y))) 74 16 (nz (max X n))) 74 17 (nz (max D c.2.2.1))).1 74 22 = bi c.2.2.2 := by simpa [gI] using r3
    rw [e22]
    refine ⟨stI (stI (stI (stI σ 74 14 (nz (A + m))) 74 15 (nz (S + y))) 74 16 (nz (max X n))) 74 17 (nz (max D c.2.2.1)), ?_, (((fEn_I (by omega)).tr (fEn_I (by omega))).tr (fEn_I (by omega))).tr (fEn_I (by omega)), ⟨by simpa [gI] using r1, by simpa [gI] using r2, e22, r4, fun a ha => by simpa [gI] using r5 a ha⟩, ⟨by simp [gI], by simp [gI], by simp [gI], by simp [gI], by simpa [gI] using s5, by simpa [gI] using s6, by omega, by omega, s9⟩⟩
    cases c.2.2.2 with
    | true => rw [show bi true = 1 from rfl, if_neg (by decide), if_pos rfl]
    | false => rw [show bi false = 0 from rfl, if_pos rfl, if_neg (by decide)]
  unfold fX6_end
  rw [h.1.1, ck_t (by decide), s1, nz_add, wI_e]
  have e22 : (stI σ 74 14 (nz (A + m))).1 74 22 = bi c.2.2.2 := by simpa [gI] using r3
  rw [e22]
  by_cases hok : c.2.2.2 = true
  · obtain ⟨σ3, g1, g2, g3, g4⟩ := fin m
    rw [hok, show bi true = 1 from rfl, if_neg (by decide), g1, if_pos hok]
    obtain ⟨σ4, k1, k2⟩ := cAsk (cQn_Q h g2.q) g3
    obtain ⟨e1, e2, e3, e4⟩ := h.env
    obtain ⟨x, hx, ex⟩ := val_n ⟨fun a _ => vof_n r4 a, e3, e4⟩ (sV_wf h.2.2.1.2.2.1).1
    have q21 : σ4.1 74 21 = nz c.2.2.1 := (k2.2 74 21 (by decide)).trans g3.2.1
    obtain ⟨t1, t2, t3, t4, t5, t6, t7, t8, t9⟩ := g4
    rw [k1, bd_s, ex, ck_n hx (by omega), ck_n hx (by omega), nz_tn (by omega), q21, nl_sh16 hd]
    have q86 : σ4.2.1 86 x = nl (G x) := by rw [k2.1]; exact t9 x hx
    rw [q86, nl_add]
    have kk : ∀ j, σ4.1 74 j = σ3.1 74 j := fun j => k2.2 74 j (by decide)
    refine ⟨_, rfl, (g2.tr (fEn_R (fRu_84 k2))).tr fEn_L, ⟨(kk 14).trans t1, ?_, (kk 16).trans t3, (kk 17).trans t4, (kk 18).trans t5, (kk 19).trans t6, t7, t8, fun a ha => ?_⟩⟩
    · rw [if_pos rfl]; exact (kk 15).trans t2
    · show (stL σ4 86 x _).2.1 86 a = _
      rw [gL, if_pos rfl]
      simp only
      by_cases hax : a = x
      · rw [if_pos hax, hax, if_pos ⟨trivial, rfl⟩]
      · rw [if_neg hax, if_neg (fun z => hax ((nz_inj (by omega) (by omega)).mp z.2)), Nat.add_zero, k2.1]; exact t9 a ha
  · obtain ⟨σ3, g1, g2, g3, g4⟩ := fin 0
    rw [show c.2.2.2 = false by simpa using hok] at g1 ⊢
    rw [show bi false = 0 from rfl, if_pos rfl, show (0 : Int32) = nz 0 from rfl, g1, if_neg (by decide)]
    refine ⟨σ3, rfl, g2, ?_⟩
    simpa using g4
end
