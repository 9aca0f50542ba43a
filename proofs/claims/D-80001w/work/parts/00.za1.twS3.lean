set_option maxRecDepth 100000
/-! ===== THE TWIN READS STATEMENTS: one statement ===== -/
theorem osz_le (c : Cd) : osz c ≤ c.2.2.1.length + 3 := by
  unfold osz
  split
  · omega
  · split <;> omega
section
variable {tk n : Nat} {tx : Nat → Int32} {nm : Nat → Int32} {nF B : Nat} {sz : Int32} {a1 : Nat}
def tPS (B tk n : Nat) (tx : Nat → Int32) (nm : Nat → Int32) (nF : Nat) (a1 : Nat) (sz : Int32) (d : Nat) : Prop := ∀ σ i w o g b st nc dm ch cb f, tMH B tk n tx nm nF σ i w o g b st nc dm ch f → cb ≤ 2 * st → 2 * nbr n tx i + 3 ≤ 3 * d → (pk n tx i = 125 → b = 0) → (pk n tx i = -1 → b ≠ 0 ∨ st = 0) → tMR B a1 sz n tx nm nF σ cb i o g b nc dm f (fX11_readModel_31 a1 sz f 1 1 σ) ((pS n tx d).1 b i w st cb ch)
theorem tBody {d : Nat} (hB : B ≤ 9000) (hP : tPS B tk n tx nm nF a1 sz d) {σ : cS} {j : Nat} {w : Option Nat} {o g b st nc dm : Nat} {ch : List Int32} {cb f : Nat} (H : tMH B tk n tx nm nF σ j w o g (b + 1) st nc dm ch f) (hcb : cb ≤ 2 * st) (hd : 2 * nbr n tx j + 3 ≤ 3 * d) :
    tBR B a1 sz n tx nm nF σ cb j o g (b + 1) nc dm f (fX11_readModel_31 a1 sz f 1 1 σ) (pBlp n tx (pS n tx d).1 b FU j w st cb [] ch [123]) := by
  refine tBlp (i0 := j) (st0 := st) hB (pS_facts d).1 (pS_m d).1 (fun σ i w o g st nc dm ch cb f H hn hc hp => hP _ _ _ _ _ _ _ _ _ _ _ _ H hc (by omega) (fun q => absurd q hp) (fun _ => Or.inl (by omega))) hcb FU j w st [] ch [] σ f g nc [] (Nat.le_refl _) ?_ (Nat.le_refl _) ?_ (fun c hc => by cases hc) GJ_nil (by simp) tMF.rf tOA_nil rfl (fun _ => rfl) trivial (Nat.le_refl _) GI_nil ?_ (Nat.le_refl _) (Nat.le_refl _)
  · have := nbr_le (n := n) (tx := tx) (i := j)
    have := H.2.1
    have : n ≤ 600 := H.2.2.2.2.2.1.1.2.2.2.2.2.1
    unfold FU; omega
  · simpa [dn] using H
  · intro D hD; rfl
/-- the head of a statement: counted, its sign passed, its first order put -/
theorem tHead {σ : cS} {i : Nat} {w : Option Nat} {o g b st nc dm : Nat} {ch : List Int32} (c : Int32) (M : tMS σ i w o g b st nc dm ch) (hn6 : n ≤ 600) (hi : i < n) (hst : st ≤ 1000) (ho : o < 12000) (hwg : wG n w) :
    ∃ σ', fX11_readStatement_35 c (nz i) σ = (bd (fX11_isVar c σ') fun r5 σ4 => if r5 = 0 then (bd (fX11_readE σ4) fun r7 σ6 => if r7 = 0 then (some (0, σ6)) else if c = 35 then (bd (fX11_put 12 0 σ6) fun _ σ14 => bd (fX11_take 59 σ14) fun r17 σ16 => ck (bz r17) <| some (r17, σ16)) else bd (fX11_put 13 0 σ6) fun _ σ8 => if c = 63 then (bd (fX11_openBlock 1 (nz o) ((σ8.1 0 11) - 1) σ8) fun r13 σ12 => ck (bz r13) <| some (r13, σ12)) else bd (fX11_openBlock 3 (nz o) ((σ8.1 0 11) - 1) σ8) fun r11 σ10 => ck (bz r11) <| some (r11, σ10)) else bd (fX11_readVar (c - 97) (nz i) σ4) fun r19 σ18 => ck (bz r19) <| some (r19, σ18)) ∧
      tMS σ' (i + 1) (ntb (decide (40 < st + 1)) w i) (o + 1) g b (st + 1) nc dm ch ∧ (∀ x y z t, tMF o x y z t σ σ') ∧ tOA σ' o [(8, 0)] ∧ wG n (ntb (decide (40 < st + 1)) w i) := by
  unfold fX11_readStatement_35
  rw [wI_e, M.sm, nz_s]
  have M1 := M.sSt (st + 1)
  have F1 : ∀ x y z t, tMF o x y z t σ (stI σ 0 42 (nz (st + 1))) := fun x y z t => tMF_I (by omega)
  have key : ∀ (σ2 : cS) (w' : Option Nat), tMS σ2 i w' o g b (st + 1) nc dm ch → (∀ x y z t, tMF o x y z t σ σ2) → wG n w' → ∃ σ', fX11_readStatement_59 c (nz i) σ2 = (bd (fX11_isVar c σ') fun r5 σ4 => if r5 = 0 then (bd (fX11_readE σ4) fun r7 σ6 => if r7 = 0 then (some (0, σ6)) else if c = 35 then (bd (fX11_put 12 0 σ6) fun _ σ14 => bd (fX11_take 59 σ14) fun r17 σ16 => ck (bz r17) <| some (r17, σ16)) else bd (fX11_put 13 0 σ6) fun _ σ8 => if c = 63 then (bd (fX11_openBlock 1 (nz o) ((σ8.1 0 11) - 1) σ8) fun r13 σ12 => ck (bz r13) <| some (r13, σ12)) else bd (fX11_openBlock 3 (nz o) ((σ8.1 0 11) - 1) σ8) fun r11 σ10 => ck (bz r11) <| some (r11, σ10)) else bd (fX11_readVar (c - 97) (nz i) σ4) fun r19 σ18 => ck (bz r19) <| some (r19, σ18)) ∧
      tMS σ' (i + 1) w' (o + 1) g b (st + 1) nc dm ch ∧ (∀ x y z t, tMF o x y z t σ σ') ∧ tOA σ' o [(8, 0)] ∧ wG n w' := by
    intro σ2 w' M2 F2 hw'
    unfold fX11_readStatement_59
    have M3 := M2.go (i + 1)
    rw [wI_e, M2.B.at, nz_s, tPut M3.B.od ho, bd_s, M3.B.od]
    exact ⟨_, rfl, M3.put 8 0, fun x y z t => ((F2 x y z t).tq (tMF_I (by omega))).tq (tMF_O (Nat.le_refl _)), tOA_one, hw'⟩
  rw [M1.sm, show (40 : Int32) = nz 40 from rfl]
  by_cases h40 : 40 < st + 1
  · rw [if_neg (by rw [nz_le (by omega) (by omega)]; omega), tBlame M1.B.fa hwg hn6 (by omega), bd_s, decide_eq_true h40]
    exact key _ _ (M1.sFa _ nt_nn) (fun x y z t => (F1 x y z t).tq (tMF_I (by omega))) (wG_nt hwg hi)
  · rw [if_pos (by rw [nz_le (by omega) (by omega)]; omega), decide_eq_false h40]
    exact key _ _ M1 F1 hwg
/-- a block is closed -/
theorem tClB {σ : cS} {i : Nat} {w : Option Nat} {o g b st nc dm : Nat} {ch : List Int32} {h : Nat} {so be : Int32} (M : tMS σ i w o g (b + 1) st nc dm ch) (hb : b < 400) (h18 : σ.1 18 b = so) (h19 : σ.1 19 b = be) (h20 : σ.1 20 b = nz h) (hh : h < 12000) :
    ∃ σ2, tMS σ2 (i + 1) w o g b st nc dm ch ∧ (∀ x y z t u, tMF x y z t u σ σ2) ∧ fX11_closeBlock σ = (if so = 3 then (bd (fX11_put 14 be σ2) fun _ σ12 => wI σ12 3 h (σ12.1 0 11) fun σ14 => some (1, σ14)) else if so = 1 then (bd (fX11_look σ2) fun r5 σ4 => if r5 = 123 then (bd (fX11_put 14 0 σ4) fun _ σ7 => wI σ7 3 h (σ7.1 0 11) fun σ9 => bd (fX11_openBlock 2 0 ((σ9.1 0 11) - 1) σ9) fun r11 σ10 => ck (bz r11) <| some (r11, σ10)) else wI σ4 3 h (σ4.1 0 11) fun σ6 => some (1, σ6)) else wI σ2 3 h (σ2.1 0 11) fun σ3 => some (1, σ3)) := by
  have M1 := M.go (i + 1)
  have M2 := M1.sBk b
  refine ⟨_, M2, fun x y z t u => (tMF_I (by omega)).tq (tMF_I (by omega)), ?_⟩
  unfold fX11_closeBlock
  have e18 : (stI (stI σ 0 6 (nz (i + 1))) 0 41 (nz b)).1 18 b = so := by simpa [gI] using h18
  have e19 : (stI (stI σ 0 6 (nz (i + 1))) 0 41 (nz b)).1 19 b = be := by simpa [gI] using h19
  have e20 : (stI (stI σ 0 6 (nz (i + 1))) 0 41 (nz b)).1 20 b = nz h := by simpa [gI] using h20
  rw [wI_e, M.B.at, nz_s, wI_e, M1.bk, nz_p (by omega), Nat.add_sub_cancel, M2.bk]
  simp only [nz_tn (show b < 2147483648 by omega), ck_n hb (show (400 : Nat) < 2147483648 by omega), e18, e19, e20, nz_tn (show h < 2147483648 by omega), ck_n hh (show (12000 : Nat) < 2147483648 by omega)]
end
