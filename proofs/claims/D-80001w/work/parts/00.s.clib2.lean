set_option maxRecDepth 100000
theorem ntb_ntb {a b : Bool} {w : Option Nat} {p : Nat} : ntb b (ntb a w p) p = ntb (a || b) w p := by
  cases a <;> cases b <;> simp [ntb]
  unfold nt
  cases w with
  | none => simp
  | some q =>
    by_cases h : p < q
    · simp [h]
    · simp [h]
section
variable {n : Nat} {tx : Nat → Int32}
theorem cLet {σ : cS} {own : Int32} {i p : Nat} {w : Option Nat} {lo hi : Nat} (S : cES σ n tx own i w p) (h0 : 0 < lo) (h1 : lo ≤ hi) (h2 : hi < 128) :
    (∃ e, pLe n tx (nz lo) (nz hi) i = .error e ∧ ∃ σ', fX1_letter (nz lo) (nz hi) σ = some (none, σ') ∧ (∀ g a b d, cSF g a b d σ σ') ∧ σ'.1 4 6 = nz e) ∨
    (∃ c, lo ≤ c ∧ c ≤ hi ∧ pk n tx i = nz c ∧ sk n tx i < n ∧ pLe n tx (nz lo) (nz hi) i = .ok (sk n tx i + 1, nz c) ∧ fX1_letter (nz lo) (nz hi) σ = some (some (nz c), stI σ 3 3 (nz (sk n tx i + 1))) ∧ cES (stI σ 3 3 (nz (sk n tx i + 1))) n tx own (sk n tx i + 1) w p) := by
  unfold fX1_letter pLe
  rw [cLook S.htx S.hat S.hle, bd_s, isIn0, bd_s]
  have S1 := cES_sk S
  have hn6 := S.hn6
  by_cases hc : isI (pk n tx i) (nz lo) (nz hi) = true
  · obtain ⟨c, c1, c2, c3⟩ := isI_lo7 hc h2 h1
    obtain ⟨hlt, etx⟩ := pkc_ne (n := n) (tx := tx) (i := i) (by rw [c3]; exact nz_m1 (by omega))
    have := sk_ge (n := n) (tx := tx) i
    have hraw := (S.htx.2.2 _ hlt).1
    rw [etx, c3, sb_low (by omega)] at hraw
    refine Or.inr ⟨c, c1, c2, c3, hlt, by rw [if_pos hc, c3], ?_, S.go (by omega) (by omega)⟩
    rw [if_pos hc, if_neg (by decide), wI_e, S1.hat, nz_s, ck_n (by omega) (by omega), nz_tn (by omega), stI_stI]
    rw [show (stI σ 3 3 (nz (sk n tx i + 1))).1 1 (sk n tx i) = nz c by simpa [gI] using hraw]
  · refine Or.inl ⟨sk n tx i, by rw [if_neg hc], _, by rw [if_neg hc, if_pos rfl, cBad, bd_s, ck_d rfl], fun g a b d => cAt_S.tq (cSF_I (by omega)), by simp [gI]⟩
theorem cTakE {σ : cS} {own : Int32} {i p : Nat} {w : Option Nat} (c : Int32) (S : cES σ n tx own i w p) (hc : c ≠ -1) :
    (∃ e, pTk n tx c i = .error e ∧ ∃ σ', fX1_take c σ = some (none, σ') ∧ (∀ g a b d, cSF g a b d σ σ') ∧ σ'.1 4 6 = nz e) ∨ (∃ j, pTk n tx c i = .ok j ∧ fX1_take c σ = some (some (), stI σ 3 3 (nz j)) ∧ cES (stI σ 3 3 (nz j)) n tx own j w p) := by
  rw [cTake c S.htx S.hat S.hle hc]
  by_cases h : pk n tx i = c
  · obtain ⟨h1, h2⟩ := pkc_lt h hc
    have := sk_ge (n := n) (tx := tx) i
    refine Or.inr ⟨sk n tx i + 1, if_pos h, by rw [if_pos h], S.go (by omega) (by omega)⟩
  · refine Or.inl ⟨sk n tx i, if_neg h, _, by rw [if_neg h], fun g a b d => ?_, by simp [gI]⟩
    exact (cSF_I (by omega)).tq (cSF_I (by omega))
theorem cES_pt {σ : cS} {own : Int32} {i p s : Nat} {w : Option Nat} (S : cES σ n tx own i w p) (x : List Int32) : cES (ptL σ s x) n tx own i w p :=
  cES_of S (ptL_2 _ _ _) (fun j _ => ptL_o _ _ _ _ _ (by decide) (fun q => absurd q.1 (by decide))) (fun k => ptL_o _ _ _ _ _ (by decide) (fun q => absurd q.1 (by decide))) (ptL_o _ _ _ _ _ (by decide) (fun q => absurd q.2 (by decide)))
theorem eb_er {α β : Type} {x : Except Nat α} {k : α → Except Nat β} {e : Nat} (h : x = .error e) : eb x k = .error e := by rw [h]; rfl
theorem eb_o {α β : Type} {x : Except Nat α} {k : α → Except Nat β} {a : α} (h : x = .ok a) : eb x k = k a := by rw [h]; rfl
/-- a function behind its letter c -/
def pF2 (n : Nat) (tx : Nat → Int32) (j : Nat) (c : Int32) (w : Option Nat) : Except Nat (Nat × Option Nat × Fn × List Int32) :=
  eb (pTk n tx 40 j) fun b => eb (pLe n tx 97 102 b) fun v => eb (pTk n tx 41 v.1) fun e => eb (pTk n tx 61 e) fun g =>
    eb (pSum n tx v.2 g w) fun q => eb (pTk n tx 59 q.1) fun z =>
      .ok (z, q.2.1, (c, v.2 - 97, q.2.2.2.2), c :: 40 :: v.2 :: 41 :: 61 :: (q.2.2.2.1 ++ [59]))
theorem cLF.tq {p f s : Nat} {σ σ1 σ2 : cS} (h : cLF p f s σ σ1) (h' : cLF p f s σ1 σ2) : cLF p f s σ σ2 := h.tr h' (Nat.le_refl _) (Nat.le_refl _) (Nat.le_refl _)
theorem cES_li {σ : cS} {own : Int32} {i p o j : Nat} {w : Option Nat} {v : Int32} (S : cES σ n tx own i w p) (h : o = 16 ∨ o = 17 ∨ o = 18 ∨ o = 19 ∨ (o = 6 ∧ j = 16)) : cES (stI σ o j v) n tx own i w p := by
  refine cES_of S rfl (fun x _ => ?_) (fun x => ?_) ?_
  · rw [gI, if_neg (by omega)]
  · rw [gI, if_neg (by omega)]
  · rw [gI]; split
    · rw [if_neg (by omega)]
    · rfl
theorem cF60 {σ : cS} {own : Int32} {j s pl c : Nat} {w : Option Nat} {F : List Fn} (S : cES σ n tx own j w (fsz F)) (h18 : σ.1 6 18 = nz s) (hpl : pl < n) (hc1 : 65 ≤ c) (hc2 : c ≤ 90) (hF : F.length ≤ 400) (hs : s + nbr n tx j + 1 ≤ 600) (b2 : Bool) :
    (∃ e, pF2 n tx j (nz c) (ntb b2 w pl) = .error e ∧ ∃ σ', fX1_function_60 (nz F.length) (nz pl) (nz c) (if b2 = true then 0 else 1) σ = some (none, σ') ∧ cLF 0 0 0 σ σ' ∧ σ'.1 4 6 = nz e) ∨
    (∃ q, pF2 n tx j (nz c) (ntb b2 w pl) = .ok q ∧ ∃ σ', fX1_function_60 (nz F.length) (nz pl) (nz c) (if b2 = true then 0 else 1) σ = some (some (), σ') ∧ cLF (fsz F) (min F.length 11) s σ σ' ∧ (∃ own, cES σ' n tx own q.1 q.2.1 (fsz F + q.2.2.1.2.2.length)) ∧ σ'.1 6 16 = nz (min F.length 11 + 1) ∧ σ'.1 6 18 = nz (s + q.2.2.2.length) ∧ cPr σ' s q.2.2.2 ∧ cFn σ' 6 (min F.length 11) (fsz F) [q.2.2.1]) := by
  have hn6 := S.hn6
  have hc7 : lo7 (nz c) := lo7_lit (by omega)
  have hf : (if (11 : Int32) < nz F.length then 11 else nz F.length) = nz (min F.length 11) := by
    rw [show (11 : Int32) = nz 11 from rfl]
    by_cases h : 11 < F.length
    · rw [if_pos (by rw [nz_lt (by omega) (by omega)]; exact h), show min F.length 11 = 11 by omega]
    · rw [if_neg (by rw [nz_lt (by omega) (by omega)]; exact h), show min F.length 11 = F.length by omega]
  unfold fX1_function_60
  rw [hf, cNote S.hw S.hg hn6 (by omega), bd_s]
  have S1 := S.wr (wG_ntb (b := b2) (p := pl) S.hg hpl)
  have L1 : cLF (fsz F) (min F.length 11) s σ (stI σ 3 5 (ow (ntb b2 w pl))) := cLF_I (by omega)
  have e1 : (stI σ 3 5 (ow (ntb b2 w pl))).1 6 18 = nz s := by simpa [gI] using h18
  generalize stI σ 3 5 (ow (ntb b2 w pl)) = σ1 at S1 L1 e1 ⊢
  generalize ntb b2 w pl = w1 at S1 ⊢
  have er : ∀ {σ' σ2 : cS}, cLF (fsz F) (min F.length 11) s σ σ2 → (∀ g a b d, cSF g a b d σ2 σ') → cLF 0 0 0 σ σ' := fun h h' => h.tr (cLF_S (g := True) (cb := 0) (h' True _ 0 _)) (Nat.le_refl _) (Nat.le_refl _) (Nat.le_refl _) |>.tr ⟨rfl, fun _ _ _ => rfl, fun _ _ _ _ => rfl, fun _ _ => rfl, fun _ _ _ _ => rfl⟩ (Nat.le_refl _) (Nat.le_refl _) (Nat.le_refl _) |> fun q => ⟨q.1, q.2.1, fun _ _ _ x => absurd x (Nat.not_lt_zero _), fun _ x => absurd x (Nat.not_lt_zero _), fun _ _ _ x => absurd x (Nat.not_lt_zero _)⟩
  rcases cTakE 40 S1 (by decide) with ⟨e, g1, σ', g2, g3, g4⟩ | ⟨j2, g1, g2, S2⟩
  · exact Or.inl ⟨e, eb_er g1, σ', by rw [bdT_en g2], er L1 g3, g4⟩
  rw [bdT_e g2]
  obtain ⟨-, -, -, p2a, p2b, p2c⟩ := pTk_ok (by decide) g1
  have L2 : cLF (fsz F) (min F.length 11) s σ (stI σ1 3 3 (nz j2)) := L1.tq (cLF_I (by omega))
  have e2 : (stI σ1 3 3 (nz j2)).1 6 18 = nz s := by simpa [gI] using e1
  generalize stI σ1 3 3 (nz j2) = σ2 at S2 L2 e2 ⊢
  rw [show (97 : Int32) = nz 97 from rfl, show (102 : Int32) = nz 102 from rfl]
  rcases cLet (lo := 97) (hi := 102) S2 (by omega) (by omega) (by omega) with ⟨e, k1, σ', k2, k3, k4⟩ | ⟨v, v1, v2, v3, vlt, k1, k2, S3⟩
  · exact Or.inl ⟨e, (eb_o g1).trans (eb_er k1), σ', by rw [bdT_en k2], er L2 k3, k4⟩
  rw [bdT_e k2]
  have p3 := nbr_tk vlt
  have hvg := sk_ge (n := n) (tx := tx) j2
  have L3 : cLF (fsz F) (min F.length 11) s σ (stI (stI σ2 3 3 (nz (sk n tx j2 + 1))) 3 6 (nz v)) := (L2.tq (cLF_I (by omega))).tq (cLF_I (by omega))
  have e3 : (stI (stI σ2 3 3 (nz (sk n tx j2 + 1))) 3 6 (nz v)).1 6 18 = nz s := by simpa [gI] using e2
  have S3' : cES (stI (stI σ2 3 3 (nz (sk n tx j2 + 1))) 3 6 (nz v)) n tx (nz v) (sk n tx j2 + 1) w1 (fsz F) := by
    obtain ⟨⟨a1, a2, a3⟩, b1, b2, b3, b4, b5, b6, b7, b8⟩ := S3
    exact ⟨⟨by simpa [gI] using a1, a2, fun k hk => by simpa [gI] using a3 k hk⟩, by simp [gI], b2, by simpa [gI] using b3, b4, by simp [gI], b6, by simpa [gI] using b7, b8⟩
  rw [wI_e]
  generalize stI (stI σ2 3 3 (nz (sk n tx j2 + 1))) 3 6 (nz v) = σ3 at S3' L3 e3 ⊢
  rcases cTakE 41 S3' (by decide) with ⟨e, m1, σ', m2, m3, m4⟩ | ⟨j4, m1, m2, S4⟩
  · exact Or.inl ⟨e, (eb_o g1).trans ((eb_o k1).trans (eb_er m1)), σ', by rw [bdT_en m2], er L3 m3, m4⟩
  rw [bdT_e m2]
  obtain ⟨-, -, -, p4a, p4b, p4c⟩ := pTk_ok (by decide) m1
  have L4 : cLF (fsz F) (min F.length 11) s σ (stI σ3 3 3 (nz j4)) := L3.tq (cLF_I (by omega))
  have e4 : (stI σ3 3 3 (nz j4)).1 6 18 = nz s := by simpa [gI] using e3
  generalize stI σ3 3 3 (nz j4) = σ4 at S4 L4 e4 ⊢
  rcases cTakE 61 S4 (by decide) with ⟨e, o1, σ', o2, o3, o4⟩ | ⟨j5, o1, o2, S5⟩
  · exact Or.inl ⟨e, (eb_o g1).trans ((eb_o k1).trans ((eb_o m1).trans (eb_er o1))), σ', by rw [bdT_en o2], er L4 o3, o4⟩
  rw [bdT_e o2]
  obtain ⟨-, -, -, p5a, p5b, p5c⟩ := pTk_ok (by decide) o1
  have L5 : cLF (fsz F) (min F.length 11) s σ (stI σ4 3 3 (nz j5)) := L4.tq (cLF_I (by omega))
  have e5 : (stI σ4 3 3 (nz j5)).1 6 18 = nz s := by simpa [gI] using e4
  generalize stI σ4 3 3 (nz j5) = σ5 at S5 L5 e5 ⊢
  have hfm : min F.length 11 < 12 := by omega
  generalize hff : min F.length 11 = f at *
  rw [ck_d S5.hto, ck_n hfm (by omega), wI_e, nz_tn (by omega), show vp_nar .byte (nz c).toInt8.toInt32 = nz c by rw [vp_nar_byte]; show sb (sb (nz c)) = nz c; rw [hc7.sb, hc7.sb]]
  have S6 := cES_li (o := 16) (j := f) (v := nz c) S5 (by omega)
  have e97 : nz v - nz 97 = nz (v - 97) := nz_sub v1
  have hv7 : lo7 (nz (v - 97)) := lo7_lit (by omega)
  rw [ck_d S6.hto, ck_n hfm (by omega), wI_e, S6.how, e97, show vp_nar .byte (nz (v - 97)).toInt8.toInt32 = nz (v - 97) by rw [vp_nar_byte]; show sb (sb (nz (v - 97))) = nz (v - 97); rw [hv7.sb, hv7.sb]]
  have S7 := cES_li (o := 17) (j := f) (v := nz (v - 97)) S6 (by omega)
  rw [ck_d S7.hto, ck_d S7.hto, ck_n hfm (by omega), wI_e, S7.hp]
  have S8 := cES_li (o := 18) (j := f) (v := nz (fsz F)) S7 (by omega)
  have L8 : cLF (fsz F) f s σ (stI (stI (stI σ5 16 f (nz c)) 17 f (nz (v - 97))) 18 f (nz (fsz F))) := ((L5.tq (cLF_I (by omega))).tq (cLF_I (by omega))).tq (cLF_I (by omega))
  have e8 : (stI (stI (stI σ5 16 f (nz c)) 17 f (nz (v - 97))) 18 f (nz (fsz F))).1 6 18 = nz s := by simpa [gI] using e5
  have t16 : (stI (stI (stI σ5 16 f (nz c)) 17 f (nz (v - 97))) 18 f (nz (fsz F))).1 16 f = nz c := by simp [gI]
  have t17 : (stI (stI (stI σ5 16 f (nz c)) 17 f (nz (v - 97))) 18 f (nz (fsz F))).1 17 f = nz (v - 97) := by simp [gI]
  have t18 : (stI (stI (stI σ5 16 f (nz c)) 17 f (nz (v - 97))) 18 f (nz (fsz F))).1 18 f = nz (fsz F) := by simp [gI]
  generalize stI (stI (stI σ5 16 f (nz c)) 17 f (nz (v - 97))) 18 f (nz (fsz F)) = σ8 at S8 L8 e8 t16 t17 t18 ⊢
  rw [ck_d S8.hto]
  have hr := cSum S8
  rcases hq : pSum n tx (nz v) j5 w1 with e | q
  · rw [hq] at hr
    obtain ⟨σ', h1, h2, h3⟩ := hr
    refine Or.inl ⟨e, (eb_o g1).trans ((eb_o k1).trans ((eb_o m1).trans ((eb_o o1).trans (eb_er hq)))), σ', by rw [bdT_en h1], ?_, h3⟩
    have := L8.tr (cLF_S (g := True) (cb := 0) (s := s) (f := f) (cSF_E h2)) (Nat.le_refl _) (Nat.le_refl _) (Nat.le_refl _)
    exact ⟨this.1, this.2.1, fun _ _ _ x => absurd x (Nat.not_lt_zero _), fun _ x => absurd x (Nat.not_lt_zero _), fun _ _ _ x => absurd x (Nat.not_lt_zero _)⟩
  rw [hq] at hr
  obtain ⟨σ9, h1, h2, S9, P9⟩ := hr
  obtain ⟨f1, f2, f3, f4, f5, f6⟩ := pSum_facts S8.hle hq
  have hp0 := f4.cl.1
  have hbd := S9.hbd
  have L9 : cLF (fsz F) f s σ σ9 := L8.tq (cLF_S (g := True) (cb := 0) (s := s) (f := f) (cSF_E h2))
  have u : ∀ o j, o ≠ 3 → o ≠ 4 → o ≠ 6 → o ≠ 7 → o ≠ 8 → o ≠ 9 → σ9.1 o j = σ8.1 o j := h2.2.1
  have e9 : σ9.1 6 18 = nz s := (h2.2.2.2.2.1 18 (by decide)).trans e8
  have u16 : σ9.1 16 f = nz c := (u _ _ (by decide) (by decide) (by decide) (by decide) (by decide) (by decide)).trans t16
  have u17 : σ9.1 17 f = nz (v - 97) := (u _ _ (by decide) (by decide) (by decide) (by decide) (by decide) (by decide)).trans t17
  have u18 : σ9.1 18 f = nz (fsz F) := (u _ _ (by decide) (by decide) (by decide) (by decide) (by decide) (by decide)).trans t18
  rw [bdT_e h1, ck_n hfm (by omega), wI_e]
  have S10 := cES_li (o := 19) (j := f) (v := nz (fsz F + q.2.2.2.2.length - 1)) S9 (by omega)
  rw [ck_d S10.hto, wI_e, nz_s]
  have S11 := cES_li (o := 6) (j := 16) (v := nz (f + 1)) S10 (by omega)
  have L11 : cLF (fsz F) f s σ (stI (stI σ9 19 f (nz (fsz F + q.2.2.2.2.length - 1))) 6 16 (nz (f + 1))) := (L9.tq (cLF_I (by omega))).tq (cLF_I (by omega))
  have e11 : (stI (stI σ9 19 f (nz (fsz F + q.2.2.2.2.length - 1))) 6 16 (nz (f + 1))).1 6 18 = nz s := by simpa [gI] using e9
  have w16 : (stI (stI σ9 19 f (nz (fsz F + q.2.2.2.2.length - 1))) 6 16 (nz (f + 1))).1 16 f = nz c := by simpa [gI] using u16
  have w17 : (stI (stI σ9 19 f (nz (fsz F + q.2.2.2.2.length - 1))) 6 16 (nz (f + 1))).1 17 f = nz (v - 97) := by simpa [gI] using u17
  have w18 : (stI (stI σ9 19 f (nz (fsz F + q.2.2.2.2.length - 1))) 6 16 (nz (f + 1))).1 18 f = nz (fsz F) := by simpa [gI] using u18
  have w19 : (stI (stI σ9 19 f (nz (fsz F + q.2.2.2.2.length - 1))) 6 16 (nz (f + 1))).1 19 f = nz (fsz F + q.2.2.2.2.length - 1) := by simp [gI]
  have w6 : (stI (stI σ9 19 f (nz (fsz F + q.2.2.2.2.length - 1))) 6 16 (nz (f + 1))).1 6 16 = nz (f + 1) := by simp [gI]
  have P11 : cPA (stI (stI σ9 19 f (nz (fsz F + q.2.2.2.2.length - 1))) 6 16 (nz (f + 1))) 6 (fsz F) (bld (fsz F) q.2.2.2.2 []).1 := cPA_I (cPA_I P9 (by decide)) (by decide)
  generalize stI (stI σ9 19 f (nz (fsz F + q.2.2.2.2.length - 1))) 6 16 (nz (f + 1)) = σ11 at S11 L11 e11 w16 w17 w18 w19 w6 P11 ⊢
  rcases cTakE 59 S11 (by decide) with ⟨e, r1, σ', r2, r3, r4⟩ | ⟨z, r1, r2, S12⟩
  · exact Or.inl ⟨e, (eb_o g1).trans ((eb_o k1).trans ((eb_o m1).trans ((eb_o o1).trans ((eb_o hq).trans (eb_er r1))))), σ', by rw [bdT_en r2], er L11 r3, r4⟩
  rw [bdT_e r2]
  obtain ⟨-, -, -, p12a, p12b, p12c⟩ := pTk_ok (by decide) r1
  have L12 : cLF (fsz F) f s σ (stI σ11 3 3 (nz z)) := L11.tq (cLF_I (by omega))
  have e12 : (stI σ11 3 3 (nz z)).1 6 18 = nz s := by simpa [gI] using e11
  have x16 : (stI σ11 3 3 (nz z)).1 16 f = nz c := by simpa [gI] using w16
  have x17 : (stI σ11 3 3 (nz z)).1 17 f = nz (v - 97) := by simpa [gI] using w17
  have x18 : (stI σ11 3 3 (nz z)).1 18 f = nz (fsz F) := by simpa [gI] using w18
  have x19 : (stI σ11 3 3 (nz z)).1 19 f = nz (fsz F + q.2.2.2.2.length - 1) := by simpa [gI] using w19
  have x6 : (stI σ11 3 3 (nz z)).1 6 16 = nz (f + 1) := by simpa [gI] using w6
  have P12 : cPA (stI σ11 3 3 (nz z)) 6 (fsz F) (bld (fsz F) q.2.2.2.2 []).1 := cPA_I P11 (by decide)
  generalize stI σ11 3 3 (nz z) = σ12 at S12 L12 e12 x16 x17 x18 x19 x6 P12 ⊢
  -- what is printed
  rw [ck_d S12.hto, cPut hc7 e12 (by omega), bd_s]
  rw [ck_d (cES_pt S12 _).hto, cPut (s := s + 1) (show lo7 40 from ⟨40, by decide, rfl⟩) (ptL_s _ _ _ e12) (by omega), bd_s, show ptL (ptL σ12 s [nz c]) (s + 1) [40] = ptL σ12 s [nz c, 40] from rfl]
  rw [ck_d (cES_pt S12 _).hto, (cES_pt S12 (s := s) [nz c, 40]).how, cPut (s := s + 2) (lo7_lit (a := v) (by omega)) (ptL_s _ _ _ e12) (by omega), bd_s, show ptL (ptL σ12 s [nz c, 40]) (s + 2) [nz v] = ptL σ12 s [nz c, 40, nz v] from rfl]
  rw [ck_d (cES_pt S12 _).hto, cPut (s := s + 3) (show lo7 41 from ⟨41, by decide, rfl⟩) (ptL_s _ _ _ e12) (by omega), bd_s, show ptL (ptL σ12 s [nz c, 40, nz v]) (s + 3) [41] = ptL σ12 s [nz c, 40, nz v, 41] from rfl]
  rw [ck_d (cES_pt S12 _).hto, cPut (s := s + 4) (show lo7 61 from ⟨61, by decide, rfl⟩) (ptL_s _ _ _ e12) (by omega), bd_s, show ptL (ptL σ12 s [nz c, 40, nz v, 41]) (s + 4) [61] = ptL σ12 s [nz c, 40, nz v, 41, 61] from rfl]
  rw [ck_d (cES_pt S12 _).hto, ck_d (cES_pt S12 _).hto, ck_n hfm (by omega), ptL_o _ _ _ _ _ (by decide) (fun q => absurd q.1 (by decide)), x19, cPrint (s := s + 5) f4 (cPA_pt P12) (by omega) (ptL_s _ _ _ e12) (by omega), bd_s, show ptL (ptL σ12 s [nz c, 40, nz v, 41, 61]) (s + 5) q.2.2.2.1 = ptL σ12 s ([nz c, 40, nz v, 41, 61] ++ q.2.2.2.1) from (ptL_app _ _ _ _).symm]
  rw [ck_d (cES_pt S12 _).hto, cPut (s := s + ([nz c, 40, nz v, 41, 61] ++ q.2.2.2.1).length) (show lo7 59 from ⟨59, by decide, rfl⟩) (ptL_s _ _ _ e12) (by simp only [List.length_append, List.length_cons, List.length_nil]; omega), bd_s, ← ptL_app]
  refine Or.inr ⟨(z, q.2.1, (nz c, nz v - 97, q.2.2.2.2), nz c :: 40 :: nz v :: 41 :: 61 :: (q.2.2.2.1 ++ [59])), (eb_o g1).trans ((eb_o k1).trans ((eb_o m1).trans ((eb_o o1).trans ((eb_o hq).trans (eb_o r1))))), _, rfl, L12.tq (cLF_S (g := True) (cb := 0) (cSF_pt _)), ⟨_, cES_pt S12 _⟩, ?_, ?_, ?_, ?_⟩
  · rw [ptL_o _ _ _ _ _ (by decide) (fun q => absurd q.2 (by decide))]; exact x6
  · have := ptL_s ([nz c, 40, nz v, 41, 61] ++ q.2.2.2.1 ++ [59]) σ12 s e12
    simpa using this
  · have := cPr_pt (σ := σ12) (s := s) (r := [nz c, 40, nz v, 41, 61] ++ q.2.2.2.1 ++ [59])
    simpa using this
  · refine ⟨?_, ?_, ?_, ?_, cPA_pt P12, trivial⟩
    · rw [ptL_o _ _ _ _ _ (by decide) (fun q => absurd q.1 (by decide))]; exact x16
    · rw [ptL_o _ _ _ _ _ (by decide) (fun q => absurd q.1 (by decide))]; exact x17.trans e97.symm
    · rw [ptL_o _ _ _ _ _ (by decide) (fun q => absurd q.1 (by decide))]; exact x18
    · rw [ptL_o _ _ _ _ _ (by decide) (fun q => absurd q.1 (by decide))]; exact x19
/-- the reader of a library: the functions F, s bytes printed -/
def cLS (σ : cS) (n : Nat) (tx : Nat → Int32) (i : Nat) (w : Option Nat) (F : List Fn) (s : Nat) : Prop :=
  (∃ own, cES σ n tx own i w (fsz F)) ∧ σ.1 6 16 = nz (min F.length 12) ∧ σ.1 6 18 = nz s ∧ (F.length ≤ 12 → cFn σ 6 0 0 F)
theorem cFun {σ : cS} {i s : Nat} {w : Option Nat} {F : List Fn} (M : cLS σ n tx i w F s) (hF : F.length + nbr n tx i ≤ 400) (hs : s + nbr n tx i ≤ 600) :
    (∃ e, pFn n tx i w F = .error e ∧ ∃ σ', fX1_function (nz F.length) σ = some (none, σ') ∧ cRF σ σ' ∧ σ'.1 4 6 = nz e) ∨
    (∃ q, pFn n tx i w F = .ok q ∧ ∃ σ', fX1_function (nz F.length) σ = some (some (), σ') ∧ cRF σ σ' ∧ cLS σ' n tx q.1 q.2.1 (F ++ [q.2.2.1]) (s + q.2.2.2.length) ∧ cPr σ' s q.2.2.2 ∧ (∀ j, j < s → σ'.1 20 j = σ.1 20 j)) := by
  obtain ⟨⟨own, S⟩, h16, h18, hFn⟩ := M
  have hn6 := S.hn6
  have hsg := sk_ge (n := n) (tx := tx) i
  have hss := sk_sk (n := n) (tx := tx) i
  have hps := pk_sk (n := n) (tx := tx) i
  unfold fX1_function
  rw [cLook S.htx S.hat S.hle, bd_s]
  have S1 := cES_sk S
  rw [S1.hat]
  have L1 : ∀ f, cLF (fsz F) f s σ (stI σ 3 3 (nz (sk n tx i))) := fun f => cLF_I (by omega)
  rcases cLet (lo := 65) (hi := 90) S1 (by omega) (by omega) (by omega) with ⟨e, g1, σ', g2, g3, g4⟩ | ⟨c, c1, c2, c3, hlt, g1, g2, S2⟩
  · refine Or.inl ⟨e, ?_, σ', by rw [show (65 : Int32) = nz 65 from rfl, show (90 : Int32) = nz 90 from rfl, bdT_en g2], (cRF_L (L1 0)).tr (cRF_S (g3 True 0 0 0)), g4⟩
    unfold pFn
    have : pLe n tx 65 90 i = .error e := by unfold pLe at g1 ⊢; rw [hps, hss] at g1; exact g1
    rw [this]; rfl
  · have hle1 : pLe n tx 65 90 i = .ok (sk n tx i + 1, nz c) := by unfold pLe at g1 ⊢; rw [hps, hss] at g1; exact g1
    rw [hss] at g2 S2 hlt
    rw [hps] at c3
    have htk := nbr_tk hlt
    rw [stI_stI] at g2 S2
    rw [show (65 : Int32) = nz 65 from rfl, show (90 : Int32) = nz 90 from rfl, bdT_e g2]
    have L2 : ∀ f, cLF (fsz F) f s σ (stI σ 3 3 (nz (sk n tx i + 1))) := fun f => cLF_I (by omega)
    have e16 : (stI σ 3 3 (nz (sk n tx i + 1))).1 6 16 = nz (min F.length 12) := by simpa [gI] using h16
    have e18 : (stI σ 3 3 (nz (sk n tx i + 1))).1 6 18 = nz s := by simpa [gI] using h18
    generalize stI σ 3 3 (nz (sk n tx i + 1)) = σ2 at S2 L2 e16 e18 ⊢
    -- the whole of it, given what is noted
    have key : ∀ b1 : Bool, b1 = decide (12 ≤ F.length) →
        (∃ e, pFn n tx i w F = .error e ∧ ∃ σ', fX1_function_31 (nz F.length) (nz (sk n tx i)) (nz c) (if b1 = true then 0 else 1) σ2 = some (none, σ') ∧ cRF σ σ' ∧ σ'.1 4 6 = nz e) ∨
        (∃ q, pFn n tx i w F = .ok q ∧ ∃ σ', fX1_function_31 (nz F.length) (nz (sk n tx i)) (nz c) (if b1 = true then 0 else 1) σ2 = some (some (), σ') ∧ cRF σ σ' ∧ cLS σ' n tx q.1 q.2.1 (F ++ [q.2.2.1]) (s + q.2.2.2.length) ∧ cPr σ' s q.2.2.2 ∧ (∀ j, j < s → σ'.1 20 j = σ.1 20 j)) := by
      intro b1 hb1
      unfold fX1_function_31
      rw [cNote S2.hw S2.hg hn6 (by omega), bd_s]
      have S3 := S2.wr (wG_ntb (b := b1) (p := sk n tx i) S2.hg hlt)
      have L3 : ∀ f, cLF (fsz F) f s σ (stI σ2 3 5 (ow (ntb b1 w (sk n tx i)))) := fun f => (L2 f).tr (cLF_I (by omega)) (Nat.le_refl _) (Nat.le_refl _) (Nat.le_refl _)
      have f16 : (stI σ2 3 5 (ow (ntb b1 w (sk n tx i)))).1 6 16 = nz (min F.length 12) := by simpa [gI] using e16
      have f18 : (stI σ2 3 5 (ow (ntb b1 w (sk n tx i)))).1 6 18 = nz s := by simpa [gI] using e18
      generalize stI σ2 3 5 (ow (ntb b1 w (sk n tx i))) = σ3 at S3 L3 f16 f18 ⊢
      rw [ck_d S3.hto, ck_d S3.hto, f16, cFo (by omega), bd_s]
      have hdup : ∃ b2 : Bool, (∀ (X Y : Option (Option Unit × cS)), (if ow (fr1 (σ3.1 (6 + 10)) (nz c) (min F.length 12) 0) = -1 then X else Y) = if b2 = true then Y else X) ∧ (b1 || b2) = (decide (12 ≤ F.length) || F.any (fun f => decide (f.1 = nz c))) := by
        by_cases h12 : F.length < 12
        · refine ⟨F.any (fun f => decide (f.1 = nz c)), ?_, by rw [hb1]⟩
          intro X Y
          have hmin : min F.length 12 = F.length := by omega
          rw [hmin]
          have hFn3 := cFn_L (L3 F.length) F (hFn (by omega)) (by omega) (by omega)
          by_cases hany : F.any (fun f => decide (f.1 = nz c)) = true
          · rw [if_pos hany]
            obtain ⟨f, hf, hfc⟩ := List.any_eq_true.mp hany
            obtain ⟨x, hx⟩ := List.getElem?_of_mem hf
            have hl := (List.getElem?_eq_some_iff.mp hx).1
            cases hfr : fr1 (σ3.1 (6 + 10)) (nz c) F.length 0 with
            | none =>
              have := (fr1_none _ _).mp hfr x (by omega) (by omega)
              have h2 := cFn_at F hFn3 x f hx
              rw [Nat.zero_add] at h2
              exact absurd (h2.trans (by simpa using hfc)) this
            | some m =>
              have := fr1_lt _ _ hfr
              rw [if_neg (show ow (some m) ≠ -1 from nz_m1 (by omega))]
          · rw [if_neg hany]
            cases hfr : fr1 (σ3.1 (6 + 10)) (nz c) F.length 0 with
            | none => rw [if_pos (show ow none = -1 from rfl)]
            | some m =>
              exfalso
              obtain ⟨m1, m2, m3⟩ := fr1_lt _ _ hfr
              apply hany
              have hm : m < F.length := by omega
              have h2 := cFn_at F hFn3 m F[m] (by simp [hm])
              rw [Nat.zero_add] at h2
              rw [List.any_eq_true]
              exact ⟨F[m], List.getElem_mem hm, by simp; exact h2.symm.trans m3⟩
        · refine ⟨decide (¬ ow (fr1 (σ3.1 (6 + 10)) (nz c) (min F.length 12) 0) = -1), ?_, ?_⟩
          · intro X Y
            by_cases q : ow (fr1 (σ3.1 (6 + 10)) (nz c) (min F.length 12) 0) = -1
            · rw [if_pos q, if_neg (by simp [q])]
            · rw [if_neg q, if_pos (by simp [q])]
          · rw [hb1, decide_eq_true (by omega : 12 ≤ F.length)]; simp
      obtain ⟨b2, hb2, hor⟩ := hdup
      rw [hb2]
      have e60 : (if b2 = true then fX1_function_60 (nz F.length) (nz (sk n tx i)) (nz c) 0 σ3 else fX1_function_60 (nz F.length) (nz (sk n tx i)) (nz c) 1 σ3) = fX1_function_60 (nz F.length) (nz (sk n tx i)) (nz c) (if b2 = true then 0 else 1) σ3 := by cases b2 <;> rfl
      rw [e60]
      have hpf : pFn n tx i w F = pF2 n tx (sk n tx i + 1) (nz c) (ntb b2 (ntb b1 w (sk n tx i)) (sk n tx i)) := by
        unfold pFn pF2
        rw [hle1, ntb_ntb, hor]
        rfl
      rw [hpf]
      rcases cF60 S3 f18 hlt c1 c2 (by omega) (by omega) b2 with ⟨e, k1, σ', k2, k3, k4⟩ | ⟨q, k1, σ', k2, k3, k4, k5, k6, k7, k8⟩
      · exact Or.inl ⟨e, k1, σ', k2, (cRF_L (L3 0)).tr (cRF_L k3), k4⟩
      · refine Or.inr ⟨q, k1, σ', k2, (cRF_L (L3 0)).tr (cRF_L k3), ⟨?_, ?_, k6, fun hl => ?_⟩, k7, fun j hj => (k3.2.2.2.1 j hj).trans ((L3 0).2.2.2.1 j hj)⟩
        · rw [fsz_app]; simpa [fsz] using k4
        · rw [k5, List.length_append, List.length_cons, List.length_nil]; congr 1; omega
        · simp only [List.length_append, List.length_cons, List.length_nil] at hl
          have hmin : min F.length 11 = F.length := by omega
          rw [hmin] at k3 k8
          refine cFn_app F (cFn_L k3 F (cFn_L (L3 F.length) F (hFn (by omega)) (by omega) (by omega)) (by omega) (by omega)) ?_
          rw [Nat.zero_add, Nat.zero_add]; exact k8
    by_cases h12 : 12 ≤ F.length
    · rw [if_pos (by rw [show (12 : Int32) = nz 12 from rfl, nz_le (by omega) (by omega)]; exact h12)]
      exact key true (decide_eq_true h12).symm
    · rw [if_neg (by rw [show (12 : Int32) = nz 12 from rfl, nz_le (by omega) (by omega)]; exact h12)]
      exact key false (decide_eq_false h12).symm
theorem cLi {σ0 : cS} : ∀ (k i : Nat) (w : Option Nat) (F : List Fn) (r : List Int32) (σ : cS), nbr n tx i < k → F.length + nbr n tx i ≤ 400 → r.length + nbr n tx i ≤ 400 → fsz F + nbr n tx i ≤ 400 → cLS σ n tx i w F r.length → cRF σ0 σ → cPr σ 0 r → (w = none → F.length ≤ 12) →
    ((∃ e, (eb (pLi n tx k i w F r) fun q => wOk q.2.1 (q.2.2.1, q.2.2.2)) = .error e ∧ ∃ σ', fX1_library_7 6 k (nz F.length) σ = some (none, σ') ∧ cRF σ0 σ' ∧ σ'.1 4 6 = nz e) ∨
     (∃ q, (eb (pLi n tx k i w F r) fun q => wOk q.2.1 (q.2.2.1, q.2.2.2)) = .ok q ∧ ∃ σ', fX1_library_7 6 k (nz F.length) σ = some (some (), σ') ∧ cRF σ0 σ' ∧ cTL σ' 6 q.1 q.2)) := by
  intro k
  induction k with
  | zero => intro i w F r σ h; omega
  | succ k ih =>
    intro i w F r σ hk hF hs hpz M R P hw12
    unfold fX1_library_7 pLi
    have hle : i ≤ n := by obtain ⟨⟨own, S⟩, -⟩ := M; exact S.hle
    rcases cFun M hF (by omega) with ⟨e, h1, σ', h2, h3, h4⟩ | ⟨q, h1, σ1, h2, h3, M1, P1, h6⟩
    · rw [h1, bdT_en h2]
      exact Or.inl ⟨e, rfl, σ', rfl, R.tr h3, h4⟩
    · obtain ⟨f1, f2, f3, f4, f5, f6, f7, f8, f9⟩ := pFn_facts hle h1
      rw [h1, bdT_e h2]
      obtain ⟨⟨own, S1⟩, b2, b3, b4⟩ := M1
      rw [cLook S1.htx S1.hat S1.hle, bd_s]
      have S2 := cES_sk S1
      have R2 : cRF σ0 (stI σ1 3 3 (nz (sk n tx q.1))) := (R.tr h3).tr (cRF_S (cAt_S (g := True) (p := 0) (cb := 0) (s := 0)))
      have L2 : ∀ a b c, cLF a b c σ1 (stI σ1 3 3 (nz (sk n tx q.1))) := fun a b c => cLF_I (by omega)
      have P2 : cPr (stI σ1 3 3 (nz (sk n tx q.1))) 0 (r ++ q.2.2.2) := by
        refine cPr_S (cPr_app ?_ (by rw [Nat.zero_add]; exact P1)) (cAt_S (g := True) (p := 0) (cb := 0) (s := (r ++ q.2.2.2).length)) (by omega)
        intro x hx
        rw [h6 _ (by omega)]; exact P x hx
      have c16 : (stI σ1 3 3 (nz (sk n tx q.1))).1 6 16 = nz (min (F ++ [q.2.2.1]).length 12) := by simpa [gI] using b2
      have c18 : (stI σ1 3 3 (nz (sk n tx q.1))).1 6 18 = nz (r ++ q.2.2.2).length := by rw [List.length_append]; simpa [gI] using b3
      have cF2 : (F ++ [q.2.2.1]).length ≤ 12 → cFn (stI σ1 3 3 (nz (sk n tx q.1))) 6 0 0 (F ++ [q.2.2.1]) := fun x => cFn_L (L2 _ _ 0) _ (b4 x) (Nat.le_refl _) (Nat.le_refl _)
      generalize stI σ1 3 3 (nz (sk n tx q.1)) = σ2 at S2 R2 L2 P2 c16 c18 cF2 ⊢
      have hsn := nbr_sk (n := n) (tx := tx) q.1
      have hfz : fsz (F ++ [q.2.2.1]) + nbr n tx q.1 ≤ 400 := by rw [fsz_app]; simp only [fsz]; omega
      simp only [eb]
      by_cases hc : pk n tx q.1 = -1
      · rw [if_pos hc, if_pos hc]
        have hpk : pk n tx (sk n tx q.1) = -1 := by rw [pk_sk]; exact hc
        rcases cDone S2 with ⟨e, g1, σ', g2, g3, g4⟩ | ⟨g1, g2⟩
        · rw [if_pos hpk] at g1
          refine Or.inl ⟨e, ?_, σ', by rw [bdT_en g2], R2.tr (cRF_S (g3 True 0 0 0)), g4⟩
          simp only
          cases hw : q.2.1 with
          | none => rw [hw] at g1; cases g1
          | some x => rw [hw] at g1; cases g1; rfl
        · rw [if_pos hpk] at g1
          rw [sk_sk, stI_self S2.hat] at g2
          rw [bdT_e g2]
          have hw : q.2.1 = none := by
            cases hw : q.2.1 with
            | none => rfl
            | some x => rw [hw] at g1; cases g1
          have h12 := (f9 hw).1
          have hl : (F ++ [q.2.2.1]).length ≤ 12 := by simp; omega
          refine Or.inr ⟨(F ++ [q.2.2.1], r ++ q.2.2.2), by simp only; rw [hw]; rfl, σ2, rfl, R2, ?_, hl, by simp only; omega, cF2 hl, c18, ?_, ?_⟩
          · rw [c16, Nat.min_eq_left hl]
          · simp only [List.length_append]; omega
          · intro m hm
            have := P2 m hm
            rwa [Nat.zero_add] at this
      · rw [if_neg hc, if_neg hc, nz_s]
        have hsame : pLi n tx k q.1 q.2.1 (F ++ [q.2.2.1]) (r ++ q.2.2.2) = pLi n tx k (sk n tx q.1) q.2.1 (F ++ [q.2.2.1]) (r ++ q.2.2.2) := by
          cases k with
          | zero => rfl
          | succ k =>
            unfold pLi pFn
            have : pLe n tx 65 90 q.1 = pLe n tx 65 90 (sk n tx q.1) := by unfold pLe; rw [pk_sk, sk_sk]
            rw [this, sk_sk]
        rw [hsame, show F.length + 1 = (F ++ [q.2.2.1]).length by simp]
        refine ih (sk n tx q.1) q.2.1 (F ++ [q.2.2.1]) (r ++ q.2.2.2) σ2 (by omega) (by simp; omega) (by simp; omega) (by omega) ⟨⟨own, S2⟩, c16, c18, cF2⟩ R2 P2 (fun x => ?_)
        have := (f9 x).1
        simp; omega
theorem cRdL {σ : cS} (h : cTp σ n tx) :
    (∃ e, rdL n tx = .error e ∧ ∃ σ', fX1_library 6 σ = some (none, σ') ∧ cRF σ σ' ∧ σ'.1 4 6 = nz e) ∨
    (∃ q, rdL n tx = .ok q ∧ ∃ σ', fX1_library 6 σ = some (some (), σ') ∧ cRF σ σ' ∧ cTL σ' 6 q.1 q.2) := by
  obtain ⟨σ1, h1, h2, h3, h4⟩ := cBegin h
  have hnb := h.2.2.1
  have hn := h.2.1
  have hnl := nbr_le (n := n) (tx := tx) (i := 0)
  unfold fX1_library rdL
  rw [ck_d cp6, h1, bd_s]
  exact cLi FU 0 none [] [] σ1 (by unfold FU; omega) (by simp; omega) (by simp; omega) (by simp [fsz]; omega) ⟨⟨_, h3.E⟩, h4, h3.hs, fun _ => trivial⟩ h2 (fun k hk => by simp at hk) (fun _ => by simp)
end
