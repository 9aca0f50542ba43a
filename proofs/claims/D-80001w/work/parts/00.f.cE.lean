set_option maxRecDepth 100000
/-! ===== PARTS: each behind its own parts ===== -/
abbrev Pt : Type := Int32 × Int32 × Int32
def bl1 (p : Nat) (y : Sy) (I : List Nat) : Pt × List Nat :=
  if y.1 = 0 ∨ y.1 = 1 then ((y.1, y.2, 0), p :: I)
  else if y.1 = 2 ∨ y.1 = 33 ∨ y.1 = 91 then ((y.1, nz (I.headD 0), y.2), p :: I.tail)
  else ((y.1, nz (I.tail.headD 0), nz (I.headD 0)), p :: I.tail.tail)
def bld : Nat → List Sy → List Nat → List Pt × List Nat
  | _, [], I => ([], I)
  | p, y :: r, I => ((bl1 p y I).1 :: (bld (p + 1) r (bl1 p y I).2).1, (bld (p + 1) r (bl1 p y I).2).2)
theorem bld_app (x : List Sy) : ∀ (p : Nat) (y : List Sy) (I : List Nat), bld p (x ++ y) I = ((bld p x I).1 ++ (bld (p + x.length) y (bld p x I).2).1, (bld (p + x.length) y (bld p x I).2).2) := by
  induction x with
  | nil => intro p y I; rfl
  | cons a x ih =>
    intro p y I
    show ((bl1 p a I).1 :: (bld (p + 1) (x ++ y) (bl1 p a I).2).1, (bld (p + 1) (x ++ y) (bl1 p a I).2).2) = _
    rw [ih]
    simp only [List.length_cons, bld, List.cons_append]
    rw [show p + 1 + x.length = p + (x.length + 1) by omega]
theorem bld_len (x : List Sy) : ∀ (p : Nat) (I : List Nat), (bld p x I).1.length = x.length := by
  induction x with
  | nil => intro p I; rfl
  | cons a x ih => intro p I; simp only [bld, List.length_cons, ih]
def cCl (y : List Sy) : Prop := 0 < y.length ∧ ∀ p I, bld p y I = ((bld p y []).1, (p + y.length - 1) :: I)
theorem cCl_leaf {a b : Int32} (h : a = 0 ∨ a = 1) : cCl [(a, b)] := by
  refine ⟨by simp, fun p I => ?_⟩
  simp [bld, bl1, h]
theorem cCl_un {y : List Sy} {a b : Int32} (h : a = 2 ∨ a = 33 ∨ a = 91) (hy : cCl y) : cCl (y ++ [(a, b)]) ∧ ∀ p, (bld p (y ++ [(a, b)]) []).1 = (bld p y []).1 ++ [(a, nz (p + y.length - 1), b)] := by
  have h0 : ¬ (a = 0 ∨ a = 1) := by rcases h with rfl | rfl | rfl <;> decide
  have key : ∀ p I, bld p (y ++ [(a, b)]) I = ((bld p y []).1 ++ [(a, nz (p + y.length - 1), b)], (p + y.length) :: I) := by
    intro p I
    rw [bld_app, hy.2 p I]
    simp [bld, bl1, h0, h]
  refine ⟨⟨by simp, fun p I => ?_⟩, fun p => by rw [key p []]⟩
  rw [key p I, key p []]
  simp
theorem cCl_bin {y z : List Sy} {c : Int32} (h : 0 ≤ lvC c) (hy : cCl y) (hz : cCl z) : cCl (y ++ (z ++ [(c, 0)])) ∧ ∀ p, (bld p (y ++ (z ++ [(c, 0)])) []).1 = (bld p y []).1 ++ ((bld (p + y.length) z []).1 ++ [(c, nz (p + y.length - 1), nz (p + y.length + z.length - 1))]) := by
  have h0 : ¬ (c = 0 ∨ c = 1) := by rintro (rfl | rfl) <;> exact absurd h (by decide)
  have h1 : ¬ (c = 2 ∨ c = 33 ∨ c = 91) := by rintro (rfl | rfl | rfl) <;> exact absurd h (by decide)
  have key : ∀ p I, bld p (y ++ (z ++ [(c, 0)])) I = ((bld p y []).1 ++ ((bld (p + y.length) z []).1 ++ [(c, nz (p + y.length - 1), nz (p + y.length + z.length - 1))]), (p + y.length + z.length) :: I) := by
    intro p I
    rw [bld_app, hy.2 p I, bld_app, hz.2]
    simp [bld, bl1, h0, h1]
  refine ⟨⟨by simp; omega, fun p I => ?_⟩, fun p => by rw [key p []]⟩
  rw [key p I, key p []]
  simp only [List.length_append, List.length_cons, List.length_nil]
  rw [show p + (y.length + (z.length + (0 + 1))) - 1 = p + y.length + z.length by omega]
theorem TR.cl {y : List Sy} {l : Int32} {r : List Int32} (t : TR y l r) : cCl y :=
  t (fun y _ _ => cCl y) (fun _ _ => cCl_leaf (Or.inl rfl)) (fun _ _ => cCl_leaf (Or.inr rfl)) (fun _ _ _ _ _ _ h => (cCl_un (Or.inl rfl) h).1) (fun _ _ _ h => (cCl_un (Or.inr (Or.inr rfl)) h).1) (fun _ _ _ h => (cCl_un (Or.inr (Or.inl rfl)) h).1) (fun _ _ _ _ _ _ _ h h1 h2 => (cCl_bin h h1 h2).1)
/-- the parts E stand in the text at o from p on -/
def cPA (σ : cS) (o p : Nat) (E : List Pt) : Prop := ∀ k e, E[k]? = some e → σ.1 (o + 1) (p + k) = e.1 ∧ σ.1 (o + 2) (p + k) = e.2.1 ∧ σ.1 (o + 3) (p + k) = e.2.2
theorem cPA_app {σ : cS} {o p : Nat} {E F : List Pt} (h1 : cPA σ o p E) (h2 : cPA σ o (p + E.length) F) : cPA σ o p (E ++ F) := by
  intro k e hk
  by_cases hl : k < E.length
  · rw [List.getElem?_append_left hl] at hk
    exact h1 k e hk
  · rw [List.getElem?_append_right (by omega)] at hk
    have := h2 _ e hk
    rwa [show p + E.length + (k - E.length) = p + k by omega] at this
theorem cPA_left {σ : cS} {o p : Nat} {E F : List Pt} (h : cPA σ o p (E ++ F)) : cPA σ o p E := by
  intro k e hk
  have hl := (List.getElem?_eq_some_iff.mp hk).1
  exact h k e (by rw [List.getElem?_append_left hl]; exact hk)
theorem cPA_right {σ : cS} {o p : Nat} {E F : List Pt} (h : cPA σ o p (E ++ F)) : cPA σ o (p + E.length) F := by
  intro k e hk
  have := h (E.length + k) e (by rw [List.getElem?_append_right (by omega)]; rw [show E.length + k - E.length = k by omega]; exact hk)
  rwa [show p + (E.length + k) = p + E.length + k by omega] at this
/-! ===== WHAT A SUM's READING LEAVES AS IT WAS ===== -/
def ow (w : Option Nat) : Int32 := match w with
  | none => -1
  | some q => nz q
def cEF (p : Nat) (σ σ' : cS) : Prop := σ'.2 = σ.2 ∧ (∀ o j, o ≠ 3 → o ≠ 4 → o ≠ 6 → o ≠ 7 → o ≠ 8 → o ≠ 9 → σ'.1 o j = σ.1 o j) ∧ (∀ j, j ≠ 3 → j ≠ 5 → σ'.1 3 j = σ.1 3 j) ∧ (∀ j, j ≠ 6 → σ'.1 4 j = σ.1 4 j) ∧ (∀ j, j ≠ 3 → σ'.1 6 j = σ.1 6 j) ∧ (∀ o j, o = 7 ∨ o = 8 ∨ o = 9 → j < p → σ'.1 o j = σ.1 o j)
theorem cEF.rf {p : Nat} {σ : cS} : cEF p σ σ := ⟨rfl, fun _ _ _ _ _ _ _ _ => rfl, fun _ _ _ => rfl, fun _ _ => rfl, fun _ _ => rfl, fun _ _ _ _ => rfl⟩
theorem cEF.tr {p p' : Nat} {σ σ1 σ2 : cS} (h : cEF p σ σ1) (h' : cEF p' σ1 σ2) (hp : p ≤ p') : cEF p σ σ2 := by
  obtain ⟨a1, a2, a3, a4, a5, a6⟩ := h
  obtain ⟨b1, b2, b3, b4, b5, b6⟩ := h'
  exact ⟨b1.trans a1, fun o j c1 c2 c3 c4 c5 c6 => (b2 o j c1 c2 c3 c4 c5 c6).trans (a2 o j c1 c2 c3 c4 c5 c6), fun j c1 c2 => (b3 j c1 c2).trans (a3 j c1 c2), fun j c1 => (b4 j c1).trans (a4 j c1), fun j c1 => (b5 j c1).trans (a5 j c1), fun o j c1 c2 => (b6 o j c1 (by omega)).trans (a6 o j c1 c2)⟩
theorem cEF_at {p : Nat} {σ : cS} {v : Int32} : cEF p σ (stI σ 3 3 v) := by
  refine ⟨rfl, ?_, ?_, ?_, ?_, ?_⟩
  · intro o j h1 h2 h3 h4 h5 h6; simp [gI, h1]
  · intro j h1 h2; simp [gI, h1]
  · intro j h1; simp [gI]
  · intro j h1; simp [gI]
  · rintro o j (rfl | rfl | rfl) h <;> simp [gI]
theorem cEF_w {p : Nat} {σ : cS} {v : Int32} : cEF p σ (stI σ 3 5 v) := by
  refine ⟨rfl, ?_, ?_, ?_, ?_, ?_⟩
  · intro o j h1 h2 h3 h4 h5 h6; simp [gI, h1]
  · intro j h1 h2; simp [gI, h2]
  · intro j h1; simp [gI]
  · intro j h1; simp [gI]
  · rintro o j (rfl | rfl | rfl) h <;> simp [gI]
theorem cEF_bad {p : Nat} {σ : cS} {v : Int32} : cEF p σ (stI σ 4 6 v) := by
  refine ⟨rfl, ?_, ?_, ?_, ?_, ?_⟩
  · intro o j h1 h2 h3 h4 h5 h6; simp [gI, h2]
  · intro j h1 h2; simp [gI]
  · intro j h1; simp [gI, h1]
  · intro j h1; simp [gI]
  · rintro o j (rfl | rfl | rfl) h <;> simp [gI]
def stP (σ : cS) (p : Nat) (e : Pt) : cS := stI (stI (stI (stI σ 7 p e.1) 8 p e.2.1) 9 p e.2.2) 6 3 (nz (p + 1))
theorem cEF_part {p : Nat} {σ : cS} {e : Pt} : cEF p σ (stP σ p e) := by
  refine ⟨rfl, ?_, ?_, ?_, ?_, ?_⟩
  · intro o j h1 h2 h3 h4 h5 h6; simp [stP, gI, h3, h4, h5, h6]
  · intro j h1 h2; simp [stP, gI]
  · intro j h1; simp [stP, gI]
  · intro j h1; simp [stP, gI, h1]
  · rintro o j (rfl | rfl | rfl) h <;> simp [stP, gI] <;> intro q <;> omega
theorem cPA_part {σ : cS} {p : Nat} {e : Pt} : cPA (stP σ p e) 6 p [e] := by
  intro k x hk
  cases k with
  | zero => simp at hk; subst hk; simp [stP, gI]
  | succ k => simp at hk
theorem cPA_fr {p p' : Nat} {σ σ' : cS} {E : List Pt} (h : cPA σ 6 p E) (hf : cEF p' σ σ') (hp : p + E.length ≤ p') : cPA σ' 6 p E := by
  intro k e hk
  have hl := (List.getElem?_eq_some_iff.mp hk).1
  have := h k e hk
  rw [hf.2.2.2.2.2 _ _ (Or.inl rfl) (by omega), hf.2.2.2.2.2 _ _ (Or.inr (Or.inl rfl)) (by omega), hf.2.2.2.2.2 _ _ (Or.inr (Or.inr rfl)) (by omega)]
  exact this
/-- the reader at the place i of a text, p parts being there -/
def cES (σ : cS) (n : Nat) (tx : Nat → Int32) (own : Int32) (i : Nat) (w : Option Nat) (p : Nat) : Prop :=
  cTx σ n tx ∧ σ.1 3 3 = nz i ∧ i ≤ n ∧ σ.1 3 5 = ow w ∧ wG n w ∧ σ.1 3 6 = own ∧ σ.2.2 3 2 = some 6 ∧ σ.1 6 3 = nz p ∧ p + nbr n tx i ≤ 400
section
variable {n : Nat} {tx : Nat → Int32} {own : Int32} {i p : Nat} {w : Option Nat} {σ : cS}
theorem cES.htx (h : cES σ n tx own i w p) : cTx σ n tx := h.1
theorem cES.hn6 (h : cES σ n tx own i w p) : n ≤ 600 := h.1.2.1
theorem cES.hat (h : cES σ n tx own i w p) : σ.1 3 3 = nz i := h.2.1
theorem cES.hle (h : cES σ n tx own i w p) : i ≤ n := h.2.2.1
theorem cES.hw (h : cES σ n tx own i w p) : σ.1 3 5 = ow w := h.2.2.2.1
theorem cES.hg (h : cES σ n tx own i w p) : wG n w := h.2.2.2.2.1
theorem cES.how (h : cES σ n tx own i w p) : σ.1 3 6 = own := h.2.2.2.2.2.1
theorem cES.hto (h : cES σ n tx own i w p) : σ.2.2 3 2 = some 6 := h.2.2.2.2.2.2.1
theorem cES.hp (h : cES σ n tx own i w p) : σ.1 6 3 = nz p := h.2.2.2.2.2.2.2.1
theorem cES.hbd (h : cES σ n tx own i w p) : p + nbr n tx i ≤ 400 := h.2.2.2.2.2.2.2.2
theorem cES.go {j : Nat} (h : cES σ n tx own i w p) (hj : i ≤ j) (hn : j ≤ n) : cES (stI σ 3 3 (nz j)) n tx own j w p := by
  have := nbr_mono (n := n) (tx := tx) hj
  have := h.hbd
  refine ⟨h.htx.at _, by simp [gI], hn, by simpa [gI] using h.hw, h.hg, by simpa [gI] using h.how, h.hto, by simpa [gI] using h.hp, by omega⟩
theorem cES.wr {w' : Option Nat} (h : cES σ n tx own i w p) (hw : wG n w') : cES (stI σ 3 5 (ow w')) n tx own i w' p := by
  obtain ⟨h1, h2, h3⟩ := h.htx
  refine ⟨⟨by simpa [gI] using h1, h2, fun k hk => by simpa [gI] using h3 k hk⟩, by simpa [gI] using h.hat, h.hle, by simp [gI], hw, by simpa [gI] using h.how, h.hto, by simpa [gI] using h.hp, h.hbd⟩
theorem cES.part {e : Pt} (h : cES σ n tx own i w p) (hb : p + 1 + nbr n tx i ≤ 400) : cES (stP σ p e) n tx own i w (p + 1) := by
  obtain ⟨h1, h2, h3⟩ := h.htx
  refine ⟨⟨by simpa [stP, gI] using h1, h2, fun k hk => by simpa [stP, gI] using h3 k hk⟩, by simpa [stP, gI] using h.hat, h.hle, by simpa [stP, gI] using h.hw, h.hg, by simpa [stP, gI] using h.how, h.hto, by simp [stP, gI], hb⟩
theorem cES_sk (h : cES σ n tx own i w p) : cES (stI σ 3 3 (nz (sk n tx i))) n tx own (sk n tx i) w p := h.go (sk_ge i) (sk_le h.hle)
end
theorem ow_m1 {n : Nat} {w : Option Nat} (h : wG n w) (hn : n ≤ 600) : ow w = -1 ↔ w = none := by
  cases w with
  | none => simp [ow]
  | some q => have := h q rfl; simp only [ow, reduceCtorEq, iff_false]; exact nz_m1 (by omega)
theorem cNote {σ : cS} {n : Nat} {w : Option Nat} {q : Nat} (hw : σ.1 3 5 = ow w) (hg : wG n w) (hn : n ≤ 600) (hq : q ≤ 1000) (bad : Bool) : fX1_note (if bad = true then 0 else 1) (nz q) σ = some ((), stI σ 3 5 (ow (ntb bad w q))) := by
  unfold fX1_note ntb
  cases bad with
  | false => simp; exact (stI_self hw).symm
  | true =>
    simp only [if_true]
    cases w with
    | none =>
      have hw' : σ.1 3 5 = -1 := hw
      rw [hw', if_pos rfl]; rfl
    | some x =>
      have hx := hg x rfl
      have hw' : σ.1 3 5 = nz x := hw
      rw [hw', if_neg (nz_m1 (by omega))]
      by_cases hlt : q < x
      · rw [if_neg (by rw [nz_le (by omega) (by omega)]; omega)]
        show some ((), stI σ 3 5 (nz q)) = some ((), stI σ 3 5 (ow (if q < x then some q else some x)))
        rw [if_pos hlt]; rfl
      · rw [if_pos (by rw [nz_le (by omega) (by omega)]; omega)]
        show some ((), σ) = some ((), stI σ 3 5 (ow (if q < x then some q else some x)))
        rw [if_neg hlt, stI_self hw]
theorem cNoteT {σ : cS} {n : Nat} {w : Option Nat} {q : Nat} (hw : σ.1 3 5 = ow w) (hg : wG n w) (hn : n ≤ 600) (hq : q ≤ 1000) : fX1_note 0 (nz q) σ = some ((), stI σ 3 5 (ow (ntb true w q))) := cNote hw hg hn hq true
theorem cNoteF {σ : cS} {n : Nat} {w : Option Nat} {q : Nat} (hw : σ.1 3 5 = ow w) (hg : wG n w) (hn : n ≤ 600) (hq : q ≤ 1000) : fX1_note 1 (nz q) σ = some ((), stI σ 3 5 (ow (ntb false w q))) := cNote hw hg hn hq false
theorem cPart {σ : cS} {p : Nat} {s a b : Int32} (hs : lo7 s) (hp : σ.1 6 3 = nz p) (hb : p < 402) : fX3_part 6 s a b σ = some (nz p, stP σ p (s, a, b)) := by
  unfold fX3_part
  rw [hp, ck_n hb (by omega), nz_tn (by omega)]
  have e : vp_nar .byte s.toInt8.toInt32 = s := by
    rw [vp_nar_byte]
    show sb (sb s) = s
    rw [hs.sb, hs.sb]
  simp only [wI, gI, hp, e]
  simp only [show ¬ (6 = 7) by decide, show ¬ (6 = 8) by decide, show ¬ (6 = 9) by decide, show ¬ (6 + 1 = 6) by decide, if_false, Nat.reduceAdd, Nat.reduceEqDiff, hp, ck_n hb (show 402 < 2147483648 by decide), nz_tn (show p < 2147483648 by omega), nz_s]
  rfl
theorem cNum {σ : cS} {n : Nat} {tx : Nat → Int32} {i : Nat} (h : cTx σ n tx) (hi : σ.1 3 3 = nz i) (hn : i ≤ n) : fX1_number σ = if isI (pk n tx i) 48 57 = true then some (some (pNm n tx (sk n tx i)).2.2, stI σ 3 3 (nz (pNm n tx (sk n tx i)).1)) else some (none, stI (stI σ 3 3 (nz (sk n tx i))) 4 6 (nz (sk n tx i))) := by
  have h2 := h.2.1
  unfold fX1_number
  rw [cLook h hi hn, bd_s, isIn0, bd_s]
  by_cases hc : isI (pk n tx i) 48 57 = true
  · obtain ⟨a, ha, ea⟩ := isI_dig hc
    obtain ⟨hlt, etx⟩ := pkc_ne (n := n) (tx := tx) (i := i) (by rw [ea]; exact nz_m1 (by omega))
    have hraw := (h.2.2 _ hlt).1
    rw [etx, ea, sb_low (by omega)] at hraw
    rw [if_pos hc, if_pos hc, if_neg (by decide), wI_e]
    have e33 : (stI σ 3 3 (nz (sk n tx i))).1 3 3 = nz (sk n tx i) := by simp [gI]
    rw [e33, nz_s, ck_n (by omega) (by omega), nz_tn (by omega), stI_stI]
    have e1 : (stI σ 3 3 (nz (sk n tx i + 1))).1 1 (sk n tx i) = nz (48 + a) := by simp [gI, hraw]
    rw [e1]
    have e2 : nz (48 + a) - 48 = nz a := by rw [show (48 : Int32) = nz 48 from rfl, nz_sub (by omega)]; congr 1; omega
    rw [e2]
    unfold pNm
    by_cases ha0 : a = 0
    · rw [if_pos (by rw [ha0]; decide), if_neg (by rw [etx, ea, ha0]; simp; intro q; exact absurd rfl q)]
      rw [etx, ea, e2]
    · rw [if_neg (by rw [nz_le0 (by omega)]; exact ha0)]
      have ne48 : tx (sk n tx i) ≠ 48 := by rw [etx, ea, show (48 : Int32) = nz 48 from rfl]; intro q; rw [nz_inj (by omega) (by omega)] at q; omega
      unfold fX1_isDigit
      have e34 : (stI σ 3 3 (nz (sk n tx i + 1))).1 3 4 = nz n := by simp [gI, h.1]
      have e33' : (stI σ 3 3 (nz (sk n tx i + 1))).1 3 3 = nz (sk n tx i + 1) := by simp [gI]
      rw [e34, e33']
      by_cases hl2 : sk n tx i + 1 < n
      · rw [if_neg (by rw [nz_le (by omega) (by omega)]; omega), ck_n (by omega) (by omega), nz_tn (by omega), isIn0, bd_s]
        have hraw2 := h.2.2 _ hl2
        have e4 : (stI σ 3 3 (nz (sk n tx i + 1))).1 1 (sk n tx i + 1) = sb (tx (sk n tx i + 1)) := by simp [gI, hraw2.1]
        rw [e4]
        have hiff : isI (sb (tx (sk n tx i + 1))) 48 57 = true ↔ isI (tx (sk n tx i + 1)) 48 57 = true := by
          obtain ⟨b, hb, eb⟩ := hraw2.2
          rw [eb]
          have := List.all_eq_true.mp (show (List.range 256).all (fun b => isI (sb (nz b)) 48 57 == isI (nz b) 48 57) = true by decide +kernel) b (List.mem_range.mpr hb)
          rw [beq_iff_eq.mp this]
        by_cases hd2 : isI (tx (sk n tx i + 1)) 48 57 = true
        · obtain ⟨b, hb, eb⟩ := isI_dig hd2
          rw [if_pos (hiff.mpr hd2), if_neg (by decide), bd_s, if_neg (by decide), wI_e, e33', nz_s, ck_n (by omega) (by omega), nz_tn (by omega), stI_stI, if_pos ⟨ne48, hl2, hd2⟩]
          have e5 : (stI σ 3 3 (nz (sk n tx i + 1 + 1))).1 1 (sk n tx i + 1) = tx (sk n tx i + 1) := by simp [gI, hraw2.1]; rw [eb, sb_low (by omega)]
          rw [e5, etx, ea, e2]
        · rw [if_neg (fun q => hd2 (hiff.mp q)), if_pos rfl, bd_s, if_pos rfl, if_neg (fun q => hd2 q.2.2), etx, ea, e2]
      · rw [if_pos (by rw [nz_le (by omega) (by omega)]; omega), bd_s, if_pos rfl, if_neg (fun q => hl2 q.2.1), etx, ea, e2]
  · rw [if_neg hc, if_neg hc, if_pos rfl, cBad, bd_s, ck_d rfl]
    simp [gI]
