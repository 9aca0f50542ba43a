set_option maxRecDepth 100000
/-! ===== THE COMPONENT PRINTS A SUM AS THE GRAMMAR SAYS ===== -/
theorem nz_div {a b : Nat} (ha : a < 2147483648) (hb : b < 2147483648) : nz a / nz b = nz (a / b) := (Int32.ofNat_div (by omega) (by omega)).symm
theorem nz_rem {a b : Nat} (ha : a < 2147483648) (hb : b < 2147483648) : nz a - nz a / nz b * nz b = nz (a % b) := by
  rw [nz_div ha hb, nz_mul, nz_sub (Nat.div_mul_le_self a b)]
  congr 1
  have := Nat.div_add_mod a b
  rw [Nat.mul_comm] at this
  omega
/-- bytes that are put behind the s that are there -/
def ptL (σ : cS) (s : Nat) : List Int32 → cS
  | [] => σ
  | b :: r => ptL (stI (stI σ 6 18 (nz (s + 1))) 20 s b) (s + 1) r
theorem ptL_app (x : List Int32) : ∀ (σ : cS) (s : Nat) (y : List Int32), ptL σ s (x ++ y) = ptL (ptL σ s x) (s + x.length) y := by
  induction x with
  | nil => intro σ s y; rfl
  | cons a x ih =>
    intro σ s y
    show ptL (stI (stI σ 6 18 (nz (s + 1))) 20 s a) (s + 1) (x ++ y) = ptL (ptL (stI (stI σ 6 18 (nz (s + 1))) 20 s a) (s + 1) x) _ y
    rw [ih, List.length_cons, show s + 1 + x.length = s + (x.length + 1) by omega]
theorem ptL_2 (x : List Int32) : ∀ (σ : cS) (s : Nat), (ptL σ s x).2 = σ.2 := by
  induction x with
  | nil => intro σ s; rfl
  | cons a x ih => intro σ s; exact (ih _ _).trans rfl
theorem ptL_o (x : List Int32) : ∀ (σ : cS) (s o j : Nat), o ≠ 20 → ¬ (o = 6 ∧ j = 18) → (ptL σ s x).1 o j = σ.1 o j := by
  induction x with
  | nil => intro σ s o j _ _; rfl
  | cons a x ih =>
    intro σ s o j h1 h2
    refine (ih _ _ o j h1 h2).trans ?_
    simp only [gI, h1, if_false]
    by_cases ho : o = 6
    · by_cases hj : j = 18
      · exact absurd ⟨ho, hj⟩ h2
      · simp [ho, hj]
    · simp [ho]
theorem ptL_s (x : List Int32) : ∀ (σ : cS) (s : Nat), σ.1 6 18 = nz s → (ptL σ s x).1 6 18 = nz (s + x.length) := by
  induction x with
  | nil => intro σ s h; exact h
  | cons a x ih =>
    intro σ s h
    refine (ih _ (s + 1) (by simp [gI])).trans ?_
    rw [List.length_cons, show s + 1 + x.length = s + (x.length + 1) by omega]
theorem ptL_b (x : List Int32) : ∀ (σ : cS) (s k : Nat), (ptL σ s x).1 20 k = if s ≤ k ∧ k < s + x.length then x.getD (k - s) 0 else σ.1 20 k := by
  induction x with
  | nil =>
    intro σ s k
    rw [if_neg (by simp)]; rfl
  | cons a x ih =>
    intro σ s k
    refine (ih _ (s + 1) k).trans ?_
    rw [List.length_cons]
    by_cases h1 : s + 1 ≤ k ∧ k < s + 1 + x.length
    · rw [if_pos h1, if_pos (by omega), show k - s = (k - (s + 1)) + 1 by omega]; rfl
    · rw [if_neg h1]
      by_cases h2 : k = s
      · subst h2; simp [gI]
      · rw [if_neg (by omega)]; simp [gI, h2]
theorem cPut {σ : cS} {s : Nat} {b : Int32} (hb : lo7 b) (hs : σ.1 6 18 = nz s) (h : s < 600) : fX3_put 6 b σ = some ((), ptL σ s [b]) := by
  unfold fX3_put
  rw [hs, wI_e, nz_s, ck_n h (by omega), wI_e, nz_tn (by omega)]
  rw [show vp_nar .byte b.toInt8.toInt32 = b by rw [vp_nar_byte]; show sb (sb b) = b; rw [hb.sb, hb.sb]]
  rfl
theorem pnm_lo {a : Nat} (h : a < 100) : ∀ b ∈ pnm a, lo7 b := by
  unfold pnm
  intro b hb
  split at hb
  · simp at hb; rw [hb]; exact lo7_lit (by omega)
  · simp at hb
    rcases hb with rfl | rfl <;> exact lo7_lit (by omega)
theorem cPutN {σ : cS} {s a : Nat} (ha : a < 100) (hs : σ.1 6 18 = nz s) (h : s + (pnm a).length ≤ 600) : fX3_putNumber 6 (nz a) σ = some ((), ptL σ s (pnm a)) := by
  unfold fX3_putNumber
  unfold pnm at h ⊢
  rw [show (9 : Int32) = nz 9 from rfl, show (10 : Int32) = nz 10 from rfl, show (48 : Int32) = nz 48 from rfl, nz_rem (by omega) (by omega), nz_div (by omega) (by omega), nz_add, nz_add]
  by_cases h9 : a ≤ 9
  · rw [if_pos h9] at h ⊢
    simp at h
    rw [if_pos (by rw [nz_le (by omega) (by omega)]; exact h9), cPut (lo7_lit (by omega)) hs (by omega), bd_s, show a % 10 = a by omega]
  · rw [if_neg h9] at h ⊢
    simp at h
    rw [if_neg (by rw [nz_le (by omega) (by omega)]; exact h9), cPut (lo7_lit (by omega)) hs (by omega), bd_s, cPut (s := s + 1) (lo7_lit (by omega)) (by exact ptL_s _ _ _ hs) (by omega), bd_s]
    rfl
theorem cPA_pt {σ : cS} {p s : Nat} {E : List Pt} {x : List Int32} (h : cPA σ 6 p E) : cPA (ptL σ s x) 6 p E := by
  intro k e hk
  have := h k e hk
  rw [ptL_o _ _ _ _ _ (by decide) (fun q => absurd q.1 (by decide)), ptL_o _ _ _ _ _ (by decide) (fun q => absurd q.1 (by decide)), ptL_o _ _ _ _ _ (by decide) (fun q => absurd q.1 (by decide))]
  exact this
theorem cp6 : cpLa 6 = (1, 3) := by decide +kernel
/-- printing with a level l, in a place that wants at least x -/
def Prn (y : List Sy) (l : Int32) (r : List Int32) : Prop :=
  (∀ b ∈ r, lo7 b) ∧ ∀ (p d : Nat) (σ : cS) (x : Int32) (s : Nat), y.length ≤ d → cPA σ 6 p (bld p y []).1 → p + y.length ≤ 402 → σ.1 6 18 = nz s → s + (par l x r).length ≤ 600 → rdP d 6 (nz (p + y.length - 1)) x σ = some ((), ptL σ s (par l x r))
theorem par_lo {l x : Int32} {r : List Int32} (h : ∀ b ∈ r, lo7 b) : ∀ b ∈ par l x r, lo7 b := by
  intro b hb
  unfold par at hb
  split at hb
  · exact h b hb
  · simp at hb
    rcases hb with rfl | hb | rfl
    · exact lo7_lit (a := 40) (by decide)
    · exact h b hb
    · exact lo7_lit (a := 41) (by decide)
/-- a print, given what its inner part prints -/
theorem prWrap {R : Nat → Int32 → Int32 → cS → Option (Unit × cS)} {k : Nat} {x l sg : Int32} {r : List Int32} {σ : cS} {s : Nat} (hk : k < 402) (hl : (if lvC sg = -1 then 3 else lvC sg) = l) (hsg : σ.1 7 k = sg) (hs : σ.1 6 18 = nz s) (hlen : s + (par l x r).length ≤ 600)
    (hin : ∀ (σ1 : cS) (s1 : Nat), (∀ o j, o ≠ 20 → ¬ (o = 6 ∧ j = 18) → σ1.1 o j = σ.1 o j) → σ1.1 6 18 = nz s1 → s1 + r.length ≤ 600 → s1 + (r ++ (if x ≤ l then [] else [41])).length ≤ 600 → fX0_print_B_17 R 6 (nz k) x l σ1 = some ((), ptL σ1 s1 (r ++ (if x ≤ l then [] else [41])))) :
    fX0_print_B R 6 (nz k) x σ = some ((), ptL σ s (par l x r)) := by
  unfold fX0_print_B fX0_binds
  rw [ck_d cp6, ck_d cp6, ck_n hk (by omega), nz_tn (by omega), show σ.1 (6 + 1) k = sg from hsg, cLevel, bd_s]
  have e : (if lvC sg = -1 then some ((3 : Int32), σ) else some (lvC sg, σ)) = some (l, σ) := by
    rw [← hl]; split <;> rfl
  rw [e, bd_s]
  unfold par at hlen ⊢
  by_cases hx : x ≤ l
  · rw [if_pos hx] at hlen
    rw [if_pos hx, if_pos hx, hin σ s (fun _ _ _ _ => rfl) hs (by omega) (by rw [if_pos hx]; simpa using hlen), if_pos hx, List.append_nil]
  · rw [if_neg hx] at hlen
    simp only [List.length_cons, List.length_append, List.length_nil] at hlen
    rw [if_neg hx, if_neg hx, cPut (show lo7 40 from ⟨40, by decide, rfl⟩) hs (by omega), bd_s, hin _ (s + 1) (fun o j h1 h2 => ptL_o _ _ _ _ _ h1 h2) (ptL_s _ _ _ hs) (by omega) (by rw [if_neg hx]; simp; omega), if_neg hx]
    rfl
/-- the closing sign -/
theorem prEnd {x l : Int32} {r : List Int32} {σ : cS} {s : Nat} (hs : σ.1 6 18 = nz s) (hlen : s + (r ++ (if x ≤ l then [] else [41])).length ≤ 600) :
    (if x ≤ l then some ((), ptL σ s r) else bd (fX3_put 6 41 (ptL σ s r)) fun _ σ3 => some ((), σ3)) = some ((), ptL σ s (r ++ (if x ≤ l then [] else [41]))) := by
  by_cases hx : x ≤ l
  · rw [if_pos hx, if_pos hx, List.append_nil]
  · rw [if_neg hx] at hlen
    simp at hlen
    rw [if_neg hx, if_neg hx, cPut (show lo7 41 from ⟨41, by decide, rfl⟩) (ptL_s _ _ _ hs) (by omega), bd_s, ptL_app]
theorem bld_last {σ : cS} {p : Nat} {E : List Pt} {e : Pt} (h : cPA σ 6 p (E ++ [e])) : σ.1 7 (p + E.length) = e.1 ∧ σ.1 8 (p + E.length) = e.2.1 ∧ σ.1 9 (p + E.length) = e.2.2 := by
  have := h E.length e (by simp)
  exact this
theorem Prn_leaf {a : Int32} {v : Int32} {r : List Int32} (ha : a = 0 ∨ a = 1) (hr : ∀ b ∈ r, lo7 b)
    (hb : ∀ (σ : cS) (s : Nat), σ.1 6 18 = nz s → s + r.length ≤ 600 → (if a = 0 then fX3_putNumber 6 v σ else fX3_put 6 ((97 : Int32) + v) σ) = some ((), ptL σ s r)) : Prn [(a, v)] 3 r := by
  refine ⟨hr, fun p d σ x s hd hP hp hs hlen => ?_⟩
  obtain ⟨d, rfl⟩ : ∃ e, d = e + 1 := ⟨d - 1, by simp at hd; omega⟩
  have hP : cPA σ 6 p [(a, v, 0)] := by simpa [bld, bl1, ha] using hP
  obtain ⟨e1, e2, e3⟩ := bld_last (E := []) hP
  simp only [List.length_nil, Nat.add_zero] at e1 e2 e3
  show fX0_print_B (rdP d) 6 (nz (p + 1 - 1)) x σ = _
  rw [show p + 1 - 1 = p by omega]
  simp at hp
  refine prWrap (by omega) (sg := a) ?_ e1 hs hlen ?_
  · rcases ha with rfl | rfl <;> decide
  · intro σ1 s1 hf hs1 hl1 hl2
    unfold fX0_print_B_17
    rw [ck_n (by omega) (by omega), nz_tn (by omega), show σ1.1 (6 + 1) p = a from (hf _ _ (by decide) (fun q => absurd q.1 (by decide))).trans e1, show σ1.1 (6 + 2) p = v from (hf _ _ (by decide) (fun q => absurd q.1 (by decide))).trans e2]
    have hb1 := hb σ1 s1 hs1 hl1
    rcases ha with rfl | rfl
    · rw [if_pos rfl] at hb1
      rw [if_pos rfl, ck_n (by omega) (by omega), hb1, bd_s]
      exact prEnd hs1 hl2
    · rw [if_neg (by decide)] at hb1
      rw [if_neg (by decide), if_pos rfl, ck_n (by omega) (by omega), hb1, bd_s]
      exact prEnd hs1 hl2
theorem Prn_un {y : List Sy} {l : Int32} {r : List Int32} {a v : Int32} {x0 : Int32} {r0 r1 : List Int32} (ha : a = 2 ∨ a = 33 ∨ a = 91) (hC : cCl y) (h : Prn y l r)
    (hr : ∀ b ∈ r0 ++ (par l x0 r ++ r1), lo7 b)
    (hb : ∀ (R : Nat → Int32 → Int32 → cS → Option (Unit × cS)) (k m : Nat) (x : Int32) (σ : cS) (s : Nat), k < 402 → σ.1 7 k = a → σ.1 8 k = nz m → σ.1 9 k = v → σ.1 6 18 = nz s → s + (r0 ++ (par l x0 r ++ r1)).length ≤ 600 → s + (r0 ++ (par l x0 r ++ r1) ++ (if x ≤ 3 then [] else [41])).length ≤ 600 →
      (R 6 (nz m) x0 (ptL σ s r0) = some ((), ptL (ptL σ s r0) (s + r0.length) (par l x0 r))) → fX0_print_B_17 R 6 (nz k) x 3 σ = some ((), ptL σ s (r0 ++ (par l x0 r ++ r1) ++ (if x ≤ 3 then [] else [41])))) :
    Prn (y ++ [(a, v)]) 3 (r0 ++ (par l x0 r ++ r1)) := by
  refine ⟨hr, fun p d σ x s hd hP hp hs hlen => ?_⟩
  simp only [List.length_append, List.length_cons, List.length_nil] at hd hp
  obtain ⟨d, rfl⟩ : ∃ e, d = e + 1 := ⟨d - 1, by omega⟩
  rw [(cCl_un (b := v) ha hC).2 p] at hP
  obtain ⟨e1, e2, e3⟩ := bld_last hP
  rw [bld_len] at e1 e2 e3
  have hP1 := cPA_left hP
  have h0 := hC.1
  show fX0_print_B (rdP d) 6 (nz (p + (y ++ [(a, v)]).length - 1)) x σ = _
  rw [show p + (y ++ [(a, v)]).length - 1 = p + y.length by simp]
  refine prWrap (by omega) (sg := a) ?_ e1 hs hlen ?_
  · rcases ha with rfl | rfl | rfl <;> decide
  · intro σ1 s1 hf hs1 hl1 hl2
    have hf' : ∀ o j, o ≠ 20 → o ≠ 6 → σ1.1 o j = σ.1 o j := fun o j q1 q2 => hf o j q1 (fun q => q2 q.1)
    refine hb (rdP d) (p + y.length) (p + y.length - 1) x σ1 s1 (by omega) ((hf' _ _ (by decide) (by decide)).trans e1) ((hf' _ _ (by decide) (by decide)).trans e2) ((hf' _ _ (by decide) (by decide)).trans e3) hs1 hl1 hl2 ?_
    refine h.2 p d _ x0 _ (by omega) ?_ (by omega) (ptL_s _ _ _ hs1) ?_
    · refine cPA_pt ?_
      intro k e hk
      have := hP1 k e hk
      rw [hf' _ _ (by decide) (by decide), hf' _ _ (by decide) (by decide), hf' _ _ (by decide) (by decide)]
      exact this
    · simp only [List.length_append] at hl1; omega
theorem prUn1 {y0 r0 : List Int32} {R : Nat → Int32 → Int32 → cS → Option (Unit × cS)} {m : Nat} {x0 x l : Int32} {σ : cS} {s : Nat} (hs : σ.1 6 18 = nz s) (hr : R 6 (nz m) x0 (ptL σ s r0) = some ((), ptL (ptL σ s r0) (s + r0.length) y0)) {c : Int32} (hc : lo7 c) (hlen : s + (r0 ++ (y0 ++ [c])).length ≤ 600) (hl2 : s + (r0 ++ (y0 ++ [c]) ++ (if x ≤ l then [] else [41])).length ≤ 600) :
    (bd (R 6 (nz m) x0 (ptL σ s r0)) fun _ σ1 => bd (fX3_put 6 c σ1) fun _ σ2 => if x ≤ l then some ((), σ2) else bd (fX3_put 6 41 σ2) fun _ σ3 => some ((), σ3)) = some ((), ptL σ s (r0 ++ (y0 ++ [c]) ++ (if x ≤ l then [] else [41]))) := by
  simp only [List.length_append, List.length_cons, List.length_nil] at hlen
  rw [hr, bd_s, cPut hc (ptL_s _ _ _ (ptL_s _ _ _ hs)) (by omega), bd_s, ← ptL_app, ← ptL_app]
  exact prEnd hs hl2
theorem Prn_of {y : List Sy} {l : Int32} {r : List Int32} (t : TR y l r) : cCl y ∧ 0 ≤ l ∧ Prn y l r := by
  refine t (fun y l r => cCl y ∧ 0 ≤ l ∧ Prn y l r) ?_ ?_ ?_ ?_ ?_ ?_
  · intro a ha
    refine ⟨cCl_leaf (Or.inl rfl), by decide, Prn_leaf (Or.inl rfl) (pnm_lo ha) ?_⟩
    intro σ s hs hl
    rw [if_pos rfl]
    exact cPutN ha hs hl
  · intro a ha
    refine ⟨cCl_leaf (Or.inr rfl), by decide, Prn_leaf (Or.inr rfl) ?_ ?_⟩
    · intro b hb; simp at hb; rw [hb]; exact lo7_lit (by omega)
    · intro σ s hs hl
      rw [if_neg (by decide), show (97 : Int32) = nz 97 from rfl, nz_add]
      exact cPut (lo7_lit (by omega)) hs (by simp at hl; omega)
  · intro y l r a ha1 ha2 ⟨hC, h0, h⟩
    refine ⟨(cCl_un (Or.inl rfl) hC).1, by decide, ?_⟩
    have := Prn_un (x0 := 0) (r0 := [nz a, 40]) (r1 := [41]) (v := nz a) (Or.inl rfl) hC h ?_ ?_
    · rw [par_le h0] at this
      exact this
    · intro b hb
      simp only [List.mem_append, List.mem_cons, List.not_mem_nil, or_false] at hb
      rcases hb with (rfl | rfl) | hb | rfl
      · exact lo7_lit (by omega)
      · exact ⟨40, by decide, rfl⟩
      · exact par_lo h.1 b hb
      · exact ⟨41, by decide, rfl⟩
    · intro R k m x σ s hk e1 e2 e3 hs hl1 hl2 hr
      unfold fX0_print_B_17
      rw [ck_n hk (by omega), nz_tn (by omega), show σ.1 (6 + 1) k = 2 from e1, if_neg (by decide), if_neg (by decide), if_pos rfl, ck_n hk (by omega), show σ.1 (6 + 3) k = nz a from e3]
      simp only [List.length_append, List.length_cons, List.length_nil] at hl1
      rw [cPut (lo7_lit (by omega)) hs (by omega), bd_s, cPut (s := s + 1) (show lo7 40 from ⟨40, by decide, rfl⟩) (ptL_s _ _ _ hs) (by omega), bd_s, ck_n hk (by omega)]
      rw [show ptL (ptL σ s [nz a]) (s + 1) [40] = ptL σ s [nz a, 40] from rfl]
      rw [show (ptL σ s [nz a, 40]).1 (6 + 2) k = nz m from (ptL_o _ _ _ _ _ (by decide) (fun q => absurd q.1 (by decide))).trans e2]
      exact prUn1 hs hr (show lo7 41 from ⟨41, by decide, rfl⟩) (by simp; omega) hl2
  · intro y l r ⟨hC, h0, h⟩
    refine ⟨(cCl_un (Or.inr (Or.inr rfl)) hC).1, by decide, ?_⟩
    have := Prn_un (x0 := 0) (r0 := [91]) (r1 := [93]) (v := 0) (Or.inr (Or.inr rfl)) hC h ?_ ?_
    · rw [par_le h0] at this
      exact this
    · intro b hb
      simp only [List.mem_append, List.mem_cons, List.not_mem_nil, or_false] at hb
      rcases hb with rfl | hb | rfl
      · exact ⟨91, by decide, rfl⟩
      · exact par_lo h.1 b hb
      · exact ⟨93, by decide, rfl⟩
    · intro R k m x σ s hk e1 e2 e3 hs hl1 hl2 hr
      unfold fX0_print_B_17
      rw [ck_n hk (by omega), nz_tn (by omega), show σ.1 (6 + 1) k = 91 from e1, if_neg (by decide), if_neg (by decide), if_neg (by decide), if_neg (by decide), if_pos rfl]
      simp only [List.length_append, List.length_cons, List.length_nil] at hl1
      rw [cPut (show lo7 91 from ⟨91, by decide, rfl⟩) hs (by omega), bd_s, ck_n hk (by omega)]
      rw [show (ptL σ s [91]).1 (6 + 2) k = nz m from (ptL_o _ _ _ _ _ (by decide) (fun q => absurd q.1 (by decide))).trans e2]
      exact prUn1 hs hr (show lo7 93 from ⟨93, by decide, rfl⟩) (by simp; omega) hl2
  · intro y l r ⟨hC, h0, h⟩
    refine ⟨(cCl_un (Or.inr (Or.inl rfl)) hC).1, by decide, ?_⟩
    have := Prn_un (x0 := 3) (r0 := [33]) (r1 := []) (v := 0) (Or.inr (Or.inl rfl)) hC h ?_ ?_
    · rw [List.append_nil] at this
      exact this
    · intro b hb
      simp only [List.mem_append, List.mem_cons, List.not_mem_nil, or_false] at hb
      rcases hb with rfl | hb
      · exact ⟨33, by decide, rfl⟩
      · exact par_lo h.1 b hb
    · intro R k m x σ s hk e1 e2 e3 hs hl1 hl2 hr
      unfold fX0_print_B_17
      rw [ck_n hk (by omega), nz_tn (by omega), show σ.1 (6 + 1) k = 33 from e1, if_neg (by decide), if_neg (by decide), if_neg (by decide), if_pos rfl]
      simp only [List.length_append, List.length_cons, List.length_nil] at hl1
      rw [cPut (show lo7 33 from ⟨33, by decide, rfl⟩) hs (by omega), bd_s, ck_n hk (by omega)]
      rw [show (ptL σ s [33]).1 (6 + 2) k = nz m from (ptL_o _ _ _ _ _ (by decide) (fun q => absurd q.1 (by decide))).trans e2]
      rw [hr, bd_s, ← ptL_app]
      rw [List.append_nil] at hl2 ⊢
      exact prEnd hs hl2
  · intro y1 l1 r1 y2 l2 r2 c hc ⟨hC1, h01, h1⟩ ⟨hC2, h02, h2⟩
    obtain ⟨d1, d2⟩ := cCl_bin hc hC1 hC2
    refine ⟨d1, hc, ?_, ?_⟩
    · intro b hb
      simp only [List.mem_append, List.mem_cons] at hb
      rcases hb with hb | rfl | hb
      · exact par_lo h1.1 b hb
      · exact lo7_op hc
      · exact par_lo h2.1 b hb
    · intro p d σ x s hd hP hp hs hlen
      simp only [List.length_append, List.length_cons, List.length_nil] at hd hp
      obtain ⟨d, rfl⟩ : ∃ e, d = e + 1 := ⟨d - 1, by omega⟩
      rw [d2 p, ← List.append_assoc] at hP
      obtain ⟨e1, e2, e3⟩ := bld_last hP
      rw [List.length_append, bld_len, bld_len] at e1 e2 e3
      have hPl := cPA_left (cPA_left hP)
      have hPr := cPA_right (cPA_left hP)
      rw [bld_len] at hPr
      have hp1 := hC1.1
      have hp2 := hC2.1
      rw [show rdP (d + 1) = fX0_print_B (rdP d) from rfl, show p + (y1 ++ (y2 ++ ([(c, 0)] : List Sy))).length - 1 = p + (y1.length + y2.length) by simp; omega]
      have hcn : lvC c ≠ -1 := by intro q; rw [q] at hc; exact absurd hc (by decide)
      refine prWrap (by omega) (sg := c) (if_neg hcn) e1 hs hlen ?_
      intro σ1 s1 hf hs1 hl1 hl2
      have hf' : ∀ o j, o ≠ 20 → o ≠ 6 → σ1.1 o j = σ.1 o j := fun o j q1 q2 => hf o j q1 (fun q => q2 q.1)
      have hcs : c ≠ 0 ∧ c ≠ 1 ∧ c ≠ 2 ∧ c ≠ 33 ∧ c ≠ 91 := by
        refine ⟨?_, ?_, ?_, ?_, ?_⟩ <;> (rintro rfl; exact absurd hc (by decide))
      unfold fX0_print_B_17
      rw [ck_n (by omega) (by omega), nz_tn (by omega), show σ1.1 (6 + 1) _ = c from (hf' _ _ (by decide) (by decide)).trans e1, if_neg hcs.1, if_neg hcs.2.1, if_neg hcs.2.2.1, if_neg hcs.2.2.2.1, if_neg hcs.2.2.2.2, ck_n (by omega) (by omega), show σ1.1 (6 + 2) _ = nz (p + y1.length - 1) from (hf' _ _ (by decide) (by decide)).trans e2]
      have key : ∀ z : Int32, z = lsS (lvC c) → fX0_print_B_199 (rdP d) 6 (nz (p + (y1.length + y2.length))) x (lvC c) z (nz (p + y1.length - 1)) σ1 = some ((), ptL σ1 s1 (par l1 (lsS (lvC c)) r1 ++ c :: par l2 (lvC c + 1) r2 ++ (if x ≤ lvC c then [] else [41]))) := by
        intro z hz
        subst hz
        unfold fX0_print_B_199
        have hPl1 : cPA σ1 6 p (bld p y1 []).1 := by
          intro k e hk
          have := hPl k e hk
          rw [hf' _ _ (by decide) (by decide), hf' _ _ (by decide) (by decide), hf' _ _ (by decide) (by decide)]
          exact this
        have hPr1 : cPA σ1 6 (p + y1.length) (bld (p + y1.length) y2 []).1 := by
          intro k e hk
          have := hPr k e hk
          rw [hf' _ _ (by decide) (by decide), hf' _ _ (by decide) (by decide), hf' _ _ (by decide) (by decide)]
          exact this
        simp only [List.length_append, List.length_cons] at hl1
        rw [h1.2 p d σ1 _ s1 (by omega) hPl1 (by omega) hs1 (by omega), bd_s, ck_n (by omega) (by omega), nz_tn (by omega)]
        rw [show (ptL σ1 s1 (par l1 (lsS (lvC c)) r1)).1 (6 + 1) (p + (y1.length + y2.length)) = c from (ptL_o _ _ _ _ _ (by decide) (fun q => absurd q.1 (by decide))).trans ((hf' _ _ (by decide) (by decide)).trans e1)]
        rw [cPut (lo7_op hc) (ptL_s _ _ _ hs1) (by omega), bd_s, ck_n (by omega) (by omega), ← ptL_app]
        rw [show (ptL σ1 s1 (par l1 (lsS (lvC c)) r1 ++ [c])).1 (6 + 3) (p + (y1.length + y2.length)) = nz (p + y1.length + y2.length - 1) from (ptL_o _ _ _ _ _ (by decide) (fun q => absurd q.1 (by decide))).trans ((hf' _ _ (by decide) (by decide)).trans e3)]
        rw [h2.2 (p + y1.length) d _ _ _ (by omega) (cPA_pt hPr1) (by omega) (ptL_s _ _ _ hs1) (by simp; omega), bd_s, ← ptL_app, List.append_assoc]
        exact prEnd hs1 hl2
      by_cases hl0 : lvC c = 0
      · rw [if_pos hl0]
        exact key 1 (by rw [hl0]; rfl)
      · rw [if_neg hl0]
        exact key _ (by unfold lsS; rw [if_neg hl0])
/-- a sum's print behind its reading -/
theorem cPrint {y : List Sy} {l : Int32} {r : List Int32} {σ : cS} {p s : Nat} (t : TR y l r) (hP : cPA σ 6 p (bld p y []).1) (hp : p + y.length ≤ 402) (hs : σ.1 6 18 = nz s) (hl : s + r.length ≤ 600) : fX0_print 6 (nz (p + y.length - 1)) 0 σ = some ((), ptL σ s r) := by
  obtain ⟨_, h0, h⟩ := Prn_of t
  unfold fX0_print
  have := h.2 p DP σ 0 s (by unfold DP; omega) hP hp hs (by rw [par_le h0]; exact hl)
  rwa [par_le h0] at this
