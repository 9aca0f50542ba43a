set_option maxRecDepth 100000
/-! ===== what holds of texts that were read ===== -/
def pr1 (x : Int32) : Prop := isI x 32 126 = true
def nbl : List Int32 → Nat
  | [] => 0
  | x :: r => (if bl x = true then 0 else 1) + nbl r
theorem nbl_app (A : List Int32) : ∀ B, nbl (A ++ B) = nbl A + nbl B := by
  induction A with
  | nil => intro B; simp [nbl]
  | cons x A ih => intro B; simp only [List.cons_append, nbl, ih]; omega
theorem nbl_le (A : List Int32) : nbl A ≤ A.length := by
  induction A with
  | nil => exact Nat.le_refl _
  | cons x A ih => simp only [nbl, List.length_cons]; split <;> omega
theorem nbl_nbk (r : List Int32) : ∀ (A : List Int32), nbk (fun k => (A ++ r).getD k 0) r.length A.length = nbl r := by
  induction r with
  | nil => intro A; rfl
  | cons x r ih =>
    intro A
    have h0 : (A ++ x :: r).getD A.length 0 = x := by
      rw [List.getD_eq_getElem?_getD, List.getElem?_append_right (Nat.le_refl _), Nat.sub_self]; rfl
    have := ih (A ++ [x])
    rw [List.append_assoc, List.singleton_append, List.length_append, List.length_singleton] at this
    show (if bl ((A ++ x :: r).getD A.length 0) = true then 0 else 1) + nbk _ r.length (A.length + 1) = _
    rw [h0, this]; rfl
theorem nbl_nbr (r : List Int32) : nbr r.length (fun k => r.getD k 0) 0 = nbl r := nbl_nbk r []
theorem pr1_nz {a : Nat} (h1 : 32 ≤ a) (h2 : a ≤ 126) : pr1 (nz a) := by
  unfold pr1 isI
  rw [show (32 : Int32) = nz 32 from rfl, show (126 : Int32) = nz 126 from rfl, decide_eq_true ((nz_le (by omega) (by omega)).mpr h1), decide_eq_true ((nz_le (by omega) (by omega)).mpr h2)]; rfl
theorem pr1_d {a : Nat} (h : a < 100) : ∀ x ∈ pnm a, pr1 x := by
  have : (List.range 100).all (fun a => (pnm a).all (fun x => isI x 32 126)) = true := by decide +kernel
  have := List.all_eq_true.mp this a (List.mem_range.mpr h)
  exact fun x hx => List.all_eq_true.mp this x hx
theorem pr1_par {l m : Int32} {r : List Int32} (h : ∀ x ∈ r, pr1 x) : ∀ x ∈ par l m r, pr1 x := by
  intro x hx
  unfold par at hx
  split at hx
  · exact h x hx
  · simp only [List.mem_cons, List.mem_append, List.not_mem_nil, or_false] at hx
    rcases hx with rfl | hx | rfl
    · rfl
    · exact h x hx
    · rfl
theorem TR.pr {y : List Sy} {l : Int32} {r : List Int32} (h : TR y l r) : ∀ x ∈ r, pr1 x := by
  refine h (fun _ _ r => ∀ x ∈ r, pr1 x) ?_ ?_ ?_ ?_ ?_ ?_
  · intro a ha; exact pr1_d ha
  · intro a ha x hx
    rw [List.mem_singleton] at hx
    rw [hx]; exact pr1_nz (by omega) (by omega)
  · intro y l r a h1 h2 ih x hx
    simp only [List.mem_cons, List.mem_append, List.not_mem_nil, or_false] at hx
    rcases hx with rfl | rfl | hx | rfl
    · exact pr1_nz (by omega) (by omega)
    · rfl
    · exact ih x hx
    · rfl
  · intro y l r ih x hx
    simp only [List.mem_cons, List.mem_append, List.not_mem_nil, or_false] at hx
    rcases hx with rfl | hx | rfl
    · rfl
    · exact ih x hx
    · rfl
  · intro y l r ih x hx
    rcases List.mem_cons.mp hx with rfl | hx
    · rfl
    · exact pr1_par ih x hx
  · intro y1 l1 r1 y2 l2 r2 c hc ih1 ih2 x hx
    rcases List.mem_append.mp hx with hx | hx
    · exact pr1_par ih1 x hx
    · rcases List.mem_cons.mp hx with rfl | hx
      · rcases lvC_cases x with ⟨q, -⟩ | ⟨-, q | q⟩ | ⟨-, q | q⟩ | ⟨-, q | q | q⟩
        · rw [q] at hc; exact absurd hc (by decide)
        all_goals subst q; rfl
      · exact pr1_par ih2 x hx
section
variable {n : Nat} {tx : Nat → Int32}
def GP (n : Nat) (tx : Nat → Int32) (i : Nat) (q : ST) : Prop := nbl q.2.2.2.2.2 + nbr n tx q.1 ≤ nbr n tx i ∧ ∀ x ∈ q.2.2.2.2.2, pr1 x
theorem pAs_p {v : Int32} {p : Nat} {w : Option Nat} {st : Nat} {ch : List Int32} {q : ST} (hv : pr1 (97 + v)) (hp : p < n) (h : pAs n tx v p w st ch = .ok q) : nbl q.2.2.2.2.2 + nbr n tx q.1 ≤ nbr n tx (p + 1) + 1 ∧ ∀ x ∈ q.2.2.2.2.2, pr1 x := by
  unfold pAs at h
  have b1 : ∀ {c : Int32} {L : List Int32}, nbl (c :: L) ≤ 1 + nbl L := fun {c L} => by simp only [nbl]; split <;> omega
  split at h
  · next hc =>
    obtain ⟨h1, -⟩ := pkc_lt hc (by decide)
    have htk := nbr_tk h1
    obtain ⟨a, e1, h⟩ := eb_ok h
    obtain ⟨b, e2, h⟩ := eb_ok h
    obtain ⟨f1, f2, f3, f4, f5, f6⟩ := pSum_facts (by omega) e1
    obtain ⟨g1, g2, g3, g4, g5, g6⟩ := pTk_ok (by decide) e2
    cases h
    have n1 := nbl_le a.2.2.2.1
    refine ⟨?_, fun x hx => ?_⟩
    · simp only
      have := @b1 (97 + v) (61 :: (a.2.2.2.1 ++ [59]))
      have := @b1 61 (a.2.2.2.1 ++ [59])
      rw [nbl_app] at this
      have : nbl [59] = 1 := rfl
      omega
    · simp only [List.mem_cons, List.mem_append, List.not_mem_nil, or_false] at hx
      rcases hx with rfl | rfl | hx | rfl
      · exact hv
      · rfl
      · exact f4.pr x hx
      · rfl
  · split at h
    · next hc =>
      obtain ⟨h1, -⟩ := pkc_lt hc (by decide)
      have htk := nbr_tk h1
      obtain ⟨a, e1, h⟩ := eb_ok h
      obtain ⟨b, e2, h⟩ := eb_ok h
      obtain ⟨g1, g2, g3, g4, g5, g6⟩ := pTk_ok (by decide) e2
      cases h
      have hd : nbl a.2.2 + nbr n tx a.1 ≤ nbr n tx (sk n tx (p + 1) + 1) ∧ ∀ x ∈ a.2.2, pr1 x := by
        unfold pDr at e1
        obtain ⟨u, u1, e1⟩ := eb_ok e1
        obtain ⟨z, z1, e1⟩ := eb_ok e1
        obtain ⟨-, -, -, -, -, ⟨ua, ua1, -, ua2⟩, u6, -⟩ := pNo_ok u1
        obtain ⟨-, -, -, -, -, ⟨za, za1, -, za2⟩, z6, -⟩ := pNo_ok z1
        have nu := nbl_le u.2.1
        have nz' := nbl_le z.2.1
        have hb : ∀ L, nbl (32 :: L) = nbl L := fun L => by simp [nbl, bl]
        split at e1
        · next hd =>
          have t1 : pNo n tx z.1 = .ok (pNm n tx (sk n tx z.1)) := by unfold pNo; rw [if_pos hd]
          obtain ⟨-, -, -, -, -, ⟨ta, ta1, -, ta2⟩, t6, -⟩ := pNo_ok t1
          have nt' := nbl_le (pNm n tx (sk n tx z.1)).2.1
          cases e1
          refine ⟨?_, fun x hx => ?_⟩
          · simp only
            rw [nbl_app, hb, nbl_app, hb]; omega
          · simp only [List.mem_cons, List.mem_append] at hx
            rcases hx with hx | rfl | hx | rfl | hx
            · rw [ua2] at hx; exact pr1_d ua1 x hx
            · rfl
            · rw [za2] at hx; exact pr1_d za1 x hx
            · rfl
            · rw [ta2] at hx; exact pr1_d ta1 x hx
        · cases e1
          refine ⟨?_, fun x hx => ?_⟩
          · simp only
            rw [nbl_app, hb, nbr_sk]; omega
          · simp only [List.mem_cons, List.mem_append] at hx
            rcases hx with hx | rfl | hx
            · rw [ua2] at hx; exact pr1_d ua1 x hx
            · rfl
            · rw [za2] at hx; exact pr1_d za1 x hx
      refine ⟨?_, fun x hx => ?_⟩
      · simp only
        have := @b1 (97 + v) (126 :: (a.2.2 ++ [59]))
        have := @b1 126 (a.2.2 ++ [59])
        rw [nbl_app] at this
        have : nbl [59] = 1 := rfl
        have := hd.1
        omega
      · simp only [List.mem_cons, List.mem_append, List.not_mem_nil, or_false] at hx
        rcases hx with rfl | rfl | hx | rfl
        · exact hv
        · rfl
        · exact hd.2 x hx
        · rfl
    · split at h
      · next hc =>
        obtain ⟨h1, -⟩ := pkc_lt hc (by decide)
        have htk := nbr_tk h1
        obtain ⟨a, e1, h⟩ := eb_ok h
        obtain ⟨b, e2, h⟩ := eb_ok h
        obtain ⟨g1, g2, g3, g4, g5, g6⟩ := pTk_ok (by decide) e2
        obtain ⟨-, -, -, -, -, ⟨ua, ua1, -, ua2⟩, u6, -⟩ := pNo_ok e1
        have nu := nbl_le a.2.1
        cases h
        refine ⟨?_, fun x hx => ?_⟩
        · simp only
          have := @b1 (97 + v) (63 :: (a.2.1 ++ [59]))
          have := @b1 63 (a.2.1 ++ [59])
          rw [nbl_app] at this
          have : nbl [59] = 1 := rfl
          omega
        · simp only [List.mem_cons, List.mem_append, List.not_mem_nil, or_false] at hx
          rcases hx with rfl | rfl | hx | rfl
          · exact hv
          · rfl
          · rw [ua2] at hx; exact pr1_d ua1 x hx
          · rfl
      · cases h
theorem pBlp_p {R : Nat → Nat → Option Nat → Nat → Nat → List Int32 → SR} {dep i0 : Nat} (hR : ∀ dep i w st cb ch q, i ≤ n → R dep i w st cb ch = .ok q → GP n tx i q ∧ q.1 ≤ n) :
    ∀ (k i : Nat) (w : Option Nat) (st cb : Nat) (C : List Cd) (ch r : List Int32) (q : ST), i ≤ n → nbl r + nbr n tx i ≤ nbr n tx i0 → (∀ x ∈ r, pr1 x) → pBlp n tx R dep k i w st cb C ch r = .ok q → GP n tx i0 q := by
  intro k
  induction k with
  | zero => intro i w st cb C ch r q _ _ _ h; cases h
  | succ k ih =>
    intro i w st cb C ch r q hi hr hx h
    have hsl := sk_le (n := n) (tx := tx) hi
    have hsn := nbr_sk (n := n) (tx := tx) i
    unfold pBlp at h
    split at h
    · next hc =>
      obtain ⟨h1, h2⟩ := pkc_lt hc (by decide)
      have htk := nbr_tk h1
      cases h
      refine ⟨?_, fun x hx' => ?_⟩
      · simp only
        rw [nbl_app]
        have : nbl [125] = 1 := rfl
        omega
      · rcases List.mem_append.mp hx' with q | q
        · exact hx x q
        · rw [List.mem_singleton] at q; rw [q]; rfl
    · obtain ⟨q1, e1, e2⟩ := eb_ok h
      obtain ⟨⟨g1, g2⟩, g3⟩ := hR _ _ _ _ _ _ _ hsl e1
      refine ih _ _ _ _ _ _ _ _ g3 ?_ ?_ e2
      · rw [nbl_app]; omega
      · intro x hx'
        rcases List.mem_append.mp hx' with q | q
        · exact hx x q
        · exact g2 x q
theorem pS_p : ∀ d, (∀ dep i w st cb ch q, i ≤ n → (pS n tx d).1 dep i w st cb ch = .ok q → GP n tx i q) ∧ (∀ dep i w st cb ch q, i ≤ n → (pS n tx d).2 dep i w st cb ch = .ok q → GP n tx i q) := by
  intro d
  induction d with
  | zero => exact ⟨fun _ _ _ _ _ _ _ _ h => (by cases h), fun _ _ _ _ _ _ _ _ h => (by cases h)⟩
  | succ d ih =>
    obtain ⟨ihS, ihB⟩ := ih
    obtain ⟨fS, fB⟩ := pS_facts (n := n) (tx := tx) d
    have b1 : ∀ {c : Int32} {L : List Int32}, nbl (c :: L) ≤ 1 + nbl L := fun {c L} => by simp only [nbl]; split <;> omega
    refine ⟨?_, ?_⟩
    · intro dep i w st cb ch q hi h
      have h : pSt n tx (pS n tx d).2 dep i w st cb ch = .ok q := h
      have hsn := nbr_sk (n := n) (tx := tx) i
      unfold pSt at h
      split at h
      · next hc =>
        obtain ⟨a, ha1, ha2, ea⟩ := isI_lo7 (a := 97) (b := 102) hc (by omega) (by omega)
        obtain ⟨hlt, etx⟩ := pkc_ne (n := n) (tx := tx) (i := i) (by rw [ea]; exact nz_m1 (by omega))
        have htk := nbr_tk hlt
        have hv : pr1 (97 + (pk n tx i - 97)) := by
          rw [show (97 : Int32) + (pk n tx i - 97) = pk n tx i by rw [Int32.add_comm, Int32.sub_add_cancel], ea]
          exact pr1_nz (by omega) (by omega)
        obtain ⟨f1, f2⟩ := pAs_p hv hlt h
        exact ⟨by omega, f2⟩
      · split at h
        · next hc =>
          obtain ⟨hlt, etx⟩ := pkc_lt hc (by decide)
          have htk := nbr_tk hlt
          obtain ⟨a, e1, h⟩ := eb_ok h
          obtain ⟨b, e2, h⟩ := eb_ok h
          obtain ⟨f1, f2, f3, f4, f5, f6⟩ := pSum_facts (by omega) e1
          obtain ⟨g1, g2, g3, g4, g5, g6⟩ := pTk_ok (by decide) e2
          cases h
          have n1 := nbl_le a.2.2.2.1
          refine ⟨?_, fun x hx => ?_⟩
          · simp only
            have := @b1 35 (a.2.2.2.1 ++ [59])
            rw [nbl_app] at this
            have : nbl [59] = 1 := rfl
            omega
          · simp only [List.mem_cons, List.mem_append, List.not_mem_nil, or_false] at hx
            rcases hx with rfl | hx | rfl
            · rfl
            · exact f4.pr x hx
            · rfl
        · split at h
          · next hc =>
            obtain ⟨hlt, etx⟩ := pkc_lt hc (by decide)
            have htk := nbr_tk hlt
            obtain ⟨a, e1, h⟩ := eb_ok h
            obtain ⟨b, e2, h⟩ := eb_ok h
            obtain ⟨f1, f2, f3, f4, f5, f6⟩ := pSum_facts (by omega) e1
            obtain ⟨g1, g2⟩ := ihB _ _ _ _ _ _ _ f2 e2
            cases h
            have n1 := nbl_le a.2.2.2.1
            refine ⟨?_, fun x hx => ?_⟩
            · simp only
              have := @b1 64 (a.2.2.2.1 ++ b.2.2.2.2.2)
              rw [nbl_app] at this
              omega
            · simp only [List.mem_cons, List.mem_append] at hx
              rcases hx with rfl | hx | hx
              · rfl
              · exact f4.pr x hx
              · exact g2 x hx
          · split at h
            · next hc =>
              obtain ⟨hlt, etx⟩ := pkc_lt hc (by decide)
              have htk := nbr_tk hlt
              obtain ⟨a, e1, h⟩ := eb_ok h
              obtain ⟨b, e2, h⟩ := eb_ok h
              obtain ⟨f1, f2, f3, f4, f5, f6⟩ := pSum_facts (by omega) e1
              obtain ⟨g1, g2⟩ := ihB _ _ _ _ _ _ _ f2 e2
              have hb1 := (fB _ _ _ _ _ _ _ f2 e2).2.1
              have n1 := nbl_le a.2.2.2.1
              split at h
              · next hc2 =>
                obtain ⟨e, e3, h⟩ := eb_ok h
                obtain ⟨k1, k2⟩ := ihB _ _ _ _ _ _ _ (sk_le hb1) e3
                have hbs := nbr_sk (n := n) (tx := tx) b.1
                cases h
                refine ⟨?_, fun x hx => ?_⟩
                · simp only
                  have := @b1 63 (a.2.2.2.1 ++ (b.2.2.2.2.2 ++ e.2.2.2.2.2))
                  rw [nbl_app, nbl_app] at this
                  omega
                · simp only [List.mem_cons, List.mem_append] at hx
                  rcases hx with rfl | hx | hx | hx
                  · rfl
                  · exact f4.pr x hx
                  · exact g2 x hx
                  · exact k2 x hx
              · have hbs := nbr_sk (n := n) (tx := tx) b.1
                cases h
                refine ⟨?_, fun x hx => ?_⟩
                · simp only
                  have := @b1 63 (a.2.2.2.1 ++ b.2.2.2.2.2)
                  rw [nbl_app] at this
                  omega
                · simp only [List.mem_cons, List.mem_append] at hx
                  rcases hx with rfl | hx | hx
                  · rfl
                  · exact f4.pr x hx
                  · exact g2 x hx
            · cases h
    · intro dep i w st cb ch q hi h
      have h : pBl n tx (pS n tx d).1 dep i w st cb ch = .ok q := h
      unfold pBl at h
      obtain ⟨j, e1, h⟩ := eb_ok h
      obtain ⟨g1, g2, g3, g4, g5, g6⟩ := pTk_ok (by decide) e1
      refine pBlp_p (i0 := i) (fun dep i w st cb ch q hi h => ⟨ihS dep i w st cb ch q hi h, (fS dep i w st cb ch q hi h).1.2.1⟩) FU j _ _ _ _ _ _ _ g5 ?_ ?_ h
      · have : nbl [123] = 1 := rfl
        omega
      · intro x hx
        rw [List.mem_singleton] at hx
        rw [hx]; rfl
/-- a whole model -/
theorem pMo_v : ∀ (k i : Nat) (w : Option Nat) (st : Nat) (C : List Cd) (ch r : List Int32) (q : ST), i ≤ n → (GB n tx 0 none 0 0 [] (i, w, st, C, ch, r) ∨ (i = 0 ∧ w = none ∧ st = 0 ∧ C = [] ∧ ch = [] ∧ r = [])) → nbl r + nbr n tx i ≤ nbr n tx 0 → (∀ x ∈ r, pr1 x) → pMo n tx k i w st C ch r = .ok q → GB n tx 0 none 0 0 [] q ∧ nbl q.2.2.2.2.2 ≤ nbr n tx 0 ∧ (∀ x ∈ q.2.2.2.2.2, pr1 x) := by
  intro k
  induction k with
  | zero => intro i w st C ch r q _ _ _ _ h; cases h
  | succ k ih =>
    intro i w st C ch r q hi hB hr hx h
    unfold pMo at h
    obtain ⟨q1, e1, e2⟩ := eb_ok h
    have f1 := ((pS_facts (n := n) (tx := tx) DS).1 _ _ _ _ _ _ _ hi e1).1
    obtain ⟨g1, g2⟩ := (pS_p (n := n) (tx := tx) DS).1 _ _ _ _ _ _ _ hi e1
    have hB' : GB n tx 0 none 0 0 [] (q1.1, q1.2.1, q1.2.2.1, C ++ q1.2.2.2.1, q1.2.2.2.2.1, r ++ q1.2.2.2.2.2) := by
      rcases hB with hB | ⟨rfl, rfl, rfl, rfl, rfl, rfl⟩
      · exact GB_app (a := (i, w, st, C, ch, r)) hB (by rw [Nat.zero_add]; exact f1)
      · simpa using f1
    have hr' : nbl (r ++ q1.2.2.2.2.2) + nbr n tx q1.1 ≤ nbr n tx 0 := by rw [nbl_app]; omega
    have hx' : ∀ x ∈ r ++ q1.2.2.2.2.2, pr1 x := fun x hx' => by
      rcases List.mem_append.mp hx' with q | q
      · exact hx x q
      · exact g2 x q
    split at e2
    · cases e2
      obtain ⟨a1, a2, a3, a4, a5, a6, a7, a8, a9, a10, a11, a12, a13⟩ := hB'
      simp only at a1 a2 a3 a4 a5 a6 a7 a8 a9 a10 a11 a12 a13
      have hsg := sk_ge (n := n) (tx := tx) q1.1
      have hsl := sk_le (n := n) (tx := tx) a2
      have hsn := nbr_sk (n := n) (tx := tx) q1.1
      exact ⟨⟨by simp only; omega, hsl, a3, a4, by simp only; omega, by simp only; omega, by simp only; omega, a8, a9, a10, a11, a12, a13⟩, by simp only; omega, hx'⟩
    · exact ih _ _ _ _ _ _ _ f1.2.1 (Or.inl hB') hr' hx' e2
theorem rdM_v {q : List Cd × List Int32 × List Int32} (hn : nbr n tx 0 ≤ 400) (h : rdM n tx = .ok q) : cOk q.1 q.2.1 ∧ nbl q.2.2 ≤ 400 ∧ (∀ x ∈ q.2.2, pr1 x) ∧ q.2.2.length ≤ 600 := by
  unfold rdM at h
  obtain ⟨z, e1, e2⟩ := eb_ok h
  cases hw : z.2.1 with
  | none =>
    rw [hw] at e2
    cases e2
    obtain ⟨b, c1, c2⟩ := pMo_v FU 0 none 0 [] [] [] z (Nat.zero_le _) (Or.inr ⟨rfl, rfl, rfl, rfl, rfl, rfl⟩) (by simp [nbl]) (fun x hx => by cases hx) e1
    obtain ⟨a1, a2, a3, a4, a5, a6, a7, a8, a9, a10, a11, a12, a13⟩ := b
    obtain ⟨d1, d2, d3⟩ := a13 hw
    have := d3 (by omega)
    exact ⟨⟨by simp only; omega, by simp only; omega, a9, a10, a11 (by simp), d1, d2 (by simp)⟩, by simp only; omega, c2, by simp only; omega⟩
  | some p => rw [hw] at e2; cases e2
theorem rdQ_v {q : List Sy × List Int32} (hn : nbr n tx 0 ≤ 400) (h : rdQ n tx = .ok q) : sV q.1 ∧ q.1.length ≤ 400 ∧ nbl q.2 ≤ 400 ∧ (∀ x ∈ q.2, pr1 x) ∧ q.2.length ≤ 600 := by
  unfold rdQ at h
  obtain ⟨z, e1, e2⟩ := eb_ok h
  obtain ⟨f1, f2, f3, f4, f5, f6⟩ := pSum_facts (by omega) e1
  split at e2
  · cases hw : z.2.1 with
    | none =>
      rw [hw] at e2
      cases e2
      have := nbl_le z.2.2.2.1
      exact ⟨⟨_, _, f4⟩, by simp only; omega, by simp only; omega, f4.pr, by simp only; omega⟩
    | some p => rw [hw] at e2; cases e2
  · cases e2
end
