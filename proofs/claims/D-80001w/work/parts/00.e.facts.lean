set_option maxRecDepth 100000
/-! ===== WHAT A SUM THAT WAS READ IS ===== -/
def pnm (a : Nat) : List Int32 := if a ≤ 9 then [nz (48 + a)] else [nz (48 + a / 10), nz (48 + a % 10)]
def TR (y : List Sy) (l : Int32) (r : List Int32) : Prop := ∀ M : List Sy → Int32 → List Int32 → Prop,
  (∀ a, a < 100 → M [(0, nz a)] 3 (pnm a)) →
  (∀ a, a < 6 → M [(1, nz a)] 3 [nz (97 + a)]) →
  (∀ y l r a, 65 ≤ a → a ≤ 90 → M y l r → M (y ++ [(2, nz a)]) 3 (nz a :: 40 :: (r ++ [41]))) →
  (∀ y l r, M y l r → M (y ++ [(91, 0)]) 3 (91 :: (r ++ [93]))) →
  (∀ y l r, M y l r → M (y ++ [(33, 0)]) 3 (33 :: par l 3 r)) →
  (∀ y1 l1 r1 y2 l2 r2 c, 0 ≤ lvC c → M y1 l1 r1 → M y2 l2 r2 → M (y1 ++ (y2 ++ [(c, 0)])) (lvC c) (par l1 (lsS (lvC c)) r1 ++ c :: par l2 (lvC c + 1) r2)) →
  M y l r
theorem TR.num {a : Nat} (h : a < 100) : TR [(0, nz a)] 3 (pnm a) := fun _ h1 _ _ _ _ _ => h1 a h
theorem TR.var {a : Nat} (h : a < 6) : TR [(1, nz a)] 3 [nz (97 + a)] := fun _ _ h2 _ _ _ _ => h2 a h
theorem TR.call {y : List Sy} {l : Int32} {r : List Int32} {a : Nat} (h : 65 ≤ a) (h' : a ≤ 90) (t : TR y l r) : TR (y ++ [(2, nz a)]) 3 (nz a :: 40 :: (r ++ [41])) := fun M h1 h2 h3 h4 h5 h6 => h3 y l r a h h' (t M h1 h2 h3 h4 h5 h6)
theorem TR.row {y : List Sy} {l : Int32} {r : List Int32} (t : TR y l r) : TR (y ++ [(91, 0)]) 3 (91 :: (r ++ [93])) := fun M h1 h2 h3 h4 h5 h6 => h4 y l r (t M h1 h2 h3 h4 h5 h6)
theorem TR.not {y : List Sy} {l : Int32} {r : List Int32} (t : TR y l r) : TR (y ++ [(33, 0)]) 3 (33 :: par l 3 r) := fun M h1 h2 h3 h4 h5 h6 => h5 y l r (t M h1 h2 h3 h4 h5 h6)
theorem TR.bin {y1 y2 : List Sy} {l1 l2 : Int32} {r1 r2 : List Int32} {c : Int32} (h : 0 ≤ lvC c) (t1 : TR y1 l1 r1) (t2 : TR y2 l2 r2) : TR (y1 ++ (y2 ++ [(c, 0)])) (lvC c) (par l1 (lsS (lvC c)) r1 ++ c :: par l2 (lvC c + 1) r2) := fun M h1 h2 h3 h4 h5 h6 => h6 y1 l1 r1 y2 l2 r2 c h (t1 M h1 h2 h3 h4 h5 h6) (t2 M h1 h2 h3 h4 h5 h6)
theorem lvC_cases (c : Int32) : (lvC c = -1 ∧ c ≠ 37 ∧ c ≠ 42 ∧ c ≠ 43 ∧ c ≠ 45 ∧ c ≠ 47 ∧ c ≠ 60 ∧ c ≠ 61) ∨ (lvC c = 0 ∧ (c = 60 ∨ c = 61)) ∨ (lvC c = 1 ∧ (c = 43 ∨ c = 45)) ∨ (lvC c = 2 ∧ (c = 37 ∨ c = 42 ∨ c = 47)) := by
  unfold lvC
  by_cases h1 : c = 37
  · simp [h1]
  by_cases h2 : c = 42
  · simp [h2]
  by_cases h3 : c = 43
  · simp [h3]
  by_cases h4 : c = 45
  · simp [h4]
  by_cases h5 : c = 47
  · simp [h5]
  by_cases h6 : c = 60
  · simp [h6]
  by_cases h7 : c = 61
  · simp [h7]
  simp [h1, h2, h3, h4, h5, h6, h7]
/-- where noted faults lie -/
def wG (n : Nat) (w : Option Nat) : Prop := ∀ p, w = some p → p < n
theorem wG_nt {n : Nat} {w : Option Nat} {p : Nat} (h : wG n w) (hp : p < n) : wG n (nt w p) := by
  intro q hq
  unfold nt at hq
  split at hq
  · cases hq; exact hp
  · split at hq
    · cases hq; exact hp
    · cases hq; exact h _ rfl
theorem wG_ntb {n : Nat} {w : Option Nat} {p : Nat} {b : Bool} (h : wG n w) (hp : p < n) : wG n (ntb b w p) := by
  unfold ntb
  split
  · exact wG_nt h hp
  · exact h
theorem par_len (l x : Int32) (r : List Int32) : (par l x r).length ≤ r.length + 2 := by
  unfold par
  split <;> simp
theorem par_le {l x : Int32} {r : List Int32} (h : x ≤ l) : par l x r = r := if_pos h
/-- what is known of a sum, an atom that was read from i on -/
def GF (n : Nat) (tx : Nat → Int32) (i : Nat) (w : Option Nat) (q : ET) : Prop :=
  i < q.1 ∧ q.1 ≤ n ∧ q.2.2.2.2.length + nbr n tx q.1 ≤ nbr n tx i ∧ TR q.2.2.2.2 q.2.2.1 q.2.2.2.1 ∧ (wG n w → wG n q.2.1)
/-- an atom: its signs, with ( ) if it may want them -/
def GFa (n : Nat) (tx : Nat → Int32) (i : Nat) (w : Option Nat) (q : ET) : Prop :=
  GF n tx i w q ∧ q.2.2.2.1.length + (if q.2.2.1 < 3 then 2 else 0) + nbr n tx q.1 ≤ nbr n tx i
def GFs (n : Nat) (tx : Nat → Int32) (L : Int32) (i : Nat) (w : Option Nat) (q : ET) : Prop :=
  GF n tx i w q ∧ (par q.2.2.1 L q.2.2.2.1).length + nbr n tx q.1 ≤ nbr n tx i ∧ sk n tx q.1 = q.1 ∧ (1 ≤ L → lvC (pk n tx q.1) < L)
theorem eb_ok {α β : Type} {x : Except Nat α} {k : α → Except Nat β} {b : β} (h : eb x k = .ok b) : ∃ a, x = .ok a ∧ k a = .ok b := by
  unfold eb at h
  split at h
  · cases h
  · exact ⟨_, rfl, h⟩
theorem isI_dig {c : Int32} (h : isI c 48 57 = true) : ∃ a, a ≤ 9 ∧ c = nz (48 + a) := by
  obtain ⟨k, h1, h2, rfl⟩ := isI_lo7 (a := 48) (b := 57) h (by omega) (by omega)
  exact ⟨k - 48, by omega, by congr 1; omega⟩
theorem pNm_facts {n : Nat} {tx : Nat → Int32} {j : Nat} (hj : j < n) (hc : isI (tx j) 48 57 = true) (hb : ∀ c, isI c 48 57 = true → bl c = false) :
    j < (pNm n tx j).1 ∧ (pNm n tx j).1 ≤ n ∧ (∃ a, a < 100 ∧ (pNm n tx j).2.2 = nz a ∧ (pNm n tx j).2.1 = pnm a) ∧ (pNm n tx j).2.1.length + nbr n tx (pNm n tx j).1 ≤ nbr n tx j ∧ 1 ≤ (pNm n tx j).2.1.length := by
  obtain ⟨x, hx, ex⟩ := isI_dig hc
  have hn := nbr_s (tx := tx) hj
  rw [if_neg (by rw [hb _ hc]; simp)] at hn
  unfold pNm
  split
  · next h =>
    obtain ⟨h1, h2, h3⟩ := h
    obtain ⟨y, hy, ey⟩ := isI_dig h3
    have hn2 := nbr_s (tx := tx) h2
    rw [if_neg (by rw [hb _ h3]; simp)] at hn2
    rw [show j + 1 + 1 = j + 2 from rfl] at hn2
    have hx0 : x ≠ 0 := fun q => h1 (by rw [ex, q]; rfl)
    have e1 : ((10 : Int32) * (tx j - 48)) + tx (j + 1) - 48 = nz (10 * x + y) := by
      rw [ex, ey, show (48 : Int32) = nz 48 from rfl, show (10 : Int32) = nz 10 from rfl, nz_sub (by omega), nz_mul, nz_add, nz_sub (by omega)]
      congr 1; omega
    refine ⟨by simp, by simp; omega, ⟨10 * x + y, by omega, e1, ?_⟩, by simp; omega, by simp⟩
    unfold pnm
    rw [if_neg (by omega), ex, ey, show (10 * x + y) / 10 = x by omega, show (10 * x + y) % 10 = y by omega]
  · refine ⟨by simp, by simp; omega, ⟨x, by omega, ?_, ?_⟩, by simp; omega, by simp⟩
    · show tx j - 48 = _
      rw [ex, show (48 : Int32) = nz 48 from rfl, nz_sub (by omega)]
      congr 1; omega
    · unfold pnm
      rw [if_pos hx, ex]
theorem dig_nb (c : Int32) (h : isI c 48 57 = true) : bl c = false := by
  obtain ⟨a, ha, rfl⟩ := isI_dig h
  unfold bl
  rw [show (32 : Int32) = nz 32 from rfl, show (10 : Int32) = nz 10 from rfl]
  simp only [nz_inj (a := 48 + a) (b := 32) (by omega) (by omega), nz_inj (a := 48 + a) (b := 10) (by omega) (by omega)]
  simp
  omega
def lvL (L : Int32) : Prop := L = 0 ∨ L = 1 ∨ L = 2 ∨ L = 3
theorem lv_ls {s s' : Int32} (h : s = 1 ∨ s = 2) (h' : s' = -1 ∨ s' = 0 ∨ s' = 1 ∨ s' = 2) (hl : s' < s + 1) : lsS s' ≤ s := by
  rcases h with rfl | rfl <;> rcases h' with rfl | rfl | rfl | rfl <;> revert hl <;> decide
theorem lvC_in (c : Int32) : lvC c = -1 ∨ lvC c = 0 ∨ lvC c = 1 ∨ lvC c = 2 := by
  rcases lvC_cases c with h | h | h | h
  · exact Or.inl h.1
  · exact Or.inr (Or.inl h.1)
  · exact Or.inr (Or.inr (Or.inl h.1))
  · exact Or.inr (Or.inr (Or.inr h.1))
theorem lvC_m1 {c : Int32} (h : lvC c ≠ -1) : c ≠ -1 := by
  intro q; rw [q] at h; exact h (by decide)
/-- a level that goes on -/
theorem lv_go {L s : Int32} (hL : lvL L) (hs : s = -1 ∨ s = 0 ∨ s = 1 ∨ s = 2) (h : ¬ s < L) : (s = 0 ∧ L = 0) ∨ ((s = 1 ∨ s = 2) ∧ L ≤ s ∧ lsS s = s) := by
  rcases hL with rfl | rfl | rfl | rfl <;> rcases hs with rfl | rfl | rfl | rfl <;> revert h <;> decide
theorem lv_up {s : Int32} (hs : s = 0 ∨ s = 1 ∨ s = 2) : lvL (s + 1) ∧ 1 ≤ s + 1 ∧ 0 ≤ s := by
  rcases hs with rfl | rfl | rfl <;> refine ⟨?_, by decide, by decide⟩
  · exact Or.inr (Or.inl rfl)
  · exact Or.inr (Or.inr (Or.inl rfl))
  · exact Or.inr (Or.inr (Or.inr rfl))
section
variable {n : Nat} {tx : Nat → Int32}
theorem pLp_facts {R : Int32 → Nat → Nat → Option Nat → ER} {L : Int32} {dep i0 : Nat} {w0 : Option Nat} (hL : lvL L)
    (hR : ∀ L dep i w q, lvL L → i ≤ n → R L dep i w = .ok q → GFs n tx L i w q) :
    ∀ (k i : Nat) (w : Option Nat) (l : Int32) (r : List Int32) (y : List Sy) (q : ET), i0 < i → i ≤ n → y.length + nbr n tx i ≤ nbr n tx i0 → TR y l r → (wG n w0 → wG n w) →
      (par l L r).length + nbr n tx i ≤ nbr n tx i0 → (L ≤ lvC (pk n tx i) → (par l (lsS (lvC (pk n tx i))) r).length + nbr n tx i ≤ nbr n tx i0) →
      pLp n tx R L dep k i w l r y = .ok q → GFs n tx L i0 w0 q := by
  intro k
  induction k with
  | zero => intro i w l r y q _ _ _ _ _ _ _ h; cases h
  | succ k ih =>
    intro i w l r y q h1 h2 h3 h4 h5 h6 h7 h
    have hsg := sk_ge (n := n) (tx := tx) i
    have hsl := sk_le (n := n) (tx := tx) h2
    have hsn := nbr_sk (n := n) (tx := tx) i
    unfold pLp at h
    split at h
    · next hlt =>
      cases h
      refine ⟨⟨by omega, hsl, by simp only; omega, h4, h5⟩, by simp only; omega, sk_sk i, fun _ => ?_⟩
      rw [pk_sk]; exact hlt
    · next hge =>
      have hin := lvC_in (pk n tx i)
      have hgo := lv_go hL hin hge
      have hs3 : lvC (pk n tx i) = 0 ∨ lvC (pk n tx i) = 1 ∨ lvC (pk n tx i) = 2 := by
        rcases hgo with ⟨e, _⟩ | ⟨e, _⟩
        · exact Or.inl e
        · exact Or.inr e
      obtain ⟨hu1, hu2, hu3⟩ := lv_up hs3
      have hne : lvC (pk n tx i) ≠ -1 := by rcases hs3 with e | e | e <;> rw [e] <;> decide
      have hlt := (pkc_ne (lvC_m1 hne)).1
      have htk := nbr_tk hlt
      obtain ⟨q1, e1, e2⟩ := eb_ok h
      have f := hR _ _ _ _ _ hu1 (by omega) e1
      obtain ⟨⟨f1, f2, f3, f4, f5⟩, f6, f7, f8⟩ := f
      have hT := TR.bin (c := pk n tx i) hu3 h4 f4
      rcases hgo with ⟨e, eL⟩ | ⟨e, eL, els⟩
      · rw [if_pos e] at e2
        cases e2
        subst eL
        have h7 := h7 (by rw [e]; decide)
        rw [e] at h7 f6 hT
        refine ⟨⟨by simp only; omega, f2, by simp only [List.length_append, List.length_cons, List.length_nil]; omega, hT, fun g => f5 (h5 g)⟩, ?_, f7, fun g => absurd g (by decide)⟩
        simp only
        rw [par_le (by decide), List.length_append, List.length_cons]
        have : (par l 1 r).length + nbr n tx i ≤ nbr n tx i0 := h7
        have : (par q1.2.2.1 1 q1.2.2.2.1).length + nbr n tx q1.1 ≤ nbr n tx (sk n tx i + 1) := f6
        omega
      · have hn0 : lvC (pk n tx i) ≠ 0 := by rcases e with e | e <;> rw [e] <;> decide
        rw [if_neg hn0] at e2
        have h7 := h7 eL
        rw [els] at h7 hT
        have hlen : (par l (lvC (pk n tx i)) r ++ pk n tx i :: par q1.2.2.1 (lvC (pk n tx i) + 1) q1.2.2.2.1).length + nbr n tx q1.1 ≤ nbr n tx i0 := by
          rw [List.length_append, List.length_cons]; omega
        refine ih q1.1 q1.2.1 _ _ _ q (by omega) f2 ?_ hT (fun g => f5 (h5 g)) ?_ ?_ e2
        · simp only [List.length_append, List.length_cons, List.length_nil]; omega
        · rw [par_le eL]; exact hlen
        · intro hle
          rw [par_le (lv_ls e (lvC_in _) (f8 hu2))]; exact hlen
theorem pE_facts (own : Int32) : ∀ d,
    (∀ L dep i w q, lvL L → i ≤ n → (pE n tx own d).1 L dep i w = .ok q → GFs n tx L i w q) ∧
    (∀ dep i w q, i ≤ n → (pE n tx own d).2.1 dep i w = .ok q → GFa n tx i w q) ∧
    (∀ dep cl i w q, cl ≠ -1 → 1 ≤ i → i ≤ n → (pE n tx own d).2.2 dep cl i w = .ok q → GF n tx i w q ∧ q.2.2.2.1.length + 1 + nbr n tx q.1 ≤ nbr n tx i) := by
  intro d
  induction d with
  | zero => exact ⟨fun _ _ _ _ _ _ _ h => (by cases h), fun _ _ _ _ _ h => (by cases h), fun _ _ _ _ _ _ _ _ h => (by cases h)⟩
  | succ d ih =>
    obtain ⟨ihS, ihA, ihI⟩ := ih
    refine ⟨?_, ?_, ?_⟩
    · intro L dep i w q hL hi h
      obtain ⟨q1, e1, e2⟩ := eb_ok (show eb ((pE n tx own d).2.1 dep i w) _ = .ok q from h)
      obtain ⟨⟨f1, f2, f3, f4, f5⟩, f6⟩ := ihA _ _ _ _ hi e1
      have hp : ∀ X : Int32, X ≤ 3 → (par q1.2.2.1 X q1.2.2.2.1).length + nbr n tx q1.1 ≤ nbr n tx i := by
        intro X hX
        have := par_len q1.2.2.1 X q1.2.2.2.1
        split at f6
        · omega
        · next hn =>
          rw [par_le]
          · omega
          · have := i32_nlt.mp hn
            rw [i32_le] at *
            omega
      refine pLp_facts hL ihS FU q1.1 q1.2.1 _ _ _ q f1 f2 f3 f4 f5 (hp L ?_) (fun _ => hp _ ?_) e2
      · rcases hL with rfl | rfl | rfl | rfl <;> decide
      · rcases lvC_in (pk n tx q1.1) with e | e | e | e <;> rw [e] <;> decide
    · intro dep i w q hi h
      have hsg := sk_ge (n := n) (tx := tx) i
      have hsl := sk_le (n := n) (tx := tx) hi
      have hsn := nbr_sk (n := n) (tx := tx) i
      have h : pAt n tx own (pE n tx own d).2.1 (pE n tx own d).2.2 dep i w = .ok q := h
      unfold pAt at h
      split at h
      · next hc =>
        obtain ⟨a, ha, ea⟩ := isI_dig hc
        obtain ⟨hlt, etx⟩ := pkc_ne (n := n) (tx := tx) (i := i) (by rw [ea]; exact nz_m1 (by omega))
        cases h
        obtain ⟨g1, g2, ⟨b, hb, eb1, eb2⟩, g4, g5⟩ := pNm_facts (tx := tx) hlt (by rw [etx]; exact hc) dig_nb
        refine ⟨⟨by simp only; omega, g2, by simp only [List.length_cons, List.length_nil]; omega, ?_, fun g => g⟩, ?_⟩
        · simp only [eb1, eb2]; exact TR.num hb
        · simp only; rw [if_neg (by decide)]; omega
      · split at h
        · next hc =>
          obtain ⟨a, ha1, ha2, ea⟩ := isI_lo7 (a := 97) (b := 102) hc (by omega) (by omega)
          obtain ⟨hlt, etx⟩ := pkc_ne (n := n) (tx := tx) (i := i) (by rw [ea]; exact nz_m1 (by omega))
          have htk := nbr_tk hlt
          cases h
          refine ⟨⟨by simp only; omega, by simp only; omega, by simp only [List.length_cons, List.length_nil]; omega, ?_, fun g => wG_ntb g hlt⟩, ?_⟩
          · have := TR.var (a := a - 97) (by omega)
            simp only [ea]
            rw [show nz a - 97 = nz (a - 97) from nz_sub (b := 97) ha1]
            rwa [show 97 + (a - 97) = a by omega] at this
          · simp only [List.length_cons, List.length_nil]; rw [if_neg (by decide)]; omega
        · split at h
          · next hc =>
            obtain ⟨a, ha1, ha2, ea⟩ := isI_lo7 (a := 65) (b := 90) hc (by omega) (by omega)
            obtain ⟨hlt, etx⟩ := pkc_ne (n := n) (tx := tx) (i := i) (by rw [ea]; exact nz_m1 (by omega))
            have htk := nbr_tk hlt
            split at h
            · next hc2 =>
              obtain ⟨hlt2, etx2⟩ := pkc_lt hc2 (by decide)
              have htk2 := nbr_tk hlt2
              have hsg2 := sk_ge (n := n) (tx := tx) (sk n tx i + 1)
              obtain ⟨q1, e1, e2⟩ := eb_ok h
              obtain ⟨⟨f1, f2, f3, f4, f5⟩, f6⟩ := ihI _ _ _ _ _ (by decide) (by omega) (by omega) e1
              cases e2
              refine ⟨⟨by simp only; omega, f2, by simp only [List.length_append, List.length_cons, List.length_nil]; omega, ?_, f5⟩, ?_⟩
              · simp only [ea]; exact TR.call ha1 ha2 f4
              · simp only [List.length_append, List.length_cons, List.length_nil]; rw [if_neg (by decide)]; omega
            · cases h
          · split at h
            · next hc =>
              obtain ⟨hlt, etx⟩ := pkc_lt hc (by decide)
              have htk := nbr_tk hlt
              obtain ⟨⟨f1, f2, f3, f4, f5⟩, f6⟩ := ihI _ _ _ _ _ (by decide) (by omega) (by omega) h
              refine ⟨⟨by omega, f2, by omega, f4, f5⟩, ?_⟩
              split <;> omega
            · split at h
              · next hc =>
                obtain ⟨hlt, etx⟩ := pkc_lt hc (by decide)
                have htk := nbr_tk hlt
                obtain ⟨q1, e1, e2⟩ := eb_ok h
                obtain ⟨⟨f1, f2, f3, f4, f5⟩, f6⟩ := ihI _ _ _ _ _ (by decide) (by omega) (by omega) e1
                cases e2
                refine ⟨⟨by simp only; omega, f2, by simp only [List.length_append, List.length_cons, List.length_nil]; omega, TR.row f4, f5⟩, ?_⟩
                simp only [List.length_append, List.length_cons, List.length_nil]; rw [if_neg (by decide)]; omega
              · split at h
                · next hc =>
                  obtain ⟨hlt, etx⟩ := pkc_lt hc (by decide)
                  have htk := nbr_tk hlt
                  obtain ⟨q1, e1, e2⟩ := eb_ok h
                  obtain ⟨⟨f1, f2, f3, f4, f5⟩, f6⟩ := ihA _ _ _ _ (by omega) e1
                  cases e2
                  refine ⟨⟨by simp only; omega, f2, by simp only [List.length_append, List.length_cons, List.length_nil]; omega, TR.not f4, fun g => f5 (wG_ntb g hlt)⟩, ?_⟩
                  simp only [List.length_cons]
                  rw [if_neg (by decide)]
                  split at f6
                  · have := par_len q1.2.2.1 3 q1.2.2.2.1
                    omega
                  · next hn => rw [par_le (i32_nlt.mp hn)]; omega
                · cases h
    · intro dep cl i w q hcl hi1 hi h
      obtain ⟨q1, e1, e2⟩ := eb_ok (show eb ((pE n tx own d).1 0 (dep + 1) i _) _ = .ok q from h)
      obtain ⟨⟨f1, f2, f3, f4, f5⟩, f6, f7, f8⟩ := ihS _ _ _ _ _ (Or.inl rfl) hi e1
      split at e2
      · next hc =>
        obtain ⟨hlt, etx⟩ := pkc_lt hc hcl
        have htk := nbr_tk hlt
        have hsg := sk_ge (n := n) (tx := tx) q1.1
        cases e2
        have hpl : q1.2.2.2.1.length ≤ (par q1.2.2.1 0 q1.2.2.2.1).length := by
          unfold par; split <;> simp; omega
        refine ⟨⟨by simp only; omega, by simp only; omega, by simp only; omega, f4, fun g => f5 (wG_ntb g (by omega))⟩, by simp only; omega⟩
      · cases e2
end
