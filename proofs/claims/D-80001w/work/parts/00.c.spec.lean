set_option maxRecDepth 100000
/-! ===== A TEXT: n signs tx 0 .. ===== -/
def bl (c : Int32) : Bool := decide (c = 32) || decide (c = 10)
def skp (n : Nat) (tx : Nat → Int32) : Nat → Nat → Nat
  | 0, i => i
  | k + 1, i => if i < n ∧ bl (tx i) = true then skp n tx k (i + 1) else i
/-- the next place that is no blank -/
def sk (n : Nat) (tx : Nat → Int32) (i : Nat) : Nat := skp n tx (n - i) i
def pk (n : Nat) (tx : Nat → Int32) (i : Nat) : Int32 := if sk n tx i < n then tx (sk n tx i) else -1
def nbk (tx : Nat → Int32) : Nat → Nat → Nat
  | 0, _ => 0
  | k + 1, i => (if bl (tx i) = true then 0 else 1) + nbk tx k (i + 1)
/-- how many signs but blanks from a place on -/
def nbr (n : Nat) (tx : Nat → Int32) (i : Nat) : Nat := nbk tx (n - i) i
section
variable {n : Nat} {tx : Nat → Int32}
theorem sk_bl {i : Nat} (h : i < n) (hb : bl (tx i) = true) : sk n tx i = sk n tx (i + 1) := by
  unfold sk
  obtain ⟨k, hk⟩ : ∃ k, n - i = k + 1 := ⟨n - i - 1, by omega⟩
  rw [hk, show n - (i + 1) = k by omega]
  show (if i < n ∧ bl (tx i) = true then skp n tx k (i + 1) else i) = _
  rw [if_pos ⟨h, hb⟩]
theorem sk_nb {i : Nat} (h : ¬ (i < n ∧ bl (tx i) = true)) : sk n tx i = i := by
  unfold sk
  cases n - i with
  | zero => rfl
  | succ k => exact if_neg h
theorem sk_ind {M : Nat → Prop} (h1 : ∀ i, i < n → bl (tx i) = true → M (i + 1) → M i) (h2 : ∀ i, ¬ (i < n ∧ bl (tx i) = true) → M i) : ∀ i, M i := by
  have key : ∀ k i, n - i = k → M i := by
    intro k
    induction k with
    | zero => intro i hk; exact h2 i (fun q => by omega)
    | succ k ih =>
      intro i hk
      by_cases hb : bl (tx i) = true
      · exact h1 i (by omega) hb (ih (i + 1) (by omega))
      · exact h2 i (fun q => hb q.2)
  exact fun i => key (n - i) i rfl
theorem sk_ge (i : Nat) : i ≤ sk n tx i := by
  refine sk_ind (n := n) (tx := tx) (M := fun i => i ≤ sk n tx i) ?_ ?_ i
  · intro i h hb ih; rw [sk_bl h hb]; omega
  · intro i h; rw [sk_nb h]; exact Nat.le_refl _
theorem sk_le {i : Nat} (h0 : i ≤ n) : sk n tx i ≤ n := by
  revert h0
  refine sk_ind (n := n) (tx := tx) (M := fun i => i ≤ n → sk n tx i ≤ n) ?_ ?_ i
  · intro i h hb ih _; rw [sk_bl h hb]; exact ih (by omega)
  · intro i h hi; rw [sk_nb h]; exact hi
theorem sk_stop (i : Nat) : ¬ (sk n tx i < n ∧ bl (tx (sk n tx i)) = true) := by
  refine sk_ind (n := n) (tx := tx) (M := fun i => ¬ (sk n tx i < n ∧ bl (tx (sk n tx i)) = true)) ?_ ?_ i
  · intro i h hb ih; rw [sk_bl h hb]; exact ih
  · intro i h; rw [sk_nb h]; exact h
theorem sk_sk (i : Nat) : sk n tx (sk n tx i) = sk n tx i := sk_nb (sk_stop i)
theorem pk_sk (i : Nat) : pk n tx (sk n tx i) = pk n tx i := by unfold pk; rw [sk_sk]
theorem pkc_lt {i : Nat} {c : Int32} (h : pk n tx i = c) (hc : c ≠ -1) : sk n tx i < n ∧ tx (sk n tx i) = c := by
  unfold pk at h
  split at h
  · exact ⟨by assumption, h⟩
  · exact absurd h.symm hc
theorem pkc_ne {i : Nat} (h : pk n tx i ≠ -1) : sk n tx i < n ∧ tx (sk n tx i) = pk n tx i := pkc_lt rfl h
theorem nbr_s {i : Nat} (h : i < n) : nbr n tx i = (if bl (tx i) = true then 0 else 1) + nbr n tx (i + 1) := by
  unfold nbr
  obtain ⟨k, hk⟩ : ∃ k, n - i = k + 1 := ⟨n - i - 1, by omega⟩
  rw [hk, show n - (i + 1) = k by omega]
  rfl
theorem nbr_end {i : Nat} (h : n ≤ i) : nbr n tx i = 0 := by
  unfold nbr
  rw [show n - i = 0 by omega]
  rfl
theorem nbr_sk (i : Nat) : nbr n tx (sk n tx i) = nbr n tx i := by
  refine sk_ind (n := n) (tx := tx) (M := fun i => nbr n tx (sk n tx i) = nbr n tx i) ?_ ?_ i
  · intro i h hb ih; rw [sk_bl h hb, ih, nbr_s h, if_pos hb]; omega
  · intro i h; rw [sk_nb h]
theorem nbr_tk {i : Nat} (h : sk n tx i < n) : nbr n tx i = nbr n tx (sk n tx i + 1) + 1 := by
  rw [← nbr_sk i, nbr_s h, if_neg (fun q => sk_stop i ⟨h, q⟩)]
  omega
theorem nbr_mono {i j : Nat} (h : i ≤ j) : nbr n tx j ≤ nbr n tx i := by
  obtain ⟨k, rfl⟩ : ∃ k, j = i + k := ⟨j - i, by omega⟩
  induction k with
  | zero => exact Nat.le_refl _
  | succ k ih =>
    have ih := ih (by omega)
    by_cases hk : i + k < n
    · have := nbr_s (tx := tx) hk
      rw [show i + (k + 1) = i + k + 1 by omega]
      omega
    · rw [nbr_end (i := i + (k + 1)) (by omega)]; omega
theorem nbr_le {i : Nat} : nbr n tx i ≤ n - i := by
  unfold nbr
  generalize n - i = k
  induction k generalizing i with
  | zero => exact Nat.le_refl _
  | succ k ih =>
    have := ih (i := i + 1)
    show (if bl (tx i) = true then 0 else 1) + nbk tx k (i + 1) ≤ _
    split <;> omega
end
/-! ===== SUMS: what is read of a text ===== -/
abbrev Sy : Type := Int32 × Int32
abbrev ET : Type := Nat × Option Nat × Int32 × List Int32 × List Sy
abbrev ER : Type := Except Nat ET
def eb {α β : Type} (x : Except Nat α) (k : α → Except Nat β) : Except Nat β := match x with
  | .error e => .error e
  | .ok a => k a
/-- a place at which something is wrong -/
def nt (w : Option Nat) (p : Nat) : Option Nat := match w with
  | none => some p
  | some q => if p < q then some p else some q
def ntb (bad : Bool) (w : Option Nat) (p : Nat) : Option Nat := if bad = true then nt w p else w
def isI (c lo hi : Int32) : Bool := decide (lo ≤ c) && decide (c ≤ hi)
def lvC (c : Int32) : Int32 := if c = 37 then 2 else if c = 42 then 2 else if c = 43 then 1 else if c = 45 then 1 else if c = 47 then 2 else if c = 60 then 0 else if c = 61 then 0 else -1
/-- in ( ) when it binds less than it must -/
def par (l least : Int32) (r : List Int32) : List Int32 := if least ≤ l then r else 40 :: (r ++ [41])
def lsS (s : Int32) : Int32 := if s = 0 then 1 else s
/-- a number: where it goes on, its signs, its value -/
def pNm (n : Nat) (tx : Nat → Int32) (j : Nat) : Nat × List Int32 × Int32 :=
  if tx j ≠ 48 ∧ j + 1 < n ∧ isI (tx (j + 1)) 48 57 = true then (j + 2, [tx j, tx (j + 1)], ((10 : Int32) * (tx j - 48)) + tx (j + 1) - 48) else (j + 1, [tx j], tx j - 48)
def pLp (n : Nat) (tx : Nat → Int32) (R : Int32 → Nat → Nat → Option Nat → ER) (L : Int32) (dep : Nat) : Nat → Nat → Option Nat → Int32 → List Int32 → List Sy → ER
  | 0, _, _, _, _, _ => .error 0
  | k + 1, i, w, l, r, y =>
    if lvC (pk n tx i) < L then .ok (sk n tx i, w, l, r, y)
    else eb (R (lvC (pk n tx i) + 1) dep (sk n tx i + 1) w) fun q =>
      if lvC (pk n tx i) = 0 then .ok (q.1, q.2.1, 0, par l 1 r ++ pk n tx i :: par q.2.2.1 1 q.2.2.2.1, y ++ (q.2.2.2.2 ++ [(pk n tx i, 0)]))
      else pLp n tx R L dep k q.1 q.2.1 (lvC (pk n tx i)) (par l (lvC (pk n tx i)) r ++ pk n tx i :: par q.2.2.1 (lvC (pk n tx i) + 1) q.2.2.2.1) (y ++ (q.2.2.2.2 ++ [(pk n tx i, 0)]))
def pSm (n : Nat) (tx : Nat → Int32) (R : Int32 → Nat → Nat → Option Nat → ER) (A : Nat → Nat → Option Nat → ER) (L : Int32) (dep i : Nat) (w : Option Nat) : ER :=
  eb (A dep i w) fun q => pLp n tx R L dep FU q.1 q.2.1 q.2.2.1 q.2.2.2.1 q.2.2.2.2
def pIn (n : Nat) (tx : Nat → Int32) (R : Int32 → Nat → Nat → Option Nat → ER) (dep : Nat) (cl : Int32) (i : Nat) (w : Option Nat) : ER :=
  eb (R 0 (dep + 1) i (ntb (decide (8 ≤ dep)) w (i - 1))) fun q => if pk n tx q.1 = cl then .ok (sk n tx q.1 + 1, q.2) else .error (sk n tx q.1)
def pAt (n : Nat) (tx : Nat → Int32) (own : Int32) (A : Nat → Nat → Option Nat → ER) (I : Nat → Int32 → Nat → Option Nat → ER) (dep i : Nat) (w : Option Nat) : ER :=
  if isI (pk n tx i) 48 57 = true then .ok ((pNm n tx (sk n tx i)).1, w, 3, (pNm n tx (sk n tx i)).2.1, [(0, (pNm n tx (sk n tx i)).2.2)])
  else if isI (pk n tx i) 97 102 = true then .ok (sk n tx i + 1, ntb (!(decide (own = -1) || decide (own = pk n tx i))) w (sk n tx i), 3, [pk n tx i], [(1, pk n tx i - 97)])
  else if isI (pk n tx i) 65 90 = true then
    (if pk n tx (sk n tx i + 1) = 40 then eb (I dep 41 (sk n tx (sk n tx i + 1) + 1) w) fun q => .ok (q.1, q.2.1, 3, pk n tx i :: 40 :: (q.2.2.2.1 ++ [41]), q.2.2.2.2 ++ [(2, pk n tx i)])
     else .error (sk n tx (sk n tx i + 1)))
  else if pk n tx i = 40 then I dep 41 (sk n tx i + 1) w
  else if pk n tx i = 91 then eb (I dep 93 (sk n tx i + 1) w) fun q => .ok (q.1, q.2.1, 3, 91 :: (q.2.2.2.1 ++ [93]), q.2.2.2.2 ++ [(91, 0)])
  else if pk n tx i = 33 then eb (A (dep + 1) (sk n tx i + 1) (ntb (decide (8 ≤ dep)) w (sk n tx i))) fun q => .ok (q.1, q.2.1, 3, 33 :: par q.2.2.1 3 q.2.2.2.1, q.2.2.2.2 ++ [(33, 0)])
  else .error (sk n tx i)
/-- sums (level, depth, place), atoms, what stands in brackets -/
def pE (n : Nat) (tx : Nat → Int32) (own : Int32) : Nat → (Int32 → Nat → Nat → Option Nat → ER) × (Nat → Nat → Option Nat → ER) × (Nat → Int32 → Nat → Option Nat → ER)
  | 0 => (fun _ _ _ _ => .error 0, fun _ _ _ => .error 0, fun _ _ _ _ => .error 0)
  | d + 1 => (pSm n tx (pE n tx own d).1 (pE n tx own d).2.1, pAt n tx own (pE n tx own d).2.1 (pE n tx own d).2.2, pIn n tx (pE n tx own d).1)
def pSum (n : Nat) (tx : Nat → Int32) (own : Int32) (i : Nat) (w : Option Nat) : ER := (pE n tx own DE).1 0 0 i w
/-! ===== MODELS ===== -/
/-- what, variable, sum, numbers (of a draw; of a choice which), where it goes on -/
abbrev Cd : Type := Int32 × Int32 × List Sy × Int32 × Int32 × Int32
/-- place, wrong, statements, new code, choices, printed -/
abbrev SR : Type := Except Nat (Nat × Option Nat × Nat × List Cd × List Int32 × List Int32)
/-- a sign is taken -/
def pTk (n : Nat) (tx : Nat → Int32) (c : Int32) (i : Nat) : Except Nat Nat := if pk n tx i = c then .ok (sk n tx i + 1) else .error (sk n tx i)
def pNo (n : Nat) (tx : Nat → Int32) (i : Nat) : Except Nat (Nat × List Int32 × Int32) := if isI (pk n tx i) 48 57 = true then .ok (pNm n tx (sk n tx i)) else .error (sk n tx i)
/-- a draw's numbers: place, numbers, printed -/
def pDr (n : Nat) (tx : Nat → Int32) (i : Nat) : Except Nat (Nat × (Int32 × Int32 × Int32) × List Int32) :=
  eb (pNo n tx i) fun a => eb (pNo n tx a.1) fun b =>
    if isI (pk n tx b.1) 48 57 = true then .ok ((pNm n tx (sk n tx b.1)).1, (a.2.2, b.2.2, (pNm n tx (sk n tx b.1)).2.2), a.2.1 ++ 32 :: (b.2.1 ++ 32 :: (pNm n tx (sk n tx b.1)).2.1))
    else .ok (sk n tx b.1, (a.2.2, b.2.2, 0), a.2.1 ++ 32 :: b.2.1)
/-- a variable's statement: v stands at the place p -/
def pAs (n : Nat) (tx : Nat → Int32) (v : Int32) (p : Nat) (w : Option Nat) (st : Nat) (ch : List Int32) : SR :=
  if pk n tx (p + 1) = 61 then
    eb (pSum n tx (-1) (sk n tx (p + 1) + 1) w) fun q => eb (pTk n tx 59 q.1) fun e => .ok (e, q.2.1, st, [(0, v, q.2.2.2.2, 0, 0, 0)], ch, (97 + v) :: 61 :: (q.2.2.2.1 ++ [59]))
  else if pk n tx (p + 1) = 126 then
    eb (pDr n tx (sk n tx (p + 1) + 1)) fun q => eb (pTk n tx 59 q.1) fun e =>
      .ok (e, ntb (!decide (q.2.1.1 + q.2.1.2.1 + q.2.1.2.2 = 16)) w (sk n tx (sk n tx (p + 1) + 1)), st, [(1, v, [], q.2.1.1, q.2.1.2.1, q.2.1.2.2)], ch, (97 + v) :: 126 :: (q.2.2 ++ [59]))
  else if pk n tx (p + 1) = 63 then
    eb (pNo n tx (sk n tx (p + 1) + 1)) fun q => eb (pTk n tx 59 q.1) fun e =>
      .ok (e, ntb (decide (3 ≤ ch.length)) (ntb (!isI q.2.2 2 5) w (sk n tx (sk n tx (p + 1) + 1))) p, st, [(2, v, [], nz ch.length, 0, 0)], (if ch.length < 3 then ch ++ [q.2.2] else ch), (97 + v) :: 63 :: (q.2.1 ++ [59]))
  else .error (sk n tx (p + 1))
def pBlp (n : Nat) (tx : Nat → Int32) (R : Nat → Nat → Option Nat → Nat → Nat → List Int32 → SR) (dep : Nat) : Nat → Nat → Option Nat → Nat → Nat → List Cd → List Int32 → List Int32 → SR
  | 0, _, _, _, _, _, _, _ => .error 0
  | k + 1, i, w, st, cb, C, ch, r =>
    if pk n tx i = 125 then .ok (sk n tx i + 1, w, st, C, ch, r ++ [125])
    else eb (R (dep + 1) (sk n tx i) w st (cb + C.length) ch) fun q => pBlp n tx R dep k q.1 q.2.1 q.2.2.1 cb (C ++ q.2.2.2.1) q.2.2.2.2.1 (r ++ q.2.2.2.2.2)
def pBl (n : Nat) (tx : Nat → Int32) (R : Nat → Nat → Option Nat → Nat → Nat → List Int32 → SR) (dep i : Nat) (w : Option Nat) (st cb : Nat) (ch : List Int32) : SR :=
  eb (pTk n tx 123 i) fun j => pBlp n tx R dep FU j (ntb (decide (5 ≤ dep)) w (j - 1)) st cb [] ch [123]
def pSt (n : Nat) (tx : Nat → Int32) (B : Nat → Nat → Option Nat → Nat → Nat → List Int32 → SR) (dep i : Nat) (w : Option Nat) (st cb : Nat) (ch : List Int32) : SR :=
  if isI (pk n tx i) 97 102 = true then pAs n tx (pk n tx i - 97) (sk n tx i) (ntb (decide (40 < st + 1)) w (sk n tx i)) (st + 1) ch
  else if pk n tx i = 35 then
    eb (pSum n tx (-1) (sk n tx i + 1) (ntb (decide (40 < st + 1)) w (sk n tx i))) fun q => eb (pTk n tx 59 q.1) fun e => .ok (e, q.2.1, st + 1, [(3, 0, q.2.2.2.2, 0, 0, 0)], ch, 35 :: (q.2.2.2.1 ++ [59]))
  else if pk n tx i = 64 then
    eb (pSum n tx (-1) (sk n tx i + 1) (ntb (decide (40 < st + 1)) w (sk n tx i))) fun q => eb (B dep q.1 q.2.1 (st + 1) (cb + 1) ch) fun b =>
      .ok (b.1, b.2.1, b.2.2.1, (4, 0, q.2.2.2.2, 0, 0, nz (cb + 1 + b.2.2.2.1.length + 1)) :: (b.2.2.2.1 ++ [(5, 0, [], 0, 0, nz cb)]), b.2.2.2.2.1, 64 :: (q.2.2.2.1 ++ b.2.2.2.2.2))
  else if pk n tx i = 63 then
    eb (pSum n tx (-1) (sk n tx i + 1) (ntb (decide (40 < st + 1)) w (sk n tx i))) fun q => eb (B dep q.1 q.2.1 (st + 1) (cb + 1) ch) fun b =>
      if pk n tx b.1 = 123 then
        eb (B dep (sk n tx b.1) b.2.1 b.2.2.1 (cb + 1 + b.2.2.2.1.length + 1) b.2.2.2.2.1) fun e =>
          .ok (e.1, e.2.1, e.2.2.1, (4, 0, q.2.2.2.2, 0, 0, nz (cb + 1 + b.2.2.2.1.length + 1)) :: (b.2.2.2.1 ++ (5, 0, [], 0, 0, nz (cb + 1 + b.2.2.2.1.length + 1 + e.2.2.2.1.length)) :: e.2.2.2.1), e.2.2.2.2.1, 63 :: (q.2.2.2.1 ++ (b.2.2.2.2.2 ++ e.2.2.2.2.2)))
      else .ok (sk n tx b.1, b.2.1, b.2.2.1, (4, 0, q.2.2.2.2, 0, 0, nz (cb + 1 + b.2.2.2.1.length)) :: b.2.2.2.1, b.2.2.2.2.1, 63 :: (q.2.2.2.1 ++ b.2.2.2.2.2))
  else .error (sk n tx i)
/-- statements (depth, place), blocks -/
def pS (n : Nat) (tx : Nat → Int32) : Nat → (Nat → Nat → Option Nat → Nat → Nat → List Int32 → SR) × (Nat → Nat → Option Nat → Nat → Nat → List Int32 → SR)
  | 0 => (fun _ _ _ _ _ _ => .error 0, fun _ _ _ _ _ _ => .error 0)
  | d + 1 => (pSt n tx (pS n tx d).2, pBl n tx (pS n tx d).1)
def pMo (n : Nat) (tx : Nat → Int32) : Nat → Nat → Option Nat → Nat → List Cd → List Int32 → List Int32 → SR
  | 0, _, _, _, _, _, _ => .error 0
  | k + 1, i, w, st, C, ch, r => eb ((pS n tx DS).1 0 i w st C.length ch) fun q =>
      if pk n tx q.1 = -1 then .ok (sk n tx q.1, q.2.1, q.2.2.1, C ++ q.2.2.2.1, q.2.2.2.2.1, r ++ q.2.2.2.2.2)
      else pMo n tx k q.1 q.2.1 q.2.2.1 (C ++ q.2.2.2.1) q.2.2.2.2.1 (r ++ q.2.2.2.2.2)
def wOk {α : Type} (w : Option Nat) (a : α) : Except Nat α := match w with
  | none => .ok a
  | some p => .error p
/-- a model: its code, its choices, as it is printed -/
def rdM (n : Nat) (tx : Nat → Int32) : Except Nat (List Cd × List Int32 × List Int32) := eb (pMo n tx FU 0 none 0 [] [] []) fun q => wOk q.2.1 (q.2.2.2.1, q.2.2.2.2.1, q.2.2.2.2.2)
/-- a question: its sum, as it is printed -/
def rdQ (n : Nat) (tx : Nat → Int32) : Except Nat (List Sy × List Int32) := eb (pSum n tx (-1) 0 none) fun q => if pk n tx q.1 = -1 then wOk q.2.1 (q.2.2.2.2, q.2.2.2.1) else .error (sk n tx q.1)
/-! ===== LIBRARIES ===== -/
/-- a function: its letter, its variable, its sum -/
abbrev Fn : Type := Int32 × Int32 × List Sy
/-- a letter is taken: where it goes on, which -/
def pLe (n : Nat) (tx : Nat → Int32) (lo hi : Int32) (i : Nat) : Except Nat (Nat × Int32) := if isI (pk n tx i) lo hi = true then .ok (sk n tx i + 1, pk n tx i) else .error (sk n tx i)
def pFn (n : Nat) (tx : Nat → Int32) (i : Nat) (w : Option Nat) (F : List Fn) : Except Nat (Nat × Option Nat × Fn × List Int32) :=
  eb (pLe n tx 65 90 i) fun a => eb (pTk n tx 40 a.1) fun b => eb (pLe n tx 97 102 b) fun v => eb (pTk n tx 41 v.1) fun e => eb (pTk n tx 61 e) fun g =>
    eb (pSum n tx v.2 g (ntb (decide (12 ≤ F.length) || F.any (fun f => decide (f.1 = a.2))) w (sk n tx i))) fun q => eb (pTk n tx 59 q.1) fun z =>
      .ok (z, q.2.1, (a.2, v.2 - 97, q.2.2.2.2), a.2 :: 40 :: v.2 :: 41 :: 61 :: (q.2.2.2.1 ++ [59]))
def pLi (n : Nat) (tx : Nat → Int32) : Nat → Nat → Option Nat → List Fn → List Int32 → Except Nat (Nat × Option Nat × List Fn × List Int32)
  | 0, _, _, _, _ => .error 0
  | k + 1, i, w, F, r => eb (pFn n tx i w F) fun q =>
      if pk n tx q.1 = -1 then .ok (sk n tx q.1, q.2.1, F ++ [q.2.2.1], r ++ q.2.2.2)
      else pLi n tx k q.1 q.2.1 (F ++ [q.2.2.1]) (r ++ q.2.2.2)
def rdL (n : Nat) (tx : Nat → Int32) : Except Nat (List Fn × List Int32) := eb (pLi n tx FU 0 none [] []) fun q => wOk q.2.1 (q.2.2.1, q.2.2.2)
