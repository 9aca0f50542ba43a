set_option maxRecDepth 100000
/-! ===== RUNS: what they are ===== -/
/-- where, variables, draws, seen -/
abbrev Cfg : Type := Nat × List Int32 × Nat × Bool
/-- kind (0 seen, 1 not seen, 2 too long, 3 too many draws), steps, draws, value, weight -/
abbrev Lf : Type := Nat × Nat × Nat × Int32 × Nat
def cdA (C : List Cd) (p : Nat) : Cd := C.getD p (0, 0, [], 0, 0, 0)
def jmp (C : List Cd) : Nat → Nat → Nat
  | 0, p => p
  | k + 1, p => if p < C.length ∧ (cdA C p).1 = 5 then jmp C k (cdA C p).2.2.2.2.2.toNatClampNeg else p
def jp (C : List Cd) (p : Nat) : Nat := jmp C (C.length + 2) p
def vof (v : List Int32) (a : Nat) : Int32 := v.getD a 0
def act (C : List Cd) (cl : Int32 → Int32 → Int32) (nu : Int32 → Int32) (cs : Nat → Int32) (p : Nat) (v : List Int32) (d : Nat) (ok : Bool) : Cfg :=
  if (cdA C p).1 = 0 then (p + 1, v.set (cdA C p).2.1.toNatClampNeg (val (vof v) cl nu (cdA C p).2.2.1), d, ok)
  else if (cdA C p).1 = 2 then (p + 1, v.set (cdA C p).2.1.toNatClampNeg (cs (cdA C p).2.2.2.1.toNatClampNeg), d, ok)
  else if (cdA C p).1 = 3 then (p + 1, v, d, ok && !decide (val (vof v) cl nu (cdA C p).2.2.1 = 0))
  else (if val (vof v) cl nu (cdA C p).2.2.1 = 0 then (cdA C p).2.2.2.2.2.toNatClampNeg else p + 1, v, d, ok)
/-- a draw's weight of j -/
def dw (c : Cd) (j : Nat) : Nat := if j = 0 then c.2.2.2.1.toNatClampNeg else if j = 1 then c.2.2.2.2.1.toNatClampNeg else c.2.2.2.2.2.toNatClampNeg
def sc (w : Nat) (L : List Lf) : List Lf := L.map (fun l => (l.1, l.2.1, l.2.2.1, l.2.2.2.1, w * l.2.2.2.2))
def lvs (C : List Cd) (cl : Int32 → Int32 → Int32) (nu : Int32 → Int32) (cs : Nat → Int32) (Y : List Sy) : Nat → Cfg → Nat → List Lf
  | 0, _, _ => []
  | k + 1, c, n =>
    if C.length ≤ jp C c.1 then [(if c.2.2.2 = true then 0 else 1, n, c.2.2.1, if c.2.2.2 = true then val (vof c.2.1) cl nu Y else 0, 16 ^ (7 - c.2.2.1))]
    else if n = 60 then [(2, n, c.2.2.1, 0, 0)]
    else if (cdA C (jp C c.1)).1 = 1 then
      (if c.2.2.1 = 7 then [(3, n, c.2.2.1, 0, 0)]
       else (List.range 3).flatMap (fun j => if dw (cdA C (jp C c.1)) j = 0 then [] else sc (dw (cdA C (jp C c.1)) j) (lvs C cl nu cs Y k (jp C c.1 + 1, c.2.1.set (cdA C (jp C c.1)).2.1.toNatClampNeg (nz j), c.2.2.1 + 1, c.2.2.2) (n + 1))))
    else lvs C cl nu cs Y k (act C cl nu cs (jp C c.1) c.2.1 c.2.2.1 c.2.2.2) (n + 1)
/-- fit code -/
def cOk (C : List Cd) (ch : List Int32) : Prop := C.length ≤ 80 ∧ psz C ≤ 400 ∧ (∀ c ∈ C, cdV c) ∧ GJ 0 C ∧ ch.length ≤ 3 ∧ (∀ c ∈ C, cdW ch c) ∧ (∀ x ∈ ch, chV x)
def vOk (v : List Int32) : Prop := v.length = 6 ∧ ∀ x ∈ v, nV x
theorem vOk_set {v : List Int32} {a : Nat} {x : Int32} (h : vOk v) (hx : nV x) : vOk (v.set a x) := by
  refine ⟨by rw [List.length_set]; exact h.1, fun y hy => ?_⟩
  rcases List.mem_or_eq_of_mem_set hy with q | q
  · exact h.2 y q
  · rw [q]; exact hx
theorem vof_n {v : List Int32} (h : vOk v) (a : Nat) : nV (vof v a) := by
  unfold vof
  rw [List.getD_eq_getElem?_getD]
  cases hx : v[a]? with
  | none => exact ⟨0, by omega, rfl⟩
  | some x => exact h.2 x (List.mem_of_getElem? hx)
theorem cdA_mem {C : List Cd} {p : Nat} (h : p < C.length) : cdA C p ∈ C := by
  unfold cdA
  rw [List.getD_eq_getElem?_getD, List.getElem?_eq_getElem h]; exact List.getElem_mem h
theorem cdA_get {C : List Cd} {p : Nat} (h : p < C.length) : C[p]? = some (cdA C p) := by
  unfold cdA
  rw [List.getD_eq_getElem?_getD, List.getElem?_eq_getElem h]; rfl
/-- jumps end: ahead, or back to a test -/
theorem jmp_st {C : List Cd} (hJ : GJ 0 C) (hl : C.length ≤ 80) : ∀ (k p : Nat), p ≤ C.length → C.length + 1 - p < k → jmp C k p ≤ C.length ∧ (jmp C k p < C.length → (cdA C (jmp C k p)).1 ≠ 5) ∧ ∀ k', C.length + 1 - p < k' → jmp C k' p = jmp C k p := by
  intro k
  induction k with
  | zero => intro p h1 h2; omega
  | succ k ih =>
    intro p h1 h2
    by_cases hc : p < C.length ∧ (cdA C p).1 = 5
    · obtain ⟨g, g1, g2⟩ := (hJ p _ (cdA_get hc.1)).2 hc.2
      rw [Nat.zero_add, Nat.zero_add] at g2
      have e : ∀ k', jmp C (k' + 1) p = jmp C k' g := by
        intro k'
        have hg : g < 2147483648 := by rcases g2 with q | q <;> omega
        show (if p < C.length ∧ (cdA C p).1 = 5 then jmp C k' (cdA C p).2.2.2.2.2.toNatClampNeg else p) = _
        rw [if_pos hc, g1, nz_tn hg]
      rw [e]
      rcases g2 with ⟨q1, q2⟩ | ⟨-, q2, e4, q3, q4⟩
      · obtain ⟨i1, i2, i3⟩ := ih g q2 (by omega)
        refine ⟨i1, i2, fun k' hk' => ?_⟩
        obtain ⟨k', rfl⟩ : ∃ x, k' = x + 1 := ⟨k' - 1, by omega⟩
        rw [e]; exact i3 k' (by omega)
      · -- back to a test
        have hgl : g < C.length := by omega
        have h4 : (cdA C g).1 = 4 := by
          have := cdA_get hgl
          rw [Nat.sub_zero] at q3
          rw [q3] at this
          cases this; exact q4
        have e2 : ∀ k', 1 ≤ k' → jmp C k' g = g := by
          intro k' hk'
          obtain ⟨k', rfl⟩ : ∃ x, k' = x + 1 := ⟨k' - 1, by omega⟩
          show (if g < C.length ∧ (cdA C g).1 = 5 then _ else g) = g
          rw [if_neg (by rw [h4]; rintro ⟨-, q⟩; exact absurd q (by decide))]
        rw [e2 k (by omega)]
        refine ⟨by omega, fun _ => by rw [h4]; decide, fun k' hk' => ?_⟩
        obtain ⟨k', rfl⟩ : ∃ x, k' = x + 1 := ⟨k' - 1, by omega⟩
        rw [e, e2 k' (by omega)]
    · have e : ∀ k', 1 ≤ k' → jmp C k' p = p := by
        intro k' hk'
        obtain ⟨k', rfl⟩ : ∃ x, k' = x + 1 := ⟨k' - 1, by omega⟩
        exact if_neg hc
      rw [e (k + 1) (by omega)]
      exact ⟨h1, fun q z => hc ⟨q, z⟩, fun k' hk' => e k' (by omega)⟩
