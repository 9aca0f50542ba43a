set_option maxRecDepth 100000
/-! ===== ONE RUN, AND ALL RUNS ONE BY ONE ===== -/
/-- the first number with a weight -/
def fs1 (c : Cd) : Nat := if dw c 0 = 0 then (if dw c 1 = 0 then 2 else 1) else 0
/-- draws made, the last first: number, place in the code -/
abbrev Hs : Type := List (Nat × Nat)
/-- kind, steps, where it ended, weight, draws -/
abbrev Rn : Type := Nat × Nat × Cfg × Nat × Hs
/-- a source of draws in exhaustive runs: what is told first -/
def orF (fo : List Nat) (c : Cd) : Nat × List Nat := (fo.headD (fs1 c), fo.tail)
section
variable (C : List Cd) (cl : Int32 → Int32 → Int32) (nu : Int32 → Int32) (cs : Nat → Int32) (Y : List Sy)
def ru {α : Type} (orc : α → Cd → Nat × α) : Nat → Cfg → Nat → Nat → α → Hs → Rn × α
  | 0, c, n, w, a, H => ((2, n, c, w, H), a)
  | k + 1, c, n, w, a, H =>
    if C.length ≤ jp C c.1 then ((if c.2.2.2 = true then 0 else 1, n, c, w, H), a)
    else if n = 60 then ((2, n, c, w, H), a)
    else if (cdA C (jp C c.1)).1 = 1 then
      (if c.2.2.1 = 7 then ((3, n, c, w, H), a)
       else ru orc k (jp C c.1 + 1, c.2.1.set (cdA C (jp C c.1)).2.1.toNatClampNeg (nz (orc a (cdA C (jp C c.1))).1), c.2.2.1 + 1, c.2.2.2) (n + 1) (w * dw (cdA C (jp C c.1)) (orc a (cdA C (jp C c.1))).1) (orc a (cdA C (jp C c.1))).2 (((orc a (cdA C (jp C c.1))).1, jp C c.1) :: H))
    else ru orc k (act C cl nu cs (jp C c.1) c.2.1 c.2.2.1 c.2.2.2) (n + 1) w a H
def lfo (r : Rn) : Lf := (r.1, r.2.1, r.2.2.1.2.2.1, if r.1 = 0 then val (vof r.2.2.1.2.1) cl nu Y else 0, r.2.2.2.1 * (if r.1 ≤ 1 then 16 ^ (7 - r.2.2.1.2.2.1) else 0))
/-- the next number from j on -/
def nxj (c : Cd) (j : Nat) : Option Nat := if j = 0 ∧ dw c 0 ≠ 0 then some 0 else if j ≤ 1 ∧ dw c 1 ≠ 0 then some 1 else if j ≤ 2 ∧ dw c 2 ≠ 0 then some 2 else none
def fH (H : Hs) : List Nat := (H.map (fun x => x.1)).reverse
def nx : Hs → Option (List Nat)
  | [] => none
  | x :: H => match nxj (cdA C x.2) (x.1 + 1) with
    | some j => some (fH H ++ [j])
    | none => nx H
def od : Nat → List Nat → List Rn
  | 0, _ => []
  | f + 1, fo => (ru C cl nu cs orF 61 rt0 0 1 fo []).1 :: (match nx C (ru C cl nu cs orF 61 rt0 0 1 fo []).1.2.2.2.2 with
    | none => []
    | some fo' => od f fo')
def odx (f : Nat) : Option (List Nat) → List Rn
  | none => []
  | some fo => od C cl nu cs f fo
theorem od_s (f : Nat) (fo : List Nat) : od C cl nu cs (f + 1) fo = (ru C cl nu cs orF 61 rt0 0 1 fo []).1 :: odx C cl nu cs f (nx C (ru C cl nu cs orF 61 rt0 0 1 fo []).1.2.2.2.2) := by
  show _ :: _ = _
  congr 1
/-- only the first run's own draws matter -/
theorem od_c {f : Nat} {fo fo' : List Nat} (h : (ru C cl nu cs orF 61 rt0 0 1 fo []).1 = (ru C cl nu cs orF 61 rt0 0 1 fo' []).1) : od C cl nu cs f fo = od C cl nu cs f fo' := by
  cases f with
  | zero => rfl
  | succ f => rw [od_s, od_s, h]
/-- how many runs -/
theorem lvs_len : ∀ (k : Nat) (c : Cfg) (n : Nat), c.2.2.1 ≤ 7 → (lvs C cl nu cs Y k c n).length ≤ 3 ^ (7 - c.2.2.1) := by
  intro k
  induction k with
  | zero => intro c n _; exact Nat.zero_le _
  | succ k ih =>
    intro c n hd
    have one : 1 ≤ 3 ^ (7 - c.2.2.1) := Nat.pow_pos (by omega)
    show (if C.length ≤ jp C c.1 then _ else _ : List Lf).length ≤ _
    split
    · exact one
    split
    · exact one
    split
    · split
      · exact one
      · have e : 3 ^ (7 - c.2.2.1) = 3 * 3 ^ (7 - (c.2.2.1 + 1)) := by
          rw [show 7 - c.2.2.1 = 7 - (c.2.2.1 + 1) + 1 by omega, Nat.pow_succ, Nat.mul_comm]
        have h1 : ∀ j, (if dw (cdA C (jp C c.1)) j = 0 then [] else sc (dw (cdA C (jp C c.1)) j) (lvs C cl nu cs Y k (jp C c.1 + 1, c.2.1.set (cdA C (jp C c.1)).2.1.toNatClampNeg (nz j), c.2.2.1 + 1, c.2.2.2) (n + 1))).length ≤ 3 ^ (7 - (c.2.2.1 + 1)) := by
          intro j
          split
          · exact Nat.zero_le _
          · unfold sc
            rw [List.length_map]
            exact ih _ _ (by simp only; omega)
        rw [show List.range 3 = [0, 1, 2] from rfl]
        simp only [List.flatMap_cons, List.flatMap_nil, List.append_nil, List.length_append]
        have := h1 0
        have := h1 1
        have := h1 2
        omega
    · have hd2 : (act C cl nu cs (jp C c.1) c.2.1 c.2.2.1 c.2.2.2).2.2.1 = c.2.2.1 := by
        unfold act
        split
        · rfl
        split
        · rfl
        split
        · rfl
        · rfl
      have := ih (act C cl nu cs (jp C c.1) c.2.1 c.2.2.1 c.2.2.2) (n + 1) (by rw [hd2]; exact hd)
      rw [hd2] at this
      exact this
theorem sc_sc (a b : Nat) (L : List Lf) : sc a (sc b L) = sc (a * b) L := by
  unfold sc
  rw [List.map_map]
  apply List.map_congr_left
  intro x _
  simp only [Function.comp]
  rw [Nat.mul_assoc]
theorem sc_app (a : Nat) (L M : List Lf) : sc a (L ++ M) = sc a L ++ sc a M := by unfold sc; rw [List.map_append]
theorem sc_len (a : Nat) (L : List Lf) : (sc a L).length = L.length := by unfold sc; rw [List.length_map]
theorem fH_cons (x : Nat × Nat) (H : Hs) : fH (x :: H) = fH H ++ [x.1] := by unfold fH; simp
/-- a draw has a number with a weight -/
def dOk (C : List Cd) : Prop := ∀ c ∈ C, c.1 = 1 → ¬ (dw c 0 = 0 ∧ dw c 1 = 0 ∧ dw c 2 = 0)
/-- the runs behind a place, then the rest -/
theorem od_lv (hO : dOk C) : ∀ (k : Nat) (c : Cfg) (n w : Nat) (H : Hs) (f : Nat), 1 ≤ k → k + n = 61 → c.2.2.1 ≤ 7 → (∀ rest, (ru C cl nu cs orF 61 rt0 0 1 (fH H ++ rest) []).1 = (ru C cl nu cs orF k c n w rest H).1) → (lvs C cl nu cs Y k c n).length ≤ f →
    (od C cl nu cs f (fH H)).map (lfo cl nu Y) = sc w (lvs C cl nu cs Y k c n) ++ (odx C cl nu cs (f - (lvs C cl nu cs Y k c n).length) (nx C H)).map (lfo cl nu Y) := by
  intro k
  induction k with
  | zero =>
    intro c n w H f hk; omega
  | succ k ih =>
    intro c n w H f _ hk hd hr hl
    have h0 := hr []
    rw [List.append_nil] at h0
    -- a leaf
    have leaf : ∀ (l : Lf) (r : Rn), lvs C cl nu cs Y (k + 1) c n = [l] → (ru C cl nu cs orF (k + 1) c n w [] H).1 = r → r.2.2.2.2 = H → lfo cl nu Y r = (l.1, l.2.1, l.2.2.1, l.2.2.2.1, w * l.2.2.2.2) → (od C cl nu cs f (fH H)).map (lfo cl nu Y) = sc w (lvs C cl nu cs Y (k + 1) c n) ++ (odx C cl nu cs (f - (lvs C cl nu cs Y (k + 1) c n).length) (nx C H)).map (lfo cl nu Y) := by
      intro l r e1 e2 e3 e4
      rw [e1] at hl ⊢
      simp only [List.length_singleton] at hl ⊢
      obtain ⟨f, rfl⟩ : ∃ e, f = e + 1 := ⟨f - 1, by omega⟩
      rw [od_s, h0, e2, e3, List.map_cons, e4]
      rfl
    by_cases h1 : C.length ≤ jp C c.1
    · refine leaf (if c.2.2.2 = true then 0 else 1, n, c.2.2.1, if c.2.2.2 = true then val (vof c.2.1) cl nu Y else 0, 16 ^ (7 - c.2.2.1)) (if c.2.2.2 = true then 0 else 1, n, c, w, H) ?_ ?_ rfl ?_
      · show (if _ then _ else _) = _
        rw [if_pos h1]
      · show (if _ then _ else _ : Rn × List Nat).1 = _
        rw [if_pos h1]
      · unfold lfo
        cases c.2.2.2 <;> simp
    by_cases h2 : n = 60
    · refine leaf (2, n, c.2.2.1, 0, 0) (2, n, c, w, H) ?_ ?_ rfl ?_
      · show (if _ then _ else _) = _
        rw [if_neg h1, if_pos h2]
      · show (if _ then _ else _ : Rn × List Nat).1 = _
        rw [if_neg h1, if_pos h2]
      · rfl
    by_cases h3 : (cdA C (jp C c.1)).1 = 1
    · by_cases h4 : c.2.2.1 = 7
      · refine leaf (3, n, c.2.2.1, 0, 0) (3, n, c, w, H) ?_ ?_ rfl ?_
        · show (if _ then _ else _) = _
          rw [if_neg h1, if_neg h2, if_pos h3, if_pos h4]
        · show (if _ then _ else _ : Rn × List Nat).1 = _
          rw [if_neg h1, if_neg h2, if_pos h3, if_pos h4]
        · rfl
      · -- a draw
        have el : lvs C cl nu cs Y (k + 1) c n = (List.range 3).flatMap (fun j => if dw (cdA C (jp C c.1)) j = 0 then [] else sc (dw (cdA C (jp C c.1)) j) (lvs C cl nu cs Y k (jp C c.1 + 1, c.2.1.set (cdA C (jp C c.1)).2.1.toNatClampNeg (nz j), c.2.2.1 + 1, c.2.2.2) (n + 1))) := by
          show (if _ then _ else _) = _
          rw [if_neg h1, if_neg h2, if_pos h3, if_neg h4]
        rw [show List.range 3 = [0, 1, 2] from rfl] at el
        simp only [List.flatMap_cons, List.flatMap_nil, List.append_nil] at el
        have er : ∀ rest, ru C cl nu cs orF (k + 1) c n w rest H = ru C cl nu cs orF k (jp C c.1 + 1, c.2.1.set (cdA C (jp C c.1)).2.1.toNatClampNeg (nz (orF rest (cdA C (jp C c.1))).1), c.2.2.1 + 1, c.2.2.2) (n + 1) (w * dw (cdA C (jp C c.1)) (orF rest (cdA C (jp C c.1))).1) (orF rest (cdA C (jp C c.1))).2 (((orF rest (cdA C (jp C c.1))).1, jp C c.1) :: H) := by
          intro rest
          show (if _ then _ else _ : Rn × List Nat) = _
          rw [if_neg h1, if_neg h2, if_pos h3, if_neg h4]
        -- one number, then the rest
        have one : ∀ (j g : Nat), dw (cdA C (jp C c.1)) j ≠ 0 → (lvs C cl nu cs Y k (jp C c.1 + 1, c.2.1.set (cdA C (jp C c.1)).2.1.toNatClampNeg (nz j), c.2.2.1 + 1, c.2.2.2) (n + 1)).length ≤ g → (od C cl nu cs g (fH H ++ [j])).map (lfo cl nu Y) = sc w (sc (dw (cdA C (jp C c.1)) j) (lvs C cl nu cs Y k (jp C c.1 + 1, c.2.1.set (cdA C (jp C c.1)).2.1.toNatClampNeg (nz j), c.2.2.1 + 1, c.2.2.2) (n + 1))) ++ (odx C cl nu cs (g - (lvs C cl nu cs Y k (jp C c.1 + 1, c.2.1.set (cdA C (jp C c.1)).2.1.toNatClampNeg (nz j), c.2.2.1 + 1, c.2.2.2) (n + 1)).length) (nx C ((j, jp C c.1) :: H))).map (lfo cl nu Y) := by
          intro j g hj hg
          have := ih (jp C c.1 + 1, c.2.1.set (cdA C (jp C c.1)).2.1.toNatClampNeg (nz j), c.2.2.1 + 1, c.2.2.2) (n + 1) (w * dw (cdA C (jp C c.1)) j) ((j, jp C c.1) :: H) g (by omega) (by omega) (by simp only; omega) (fun rest => by
            rw [fH_cons, List.append_assoc, List.singleton_append, hr (j :: rest), er]
            rfl) hg
          rw [fH_cons] at this
          rw [this, sc_sc]
        have h00 : od C cl nu cs f (fH H) = od C cl nu cs f (fH H ++ [fs1 (cdA C (jp C c.1))]) := by
          apply od_c
          rw [h0, er, hr, er]
          rfl
        have hne := hO _ (cdA_mem (by omega)) h3
        have nxe : ∀ j, nx C ((j, jp C c.1) :: H) = (match nxj (cdA C (jp C c.1)) (j + 1) with | some j => some (fH H ++ [j]) | none => nx C H) := fun j => rfl
        rw [h00]
        rw [el] at hl ⊢
        unfold fs1 at *
        have hs0 := one 0
        have hs1 := one 1
        have hs2 := one 2
        have n0 := nxe 0
        have n1 := nxe 1
        have n2 := nxe 2
        unfold nxj at n0 n1 n2
        generalize lvs C cl nu cs Y k (jp C c.1 + 1, c.2.1.set (cdA C (jp C c.1)).2.1.toNatClampNeg (nz 0), c.2.2.1 + 1, c.2.2.2) (n + 1) = L0 at *
        generalize lvs C cl nu cs Y k (jp C c.1 + 1, c.2.1.set (cdA C (jp C c.1)).2.1.toNatClampNeg (nz 1), c.2.2.1 + 1, c.2.2.2) (n + 1) = L1 at *
        generalize lvs C cl nu cs Y k (jp C c.1 + 1, c.2.1.set (cdA C (jp C c.1)).2.1.toNatClampNeg (nz 2), c.2.2.1 + 1, c.2.2.2) (n + 1) = L2 at *
        by_cases d0 : dw (cdA C (jp C c.1)) 0 = 0
        · by_cases d1 : dw (cdA C (jp C c.1)) 1 = 0
          · have d2 : dw (cdA C (jp C c.1)) 2 ≠ 0 := fun q => hne ⟨d0, d1, q⟩
            simp only [d0, d1, d2, if_true, if_false, List.nil_append, List.append_nil] at hl ⊢
            rw [sc_len] at hl
            rw [hs2 f d2 (by omega), n2, sc_len]
            simp
          · by_cases d2 : dw (cdA C (jp C c.1)) 2 = 0
            · simp only [d0, d1, d2, if_true, if_false, List.nil_append, List.append_nil] at hl ⊢
              rw [sc_len] at hl
              rw [hs1 f d1 (by omega), n1, sc_len]
              simp [d2]
            · simp only [d0, d1, d2, if_true, if_false, List.nil_append, List.append_nil, List.length_append] at hl ⊢
              rw [sc_len, sc_len] at hl
              rw [hs1 f d1 (by omega), n1, sc_len, sc_len]
              simp only [d2, sc_app, List.append_assoc]
              have := hs2 (f - L1.length) d2 (by omega)
              rw [n2] at this
              simp [d2, odx] at this ⊢
              rw [this]
              simp [Nat.sub_sub]
        · by_cases d1 : dw (cdA C (jp C c.1)) 1 = 0
          · by_cases d2 : dw (cdA C (jp C c.1)) 2 = 0
            · simp only [d0, d1, d2, if_true, if_false, List.nil_append, List.append_nil] at hl ⊢
              rw [sc_len] at hl
              rw [hs0 f d0 (by omega), n0, sc_len]
              simp [d1, d2]
            · simp only [d0, d1, d2, if_true, if_false, List.nil_append, List.append_nil, List.length_append] at hl ⊢
              rw [sc_len, sc_len] at hl
              rw [hs0 f d0 (by omega), n0, sc_len, sc_len]
              simp only [d1, d2, sc_app, List.append_assoc]
              have := hs2 (f - L0.length) d2 (by omega)
              rw [n2] at this
              simp [d1, d2, odx] at this ⊢
              rw [this]
              simp [Nat.sub_sub]
          · by_cases d2 : dw (cdA C (jp C c.1)) 2 = 0
            · simp only [d0, d1, d2, if_true, if_false, List.nil_append, List.append_nil, List.length_append] at hl ⊢
              rw [sc_len, sc_len] at hl
              rw [hs0 f d0 (by omega), n0, sc_len, sc_len]
              simp only [d1, d2, sc_app, List.append_assoc]
              have := hs1 (f - L0.length) d1 (by omega)
              rw [n1] at this
              simp [d1, d2, odx] at this ⊢
              rw [this]
              simp [Nat.sub_sub]
            · simp only [d0, d1, d2, if_true, if_false, List.nil_append, List.append_nil, List.length_append] at hl ⊢
              rw [sc_len, sc_len, sc_len] at hl
              rw [hs0 f d0 (by omega), n0, sc_len, sc_len, sc_len]
              simp only [d1, d2, sc_app, List.append_assoc]
              have t1 := hs1 (f - L0.length) d1 (by omega)
              have t2 := hs2 (f - L0.length - L1.length) d2 (by omega)
              rw [n1] at t1
              rw [n2] at t2
              simp [d1, d2, odx] at t1 t2 ⊢
              rw [t1, t2]
              simp [Nat.sub_sub, Nat.add_assoc]
    · have el : lvs C cl nu cs Y (k + 1) c n = lvs C cl nu cs Y k (act C cl nu cs (jp C c.1) c.2.1 c.2.2.1 c.2.2.2) (n + 1) := by
        show (if _ then _ else _) = _
        rw [if_neg h1, if_neg h2, if_neg h3]
      have er : ∀ rest, ru C cl nu cs orF (k + 1) c n w rest H = ru C cl nu cs orF k (act C cl nu cs (jp C c.1) c.2.1 c.2.2.1 c.2.2.2) (n + 1) w rest H := by
        intro rest
        show (if _ then _ else _ : Rn × List Nat) = _
        rw [if_neg h1, if_neg h2, if_neg h3]
      have hd2 : (act C cl nu cs (jp C c.1) c.2.1 c.2.2.1 c.2.2.2).2.2.1 = c.2.2.1 := by
        unfold act
        split
        · rfl
        split
        · rfl
        split
        · rfl
        · rfl
      rw [el] at hl ⊢
      exact ih _ (n + 1) w H f (by omega) (by omega) (by rw [hd2]; exact hd) (fun rest => by rw [hr, er]) hl
/-- runs one by one are the leaves -/
theorem od_all (hO : dOk C) {f : Nat} (hf : 2187 ≤ f) : (od C cl nu cs f []).map (lfo cl nu Y) = lvs C cl nu cs Y 61 rt0 0 := by
  have hl := lvs_len C cl nu cs Y 61 rt0 0 (by simp only [rt0]; omega)
  have : 3 ^ (7 - rt0.2.2.1) = 2187 := by decide
  have := od_lv C cl nu cs Y hO 61 rt0 0 1 [] f (by omega) (by omega) (by simp only [rt0]; omega) (fun rest => by simp [fH]) (by omega)
  rw [sc_one, show fH [] = [] from rfl] at this
  rw [this]
  simp [nx, odx]
end
