set_option maxRecDepth 100000
/-! ===== NUMBERS: nz n is the int n ===== -/
def nz (n : Nat) : Int32 := Int32.ofNat n
theorem nz_toInt {a : Nat} (h : a < 2147483648) : (nz a).toInt = a := Int32.toInt_ofNat_of_lt (by omega)
theorem nz_tn {a : Nat} (h : a < 2147483648) : (nz a).toNatClampNeg = a := Int32.toNatClampNeg_ofNat_of_lt (by omega)
theorem nz_add (a b : Nat) : nz a + nz b = nz (a + b) := (Int32.ofNat_add a b).symm
theorem nz_mul (a b : Nat) : nz a * nz b = nz (a * b) := (Int32.ofNat_mul a b).symm
theorem nz_s (a : Nat) : nz a + 1 = nz (a + 1) := nz_add a 1
theorem nz_sub {a b : Nat} (h : b ≤ a) : nz a - nz b = nz (a - b) := (Int32.ofNat_sub a b h).symm
theorem nz_p {a : Nat} (h : 1 ≤ a) : nz a - 1 = nz (a - 1) := nz_sub h
theorem nz_ps (a : Nat) : nz (a + 1) - 1 = nz a := nz_sub (b := 1) (by omega)
theorem nz_pn {a : Nat} (h : 1 ≤ a) : nz a + (-1) = nz (a - 1) := by
  rw [← nz_p h, Int32.sub_eq_add_neg]
theorem nz_le {a b : Nat} (ha : a < 2147483648) (hb : b < 2147483648) : nz a ≤ nz b ↔ a ≤ b := Int32.ofNat_le_iff_le (by omega) (by omega)
theorem nz_lt {a b : Nat} (ha : a < 2147483648) (hb : b < 2147483648) : nz a < nz b ↔ a < b := Int32.ofNat_lt_iff_lt (by omega) (by omega)
theorem nz_inj {a b : Nat} (ha : a < 2147483648) (hb : b < 2147483648) : nz a = nz b ↔ a = b := by
  constructor
  · intro h
    have := congrArg Int32.toNatClampNeg h
    rwa [nz_tn ha, nz_tn hb] at this
  · intro h; rw [h]
theorem nz_ge0 {a : Nat} (ha : a < 2147483648) : ¬ nz a < 0 := by
  rw [show (0 : Int32) = nz 0 from rfl, nz_lt ha (by omega)]; omega
theorem nz_le0 {a : Nat} (ha : a < 2147483648) : nz a ≤ 0 ↔ a = 0 := by
  rw [show (0 : Int32) = nz 0 from rfl, nz_le ha (by omega)]; omega
theorem nz_0le {a : Nat} (ha : a < 2147483648) : 0 ≤ nz a := by
  rw [show (0 : Int32) = nz 0 from rfl, nz_le (by omega) ha]; omega
theorem nz_m1 {a : Nat} (ha : a < 2147483648) : nz a ≠ -1 := by
  intro h
  have := nz_ge0 ha
  rw [h] at this
  exact this (by decide)
theorem nz_inB {a n : Nat} (ha : a < 2147483648) : inB (nz a) n = decide (a < n) := by
  unfold inB
  rw [nz_tn ha]
  rw [decide_eq_false (nz_ge0 ha)]
  by_cases h : a < n
  · simp [h, Nat.not_le.mpr h]
  · simp [h, Nat.not_lt.mp h]
theorem nz_inB' {a n : Nat} (h : a < n) (hn : n < 2147483648) : inB (nz a) n = true := by
  rw [nz_inB (by omega)]; exact decide_eq_true h
/-- an int that is not below 0 is a nz -/
theorem nz_of {x : Int32} (h : 0 ≤ x) : ∃ a, a < 2147483648 ∧ x = nz a := by
  refine ⟨x.toNatClampNeg, ?_, (Int32.ofNat_toNatClampNeg x h).symm⟩
  have := Int32.toNatClampNeg_lt x
  omega
theorem i32_le {x y : Int32} : x ≤ y ↔ x.toInt ≤ y.toInt := Int32.le_iff_toInt_le
theorem i32_lt {x y : Int32} : x < y ↔ x.toInt < y.toInt := Int32.lt_iff_toInt_lt
theorem i32_nlt {x y : Int32} : ¬ x < y ↔ y ≤ x := by rw [i32_le, i32_lt]; omega
theorem i32_nle {x y : Int32} : ¬ x ≤ y ↔ y < x := by rw [i32_le, i32_lt]; omega
/-! ===== THE STORE READ BEHIND A WRITE ===== -/
theorem gI (σ : cS) (o j : Nat) (v : Int32) (a b : Nat) : (stI σ o j v).1 a b = if a = o then (if b = j then v else σ.1 a b) else σ.1 a b := by
  unfold stI upd
  by_cases h : a = o
  · subst h; simp
  · simp [h]
theorem gI_L (σ : cS) (o j : Nat) (v : Int32) : (stI σ o j v).2.1 = σ.2.1 := rfl
theorem gI_R (σ : cS) (o j : Nat) (v : Int32) : (stI σ o j v).2.2 = σ.2.2 := rfl
theorem gI_2 (σ : cS) (o j : Nat) (v : Int32) : (stI σ o j v).2 = σ.2 := rfl
theorem gL (σ : cS) (o j : Nat) (v : Int64) (a b : Nat) : (stL σ o j v).2.1 a b = if a = o then (if b = j then v else σ.2.1 a b) else σ.2.1 a b := by
  unfold stL vp_updL
  by_cases h : a = o
  · subst h; simp
  · simp [h]
theorem gL_I (σ : cS) (o j : Nat) (v : Int64) : (stL σ o j v).1 = σ.1 := rfl
theorem gL_R (σ : cS) (o j : Nat) (v : Int64) : (stL σ o j v).2.2 = σ.2.2 := rfl
theorem gR (σ : cS) (o j : Nat) (v : Option Nat) (a b : Nat) : (stR σ o j v).2.2 a b = if a = o then (if b = j then v else σ.2.2 a b) else σ.2.2 a b := by
  unfold stR va_up
  by_cases h : a = o
  · subst h; simp
  · simp [h]
theorem gR_I (σ : cS) (o j : Nat) (v : Option Nat) : (stR σ o j v).1 = σ.1 := rfl
theorem gR_L (σ : cS) (o j : Nat) (v : Option Nat) : (stR σ o j v).2.1 = σ.2.1 := rfl
theorem gA (σ : cS) (o : Nat) (f : Nat → Int32) (a b : Nat) : (stA σ o f).1 a b = if a = o then f b else σ.1 a b := by
  unfold stA
  by_cases h : a = o
  · subst h; simp
  · simp [h]
theorem gA_2 (σ : cS) (o : Nat) (f : Nat → Int32) : (stA σ o f).2 = σ.2 := rfl
theorem gB (σ : cS) (o : Nat) (f : Nat → Int64) (a b : Nat) : (stB σ o f).2.1 a b = if a = o then f b else σ.2.1 a b := by
  unfold stB
  by_cases h : a = o
  · subst h; simp
  · simp [h]
theorem gB_I (σ : cS) (o : Nat) (f : Nat → Int64) : (stB σ o f).1 = σ.1 := rfl
theorem gB_R (σ : cS) (o : Nat) (f : Nat → Int64) : (stB σ o f).2.2 = σ.2.2 := rfl
theorem stI_self {σ : cS} {o j : Nat} {v : Int32} (h : σ.1 o j = v) : stI σ o j v = σ := by
  apply Prod.ext
  · funext a b
    rw [gI]
    split
    · split
      · simp_all
      · rfl
    · rfl
  · rfl
theorem stI_stI {σ : cS} {o j : Nat} {v w : Int32} : stI (stI σ o j v) o j w = stI σ o j w := by
  apply Prod.ext
  · funext a b
    simp only [gI]
    split
    · split <;> rfl
    · rfl
  · rfl
/-! ===== THE PROGRAMS' WORDS ===== -/
theorem ck_t {β : Type} {c : Bool} {k : Option β} (h : c = true) : ck c k = k := if_pos h
theorem ck_d {β : Type} {p : Prop} [Decidable p] {k : Option β} (h : p) : ck (decide p) k = k := if_pos (decide_eq_true h)
theorem ck_n {β : Type} {a n : Nat} {k : Option β} (h : a < n) (hn : n < 2147483648) : ck (inB (nz a) n) k = k := ck_t (nz_inB' h hn)
theorem bd_s {β γ : Type} {r : β} {σ : cS} {k : β → cS → Option γ} : bd (some (r, σ)) k = k r σ := rfl
theorem bdT_s {β γ : Type} {r : β} {σ : cS} {k : β → cS → Option (Option γ × cS)} : bdT (some (some r, σ)) k = k r σ := rfl
theorem bdT_n {β γ : Type} {σ : cS} {k : β → cS → Option (Option γ × cS)} : bdT (some ((none : Option β), σ)) k = some (none, σ) := rfl
theorem bd_e {β γ : Type} {g : Option (β × cS)} {r : β} {σ : cS} {k : β → cS → Option γ} (h : g = some (r, σ)) : bd g k = k r σ := by rw [h]; rfl
theorem bdT_e {β γ : Type} {g : Option (Option β × cS)} {r : β} {σ : cS} {k : β → cS → Option (Option γ × cS)} (h : g = some (some r, σ)) : bdT g k = k r σ := by rw [h]; rfl
theorem bdT_en {β γ : Type} {g : Option (Option β × cS)} {σ : cS} {k : β → cS → Option (Option γ × cS)} (h : g = some (none, σ)) : bdT g k = some (none, σ) := by rw [h]; rfl
theorem rR_e {β : Type} {x : Option Nat} {a : Nat} {k : Nat → Option β} (h : x = some a) : rR x k = k a := by rw [h]; rfl
theorem wI_e {β : Type} {σ : cS} {o j : Nat} {v : Int32} {k : cS → Option β} : wI σ o j v k = k (stI σ o j v) := rfl
