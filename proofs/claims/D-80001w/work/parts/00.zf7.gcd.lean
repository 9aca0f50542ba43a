set_option maxRecDepth 100000
/-! ===== fractions in lowest terms ===== -/
theorem nl_ti {x : Nat} (hx : x < 2 ^ 63) : (nl x).toInt = x := Int64.toInt_ofNat_of_lt hx
theorem nl_dv {x y : Nat} (hx : x < 2 ^ 62) (hy : y < 2 ^ 62) : nl x / nl y = nl (x / y) := by
  apply Int64.toInt_inj.mp
  have hd : x / y ≤ x := Nat.div_le_self x y
  have e : (x : Int).tdiv (y : Int) = ((x / y : Nat) : Int) := by rw [Int.tdiv_eq_ediv_of_nonneg (by omega)]; rfl
  rw [Int64.toInt_div, nl_ti (show x < 2 ^ 63 by omega), nl_ti (show y < 2 ^ 63 by omega), nl_ti (show x / y < 2 ^ 63 by omega), e]
  clear e
  generalize x / y = q at hd ⊢
  rw [Int.bmod_eq_of_le]
  · omega
  · omega
theorem nl_sub {x y : Nat} (h : y ≤ x) : nl x - nl y = nl (x - y) := by
  have : nl (x - y) + nl y = nl x := by rw [nl_add]; congr 1; omega
  rw [← this, Int64.add_sub_cancel]
theorem nl_md {x y : Nat} (hx : x < 2 ^ 62) (hy : y < 2 ^ 62) : nl x - nl x / nl y * nl y = nl (x % y) := by
  rw [nl_dv hx hy, nl_mul, nl_sub (Nat.div_mul_le_self x y)]
  congr 1
  have := Nat.div_add_mod x y
  rw [Nat.mul_comm] at this
  omega
theorem nl_z {x : Nat} (hx : x < 2 ^ 62) : nl x = 0 ↔ x = 0 := by
  constructor
  · intro h
    have := congrArg Int64.toInt h
    rw [nl_ti (by omega)] at this
    simp at this
    omega
  · intro h; rw [h]; rfl
theorem nl_pos {x : Nat} (hx : x < 2 ^ 62) : (0 : Int64) < nl x ↔ 0 < x := by
  rw [Int64.lt_iff_toInt_lt, nl_ti (by omega)]
  simp
theorem gcd_h {x y k : Nat} (h0 : 0 < x) (h1 : x ≤ y) (h2 : x * y < 2 ^ (k + 1)) : (y % x) * x < 2 ^ k := by
  have hm : y % x < x := Nat.mod_lt _ h0
  have hy : 2 * (y % x) < y + 1 := by
    have e := Nat.div_add_mod y x
    have q : 1 ≤ y / x := Nat.div_pos h1 h0
    have : x * 1 ≤ x * (y / x) := Nat.mul_le_mul_left x q
    omega
  have h3 : 2 * (y % x) * x ≤ y * x := Nat.mul_le_mul_right x (by omega)
  rw [Nat.mul_assoc, Nat.mul_comm y x] at h3
  rw [Nat.pow_succ] at h2
  omega
theorem cLow1 {a1 a2 : Nat} {p : Int32} {σ : cS} (h1 : a1 < 2 ^ 62) (h2 : a2 < 2 ^ 62) : ∀ (k f x y : Nat), k < f → x ≤ y → 0 < y → y < 2 ^ 62 → x * y < 2 ^ k → fX0_lowest_6 (nl a1) (nl a2) p f (nl x) (nl y) σ = some (if p = 0 then nl (a1 / Nat.gcd x y) else nl (a2 / Nat.gcd x y), σ) := by
  intro k
  induction k with
  | zero =>
    intro f x y hf hxy hy0 hy hp
    obtain ⟨f, rfl⟩ : ∃ e, f = e + 1 := ⟨f - 1, by omega⟩
    have hx0 : x = 0 := by
      rcases Nat.eq_zero_or_pos x with q | q
      · exact q
      · have := Nat.mul_pos q hy0; omega
    subst hx0
    unfold fX0_lowest_6
    have hne : (!decide (nl y = 0)) = true := by
      rw [decide_eq_false (fun z => by have := (nl_z hy).mp z; omega)]; rfl
    rw [if_pos (lgc0.mpr (show nl 0 = 0 from rfl)), Nat.gcd_zero_left]
    by_cases hp : p = 0
    · rw [if_pos hp, if_pos hp, ck_t hne, nl_dv h1 hy]
    · rw [if_neg hp, if_neg hp, ck_t hne, nl_dv h2 hy]
  | succ k ih =>
    intro f x y hf hxy hy0 hy hp
    obtain ⟨f, rfl⟩ : ∃ e, f = e + 1 := ⟨f - 1, by omega⟩
    unfold fX0_lowest_6
    by_cases h0 : x = 0
    · subst h0
      have hne : (!decide (nl y = 0)) = true := by
        rw [decide_eq_false (fun z => by have := (nl_z hy).mp z; omega)]; rfl
      rw [if_pos (lgc0.mpr (show nl 0 = 0 from rfl)), Nat.gcd_zero_left]
      by_cases hp : p = 0
      · rw [if_pos hp, if_pos hp, ck_t hne, nl_dv h1 hy]
      · rw [if_neg hp, if_neg hp, ck_t hne, nl_dv h2 hy]
    · have hne : (!decide (nl x = 0)) = true := by
        rw [decide_eq_false (fun z => h0 ((nl_z (by omega)).mp z))]; rfl
      rw [if_neg (fun z => h0 ((nl_z (by omega)).mp (lgc0.mp z))), ck_t hne, nl_md hy (by omega)]
      have hm : y % x < x := Nat.mod_lt _ (by omega)
      rw [ih f (y % x) x (by omega) (by omega) (by omega) (by omega) (gcd_h (by omega) hxy hp), ← Nat.gcd_rec x y]
/-- a fraction of the component in lowest terms -/
theorem cLow {a b : Nat} (p : Int32) (σ : cS) (ha : a < 2 ^ 62) (hb : b < 2 ^ 62) (hb0 : 0 < b) : fX0_lowest (nl a) (nl b) p σ = some (if p = 0 then nl (a / Nat.gcd a b) else nl (b / Nat.gcd a b), σ) := by
  unfold fX0_lowest
  have hpw : a * b < 2 ^ 124 := by
    have := Nat.mul_lt_mul'' ha hb
    rw [← Nat.pow_add] at this
    exact this
  by_cases hab : a ≤ b
  · exact cLow1 ha hb 124 FU a b (by unfold FU; omega) hab hb0 hb hpw
  · obtain ⟨f, hf⟩ : ∃ f, FU = f + 1 := ⟨FU - 1, by unfold FU; omega⟩
    have hf2 : 124 < f := by unfold FU at hf; omega
    rw [hf]
    unfold fX0_lowest_6
    have hne : (!decide (nl a = 0)) = true := by
      rw [decide_eq_false (fun z => by have := (nl_z ha).mp z; omega)]; rfl
    rw [if_neg (fun z => by have := (nl_z ha).mp (lgc0.mp z); omega), ck_t hne, nl_md hb ha, Nat.mod_eq_of_lt (by omega)]
    rw [cLow1 ha hb 124 f b a (by omega) (by omega) (by omega) ha (by rw [Nat.mul_comm]; exact hpw), Nat.gcd_comm b a]
theorem lgc_lt {x : Nat} (hx : x < 2 ^ 62) : (0 : Int32) < lg_cmp (nl x) 0 ↔ 0 < x := by
  rw [cmp_gt, nl_pos hx]
theorem tDiv1 {a1 a2 : Int64} {σ : cS} : ∀ (k f x y : Nat), k < f → y ≤ x → x < 2 ^ 62 → x * y < 2 ^ k → fX11_divisor_6 a1 a2 f (nl x) (nl y) σ = some (nl (Nat.gcd x y), σ) := by
  intro k
  induction k with
  | zero =>
    intro f x y hf hxy hx hp
    obtain ⟨f, rfl⟩ : ∃ e, f = e + 1 := ⟨f - 1, by omega⟩
    have hy0 : y = 0 := by
      rcases Nat.eq_zero_or_pos y with q | q
      · exact q
      · have := Nat.mul_pos (show 0 < x by omega) q; omega
    subst hy0
    unfold fX11_divisor_6
    rw [if_pos (by decide), Nat.gcd_zero_right]
  | succ k ih =>
    intro f x y hf hxy hx hp
    obtain ⟨f, rfl⟩ : ∃ e, f = e + 1 := ⟨f - 1, by omega⟩
    unfold fX11_divisor_6
    by_cases h0 : y = 0
    · subst h0
      rw [if_pos (by decide), Nat.gcd_zero_right]
    · have hne : (!decide (nl y = 0)) = true := by
        rw [decide_eq_false (fun z => h0 ((nl_z (by omega)).mp z))]; rfl
      rw [if_neg (fun z => Int32.not_lt.mpr z ((lgc_lt (by omega)).mpr (by omega))), ck_t hne, nl_md hx (by omega)]
      have hm : x % y < y := Nat.mod_lt _ (by omega)
      have := gcd_h (x := y) (y := x) (k := k) (by omega) hxy (by rw [Nat.mul_comm]; exact hp)
      rw [ih f y (x % y) (by omega) (by omega) (by omega) (by rw [Nat.mul_comm]; exact this), Nat.gcd_comm y (x % y), ← Nat.gcd_rec y x, Nat.gcd_comm y x]
/-- a fraction of the twin in lowest terms -/
theorem tLow {a b : Nat} (p : Int32) (σ : cS) (ha : a < 2 ^ 62) (hb : b < 2 ^ 62) (hb0 : 0 < b) : fX11_lowest (nl a) (nl b) p σ = some (if p = 0 then nl (a / Nat.gcd a b) else nl (b / Nat.gcd a b), σ) := by
  have hpw : a * b < 2 ^ 124 := by
    have := Nat.mul_lt_mul'' ha hb
    rw [← Nat.pow_add] at this
    exact this
  have hg : 0 < Nat.gcd a b := Nat.gcd_pos_of_pos_right a hb0
  have hgl : Nat.gcd a b ≤ b := Nat.gcd_le_right a hb0
  have hd : fX11_divisor (nl a) (nl b) σ = some (nl (Nat.gcd a b), σ) := by
    unfold fX11_divisor
    by_cases hab : b ≤ a
    · exact tDiv1 124 FU a b (by unfold FU; omega) hab ha hpw
    · obtain ⟨f, hf⟩ : ∃ f, FU = f + 1 := ⟨FU - 1, by unfold FU; omega⟩
      have hf2 : 124 < f := by unfold FU at hf; omega
      rw [hf]
      unfold fX11_divisor_6
      have hne : (!decide (nl b = 0)) = true := by
        rw [decide_eq_false (fun z => by have := (nl_z hb).mp z; omega)]; rfl
      rw [if_neg (fun z => Int32.not_lt.mpr z ((lgc_lt hb).mpr hb0)), ck_t hne, nl_md ha hb, Nat.mod_eq_of_lt (by omega), tDiv1 124 f b a (by omega) (by omega) hb (by rw [Nat.mul_comm]; exact hpw), Nat.gcd_comm b a]
  unfold fX11_lowest
  have hne : (!decide (nl (Nat.gcd a b) = 0)) = true := by
    rw [decide_eq_false (fun z => by have := (nl_z (by omega)).mp z; omega)]; rfl
  rw [hd, bd_s]
  by_cases hp : p = 0
  · rw [if_pos hp, if_pos hp, ck_t hne, nl_dv ha (by omega)]
  · rw [if_neg hp, if_neg hp, ck_t hne, nl_dv hb (by omega)]
