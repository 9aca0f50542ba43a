set_option maxRecDepth 100000
/-! ===== PACKED RUNS ===== -/
def nl (n : Nat) : Int64 := Int64.ofNat n
theorem nl_bv (n : Nat) : (nl n).toBitVec = BitVec.ofNat 64 n := rfl
theorem nz_nl {a : Nat} (h : a < 2147483648) : (nz a).toInt64 = nl a := by
  apply Int64.toInt_inj.mp
  rw [Int32.toInt_toInt64, nz_toInt h]
  exact (Int64.toInt_ofNat_of_lt (by omega)).symm
theorem nl_shl {a k : Nat} {s : Int64} (hs : s.toBitVec.smod 64 = BitVec.ofNat 64 k) (hk : k < 64) : nl a <<< s = nl (a * 2 ^ k) := by
  apply Int64.toBitVec_inj.mp
  rw [Int64.toBitVec_shiftLeft, hs, nl_bv, nl_bv]
  apply BitVec.eq_of_toNat_eq
  rw [BitVec.shiftLeft_eq', BitVec.toNat_shiftLeft, BitVec.toNat_ofNat, BitVec.toNat_ofNat, BitVec.toNat_ofNat, Nat.mod_eq_of_lt (show k < 2 ^ 64 by omega), Nat.shiftLeft_eq, Nat.mod_mul_mod]
theorem nl_or {a b k : Nat} (hb : b < 2 ^ k) (ha : a * 2 ^ k + b < 2 ^ 64) : nl (a * 2 ^ k) ||| nl b = nl (a * 2 ^ k + b) := by
  apply Int64.toBitVec_inj.mp
  rw [Int64.toBitVec_or, nl_bv, nl_bv, nl_bv]
  apply BitVec.eq_of_toNat_eq
  rw [BitVec.toNat_or, BitVec.toNat_ofNat, BitVec.toNat_ofNat, BitVec.toNat_ofNat, Nat.mod_eq_of_lt (by omega), Nat.mod_eq_of_lt (by omega), Nat.mod_eq_of_lt ha, ← Nat.shiftLeft_eq, Nat.shiftLeft_add_eq_or_of_lt hb]
theorem nl_shr {a k : Nat} {s : Int64} (hs : s.toBitVec.smod 64 = BitVec.ofNat 64 k) (hk : k < 64) (ha : a < 2 ^ 63) : nl a >>> s = nl (a / 2 ^ k) := by
  apply Int64.toBitVec_inj.mp
  rw [Int64.toBitVec_shiftRight, hs, nl_bv, nl_bv]
  apply BitVec.eq_of_toNat_eq
  rw [BitVec.sshiftRight'_ofNat_eq_sshiftRight, BitVec.sshiftRight_eq_of_msb_false, BitVec.toNat_ushiftRight, BitVec.toNat_ofNat, BitVec.toNat_ofNat, Nat.mod_eq_of_lt (show a < 2 ^ 64 by omega), Nat.shiftRight_eq_div_pow]
  · rw [Nat.mod_eq_of_lt (Nat.lt_of_le_of_lt (Nat.div_le_self _ _) (by omega)), Nat.mod_eq_of_lt (show k < 2 ^ 64 by omega)]
  · rw [BitVec.msb_eq_decide, decide_eq_false]
    rw [BitVec.toNat_ofNat]; omega
theorem nl_and {a k : Nat} (ha : a < 2 ^ 64) (hk : k < 31) : (nl a &&& nl (2 ^ k - 1)).toInt32 = nz (a % 2 ^ k) := by
  have hkp : 2 ^ k ≤ 2 ^ 31 := Nat.pow_le_pow_right (by omega) (by omega)
  have e : nl a &&& nl (2 ^ k - 1) = nl (a % 2 ^ k) := by
    apply Int64.toBitVec_inj.mp
    rw [Int64.toBitVec_and, nl_bv, nl_bv, nl_bv]
    apply BitVec.eq_of_toNat_eq
    rw [BitVec.toNat_and, BitVec.toNat_ofNat, BitVec.toNat_ofNat, BitVec.toNat_ofNat, Nat.mod_eq_of_lt ha, Nat.mod_eq_of_lt (by omega), Nat.and_two_pow_sub_one_eq_mod, Nat.mod_eq_of_lt (Nat.lt_of_le_of_lt (Nat.mod_le _ _) ha)]
  rw [e]
  exact Int64.toInt32_ofNat
/-- a run's key -/
def kv (v : List Int32) : Nat → Nat
  | 0 => 0
  | k + 1 => kv v k * 128 + (vof v (5 - k)).toNatClampNeg
def key (c : Cfg) : Nat := 2 ^ 60 + ((kv c.2.1 6 * 128 + c.1) * 16 + c.2.2.1 * 2 + (if c.2.2.2 = true then 1 else 0))
theorem kv_lt {v : List Int32} (h : vOk v) : ∀ k, kv v k < 128 ^ k := by
  intro k
  induction k with
  | zero => exact Nat.zero_lt_one
  | succ k ih =>
    obtain ⟨x, hx, ex⟩ := vof_n h (5 - k)
    unfold kv
    rw [ex, nz_tn (by omega), Nat.pow_succ]
    omega
theorem s7 : ((7 : Int32).toInt64 &&& 63).toBitVec.smod 64 = BitVec.ofNat 64 7 := by decide
theorem s4 : ((4 : Int32).toInt64 &&& 63).toBitVec.smod 64 = BitVec.ofNat 64 4 := by decide
theorem s1 : ((1 : Int32).toInt64 &&& 63).toBitVec.smod 64 = BitVec.ofNat 64 1 := by decide
theorem s3 : ((3 : Int32).toInt64 &&& 63).toBitVec.smod 64 = BitVec.ofNat 64 3 := by decide
/-- packing: the variables, last first -/
theorem cPk {σ : cS} {c : Cfg} (hr : cRu σ c) (hp : c.1 < 128) (hd : c.2.2.1 < 8) : ∀ (m k f : Nat), 6 - k = m → m < f → k ≤ 6 → fX6_packed_4 f (nl (kv c.2.1 k)) (nz (6 - k) - 1) σ = some (nl (key c), σ) := by
  obtain ⟨r1, r2, r3, r4, r5⟩ := hr
  intro m
  induction m with
  | zero =>
    intro k f hm hf hk
    obtain ⟨f, rfl⟩ : ∃ e, f = e + 1 := ⟨f - 1, by omega⟩
    have hk6 : k = 6 := by omega
    subst hk6
    have hkv := kv_lt r4 6
    unfold fX6_packed_4
    rw [if_pos (by decide), r1, r2, r3, nz_nl (show c.1 < 2147483648 by omega), nz_nl (show c.2.2.1 < 2147483648 by omega), nl_shl s7 (by omega), nl_or (k := 7) (by omega) (by omega), nl_shl s4 (by omega), nl_shl s1 (by omega)]
    have h49 : kv c.2.1 6 < 4398046511104 := hkv
    have e1 : (1152921504606846976 : Int64) = nl (1 * 2 ^ 60) := rfl
    rw [e1, nl_or (k := 60) (by omega) (by omega), show 1 * 2 ^ 60 + (kv c.2.1 6 * 2 ^ 7 + c.1) * 2 ^ 4 = (2 ^ 56 + (kv c.2.1 6 * 2 ^ 7 + c.1)) * 2 ^ 4 by omega, nl_or (k := 4) (by omega) (by omega), show (2 ^ 56 + (kv c.2.1 6 * 2 ^ 7 + c.1)) * 2 ^ 4 + c.2.2.1 * 2 ^ 1 = ((2 ^ 56 + (kv c.2.1 6 * 2 ^ 7 + c.1)) * 8 + c.2.2.1) * 2 ^ 1 by omega, show (0 : Int64) = nl 0 from rfl, show (1 : Int64) = nl 1 from rfl, nl_or (k := 1) (by omega) (by omega), nl_or (k := 1) (by omega) (by omega)]
    unfold key
    cases hb : c.2.2.2 with
    | false =>
      rw [show bi false = 0 from rfl, if_pos rfl]
      congr 3
      simp
      omega
    | true =>
      rw [show bi true = 1 from rfl, if_neg (by decide)]
      congr 3
      simp
      omega
  | succ m ih =>
    intro k f hm hf hk
    obtain ⟨f, rfl⟩ : ∃ e, f = e + 1 := ⟨f - 1, by omega⟩
    have hkv := kv_lt r4 k
    obtain ⟨x, hx, ex⟩ := vof_n r4 (5 - k)
    have e6 : nz (6 - k) - 1 = nz (5 - k) := by rw [show 6 - k = 5 - k + 1 by omega, nz_ps]
    have h128 : 128 ^ k ≤ 128 ^ 5 := Nat.pow_le_pow_right (by omega) (by omega)
    conv => lhs; unfold fX6_packed_4
    rw [e6, if_neg (nz_ge0 (by omega)), ck_n (show 5 - k < 6 by omega) (by omega), nz_tn (show 5 - k < 2147483648 by omega), r5 _ (by omega), ex, nz_nl (by omega), nl_shl s7 (by omega), nl_or (k := 7) (by omega) (by omega)]
    have := ih (k + 1) f (by omega) (by omega) (by omega)
    have ek : kv c.2.1 (k + 1) = kv c.2.1 k * 2 ^ 7 + x := by
      show kv c.2.1 k * 128 + (vof c.2.1 (5 - k)).toNatClampNeg = _
      rw [ex, nz_tn (by omega)]
    rw [ek, show 6 - (k + 1) = 5 - k by omega] at this
    rw [show nz (5 - k) + (-1) = nz (5 - k) - 1 by rw [Int32.sub_eq_add_neg]]
    exact this
