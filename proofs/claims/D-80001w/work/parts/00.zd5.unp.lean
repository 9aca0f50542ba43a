set_option maxRecDepth 100000
theorem cPacked {σ : cS} {c : Cfg} (hr : cRu σ c) (hp : c.1 < 128) (hd : c.2.2.1 < 8) : fX6_packed σ = some (nl (key c), σ) := cPk hr hp hd 6 0 FU (by omega) (by unfold FU; omega) (by omega)
theorem nl_and' {a k : Nat} (ha : a < 2 ^ 64) (hk : k < 31) : nl a &&& nl (2 ^ k - 1) = nl (a % 2 ^ k) := by
  have hkp : 2 ^ k ≤ 2 ^ 31 := Nat.pow_le_pow_right (by omega) (by omega)
  apply Int64.toBitVec_inj.mp
  rw [Int64.toBitVec_and, nl_bv, nl_bv, nl_bv]
  apply BitVec.eq_of_toNat_eq
  rw [BitVec.toNat_and, BitVec.toNat_ofNat, BitVec.toNat_ofNat, BitVec.toNat_ofNat, Nat.mod_eq_of_lt ha, Nat.mod_eq_of_lt (by omega), Nat.and_two_pow_sub_one_eq_mod, Nat.mod_eq_of_lt (Nat.lt_of_le_of_lt (Nat.mod_le _ _) ha)]
theorem cUp55 {v : List Int32} (hv : vOk v) {a1 : Int64} : ∀ (m t f : Nat) (σ : cS) (x : Nat), 6 - t = m → m < f → t ≤ 6 → x = 2 ^ (49 - 7 * t) + kv v (6 - t) → (∀ a, a < t → σ.1 83 a = vof v a) → ∃ σ', fX6_unpack_55 a1 f (nl x) (nz t) σ = some ((), σ') ∧ σ'.2 = σ.2 ∧ (∀ o j, o ≠ 83 → σ'.1 o j = σ.1 o j) ∧ (∀ a, a < 6 → σ'.1 83 a = vof v a) := by
  intro m
  induction m with
  | zero =>
    intro t f σ x hm hf ht hx hv0
    obtain ⟨f, rfl⟩ : ∃ e, f = e + 1 := ⟨f - 1, by omega⟩
    refine ⟨σ, ?_, rfl, fun _ _ _ => rfl, fun a ha => hv0 a (by omega)⟩
    unfold fX6_unpack_55
    rw [show (6 : Int32) = nz 6 from rfl, if_pos (by rw [nz_le (by omega) (by omega)]; omega)]
  | succ m ih =>
    intro t f σ x hm hf ht hx hv0
    obtain ⟨f, rfl⟩ : ∃ e, f = e + 1 := ⟨f - 1, by omega⟩
    obtain ⟨s, hs⟩ : ∃ s, 6 - t = s + 1 := ⟨5 - t, by omega⟩
    obtain ⟨y, hy, ey⟩ := vof_n hv t
    have hk := kv_lt hv (6 - t)
    have hkp : 128 ^ (6 - t) ≤ 128 ^ 6 := Nat.pow_le_pow_right (by omega) (by omega)
    have h2p : 2 ^ (49 - 7 * t) ≤ 2 ^ 49 := Nat.pow_le_pow_right (by omega) (by omega)
    have ekv : kv v (6 - t) = kv v s * 128 + y := by
      rw [hs]
      show kv v s * 128 + (vof v (5 - s)).toNatClampNeg = _
      rw [show 5 - s = t by omega, ey, nz_tn (by omega)]
    have e2 : 2 ^ (49 - 7 * t) = 2 ^ (49 - 7 * (t + 1)) * 128 := by
      rw [show 49 - 7 * t = 49 - 7 * (t + 1) + 7 by omega, Nat.pow_add]
    have ex : x = (2 ^ (49 - 7 * (t + 1)) + kv v s) * 128 + y := by rw [hx, ekv, e2]; omega
    have hxs : x < 2 ^ 63 := by
      have : (128 : Nat) ^ 6 = 4398046511104 := by decide
      omega
    have emod : x % 2 ^ 7 = y := by omega
    have ediv : x / 2 ^ 7 = 2 ^ (49 - 7 * (t + 1)) + kv v s := by omega
    obtain ⟨σ', i1, i2, i3, i4⟩ := ih (t + 1) f (stI σ 83 t (nz y)) (x / 2 ^ 7) (by omega) (by omega) (by omega) (by rw [ediv, show 6 - (t + 1) = s by omega]) (fun a ha => by
      rw [gI, if_pos rfl]
      by_cases hat : a = t
      · rw [if_pos hat, hat, ey]
      · rw [if_neg hat]; exact hv0 a (by omega))
    refine ⟨σ', ?_, i2, fun o j ho => by rw [i3 o j ho, gI, if_neg ho], i4⟩
    conv => lhs; unfold fX6_unpack_55
    rw [show (6 : Int32) = nz 6 from rfl, if_neg (by rw [nz_le (by omega) (by omega)]; omega), ck_n (show t < 6 by omega) (by omega), nz_tn (by omega), show (127 : Int64) = nl (2 ^ 7 - 1) from rfl, nl_and (by omega) (by omega), emod, wI_e, nl_shr s7 (by omega) hxs, nz_s]
    exact i1
theorem cUnpack {σ : cS} {c : Cfg} (hv : vOk c.2.1) (hp : c.1 < 128) (hd : c.2.2.1 < 8) : ∃ σ', fX6_unpack (nl (key c)) σ = some ((), σ') ∧ fRu σ σ' ∧ cRu σ' c := by
  have hkv := kv_lt hv 6
  have h49 : kv c.2.1 6 < 4398046511104 := hkv
  have key' : ∀ b : Nat, b < 2 → key c = 2 ^ 60 + ((kv c.2.1 6 * 128 + c.1) * 16 + c.2.2.1 * 2 + b) → c.2.2.2 = decide (b = 1) → ∃ σ', fX6_unpack_16 (nl (key c)) (nl (key c)) (nz b) σ = some ((), σ') ∧ fRu σ σ' ∧ cRu σ' c := by
    intro b hb hk hcb
    have hk63 : key c < 2 ^ 63 := by omega
    have e1 : key c / 2 ^ 1 = 2 ^ 59 + (kv c.2.1 6 * 128 + c.1) * 8 + c.2.2.1 := by omega
    have e3 : key c / 2 ^ 1 / 2 ^ 3 = 2 ^ 56 + (kv c.2.1 6 * 128 + c.1) := by omega
    have e7 : key c / 2 ^ 1 / 2 ^ 3 / 2 ^ 7 = 2 ^ 49 + kv c.2.1 6 := by omega
    have hbz : bz (nz b) = true := by
      have : b = 0 ∨ b = 1 := by omega
      rcases this with h | h <;> rw [h] <;> decide
    unfold fX6_unpack_16
    rw [nl_shr s1 (by omega) hk63, nl_shr s3 (by omega) (by omega), nl_shr s7 (by omega) (by omega), show (7 : Int64) = nl (2 ^ 3 - 1) from rfl, show (127 : Int64) = nl (2 ^ 7 - 1) from rfl, nl_and (by omega) (by omega), nl_and (by omega) (by omega), show key c / 2 ^ 1 % 2 ^ 3 = c.2.2.1 by omega, show key c / 2 ^ 1 / 2 ^ 3 % 2 ^ 7 = c.1 by omega, ck_t hbz, wI_e, wI_e, wI_e]
    obtain ⟨σ', i1, i2, i3, i4⟩ := cUp55 hv (a1 := nl (key c)) 6 0 FU (stI (stI (stI σ 74 22 (nz b)) 74 21 (nz c.2.2.1)) 74 20 (nz c.1)) (key c / 2 ^ 1 / 2 ^ 3 / 2 ^ 7) (by omega) (by unfold FU; omega) (by omega) (by rw [e7]) (fun a ha => by omega)
    have F3 : fRu σ (stI (stI (stI σ 74 22 (nz b)) 74 21 (nz c.2.2.1)) 74 20 (nz c.1)) := ((fRu_I (by omega)).tr (fRu_I (by omega))).tr (fRu_I (by omega))
    refine ⟨σ', i1, F3.tr ⟨i2, fun o j h1 _ _ => i3 o j h1⟩, ?_, ?_, ?_, hv, i4⟩
    · rw [i3 _ _ (by decide)]; simp [gI]
    · rw [i3 _ _ (by decide)]; simp [gI]
    · rw [i3 _ _ (by decide), hcb]
      have : b = 0 ∨ b = 1 := by omega
      rcases this with h | h <;> rw [h] <;> simp [gI] <;> rfl
  unfold fX6_unpack
  have hk : key c = 2 ^ 60 + ((kv c.2.1 6 * 128 + c.1) * 16 + c.2.2.1 * 2 + (if c.2.2.2 = true then 1 else 0)) := rfl
  rw [show (1 : Int64) = nl (2 ^ 1 - 1) from rfl, nl_and' (by rw [hk]; split <;> omega) (by omega)]
  cases hb : c.2.2.2 with
  | true =>
    rw [hb, if_pos rfl] at hk
    rw [show key c % 2 ^ 1 = 1 by omega, if_pos (by decide)]
    exact key' 1 (by omega) hk (by rw [hb]; rfl)
  | false =>
    rw [hb, if_neg (by decide)] at hk
    rw [show key c % 2 ^ 1 = 0 by omega, if_neg (by decide)]
    exact key' 0 (by omega) hk (by rw [hb]; rfl)
theorem key_pos {c : Cfg} (hv : vOk c.2.1) (hp : c.1 < 128) (hd : c.2.2.1 < 8) : nl (key c) ≠ 0 ∧ key c < 2 ^ 63 := by
  have h49 : kv c.2.1 6 < 4398046511104 := kv_lt hv 6
  have hk : key c < 2 ^ 63 ∧ 0 < key c := by unfold key; split <;> omega
  refine ⟨fun h => ?_, hk.1⟩
  have := congrArg Int64.toInt h
  rw [show (nl (key c)).toInt = key c from Int64.toInt_ofNat_of_lt (by omega)] at this
  simp at this
  omega
