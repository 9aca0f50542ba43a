set_option maxRecDepth 100000
/-! ===== a fault's place lies in the text ===== -/
def eN {α : Type} (n : Nat) (f : α → Nat) (r : Except Nat α) : Prop := match r with
  | .error e => e ≤ n
  | .ok a => f a ≤ n
theorem eN_eb {α β : Type} {n : Nat} {f : α → Nat} {g : β → Nat} {x : Except Nat α} {k : α → Except Nat β} (h : eN n f x) (hk : ∀ a, f a ≤ n → eN n g (k a)) : eN n g (eb x k) := by
  cases x with
  | error e => exact h
  | ok a => exact hk a h
theorem lvC_0 (c : Int32) : 0 ≤ lvC c + 1 := by
  unfold lvC
  repeat' split
  all_goals decide
section
variable {n : Nat} {tx : Nat → Int32}
theorem pk_n {i : Nat} (h : pk n tx i ≠ -1) : sk n tx i + 1 ≤ n := (pkc_ne h).1
theorem isI_n1 {i : Nat} {a b : Int32} (h : isI (pk n tx i) a b = true) (ha : 0 ≤ a) : sk n tx i + 1 ≤ n := by
  refine pk_n (fun q => ?_)
  rw [q] at h
  have := (isI_iff.mp h).1
  exact absurd (Int32.le_trans ha this) (by decide)
theorem pTk_n {c : Int32} {i : Nat} (hc : c ≠ -1) (hi : i ≤ n) : eN n id (pTk n tx c i) := by
  unfold pTk
  split
  · next h => exact pk_n (by rw [h]; exact hc)
  · exact sk_le hi
theorem pNm_n {j : Nat} (h : j < n) : (pNm n tx j).1 ≤ n := by
  unfold pNm
  split
  · next q => exact q.2.1
  · exact h
theorem pNo_n {i : Nat} (hi : i ≤ n) : eN n (fun q => q.1) (pNo n tx i) := by
  unfold pNo
  split
  · next h => exact pNm_n (isI_n1 h (by decide))
  · exact sk_le hi
theorem pLp_n {R : Int32 → Nat → Nat → Option Nat → ER} (hR : ∀ L dep i w, 0 ≤ L → i ≤ n → eN n (fun q => q.1) (R L dep i w)) (L : Int32) (hL : 0 ≤ L) (dep : Nat) : ∀ k i w l r y, i ≤ n → eN n (fun q => q.1) (pLp n tx R L dep k i w l r y) := by
  intro k
  induction k with
  | zero => intro i w l r y h; exact Nat.zero_le _
  | succ k ih =>
    intro i w l r y hi
    unfold pLp
    split
    · exact sk_le hi
    · next h =>
      have hp : pk n tx i ≠ -1 := by
        intro q
        rw [q] at h
        exact h (Int32.lt_of_lt_of_le (by decide) hL)
      refine eN_eb (hR _ _ _ _ (lvC_0 _) (pk_n hp)) (fun a ha => ?_)
      split
      · exact ha
      · exact ih _ _ _ _ _ ha
theorem pE_n (own : Int32) : ∀ d, (∀ L dep i w, 0 ≤ L → i ≤ n → eN n (fun q => q.1) ((pE n tx own d).1 L dep i w)) ∧ (∀ dep i w, i ≤ n → eN n (fun q => q.1) ((pE n tx own d).2.1 dep i w)) ∧ (∀ dep cl i w, cl ≠ -1 → i ≤ n → eN n (fun q => q.1) ((pE n tx own d).2.2 dep cl i w)) := by
  intro d
  induction d with
  | zero => exact ⟨fun _ _ _ _ _ _ => Nat.zero_le _, fun _ _ _ _ => Nat.zero_le _, fun _ _ _ _ _ _ => Nat.zero_le _⟩
  | succ d ih =>
    obtain ⟨ihS, ihA, ihI⟩ := ih
    refine ⟨?_, ?_, ?_⟩
    · intro L dep i w hL hi
      show eN n _ (pSm n tx (pE n tx own d).1 (pE n tx own d).2.1 L dep i w)
      unfold pSm
      exact eN_eb (ihA _ _ _ hi) (fun a ha => pLp_n ihS L hL _ _ _ _ _ _ _ ha)
    · intro dep i w hi
      show eN n _ (pAt n tx own (pE n tx own d).2.1 (pE n tx own d).2.2 dep i w)
      unfold pAt
      split
      · next h => exact pNm_n (isI_n1 h (by decide))
      · split
        · next h => exact isI_n1 h (by decide)
        · split
          · next h =>
            have h1 := isI_n1 h (by decide)
            split
            · next h2 => exact eN_eb (ihI _ _ _ _ (by decide) (pk_n (by rw [h2]; decide))) (fun a ha => ha)
            · exact sk_le h1
          · split
            · next h => exact ihI _ _ _ _ (by decide) (pk_n (by rw [h]; decide))
            · split
              · next h => exact eN_eb (ihI _ _ _ _ (by decide) (pk_n (by rw [h]; decide))) (fun a ha => ha)
              · split
                · next h => exact eN_eb (ihA _ _ _ (pk_n (by rw [h]; decide))) (fun a ha => ha)
                · exact sk_le hi
    · intro dep cl i w hcl hi
      show eN n _ (pIn n tx (pE n tx own d).1 dep cl i w)
      unfold pIn
      refine eN_eb (ihS _ _ _ _ (by decide) hi) (fun a ha => ?_)
      split
      · next h => exact pk_n (by rw [h]; exact hcl)
      · exact sk_le ha
theorem pSum_n {own : Int32} {i : Nat} {w : Option Nat} (hi : i ≤ n) : eN n (fun q => q.1) (pSum n tx own i w) := (pE_n own DE).1 _ _ _ _ (by decide) hi
theorem pDr_n {i : Nat} (hi : i ≤ n) : eN n (fun q => q.1) (pDr n tx i) := by
  unfold pDr
  refine eN_eb (pNo_n hi) (fun a ha => eN_eb (pNo_n ha) (fun b hb => ?_))
  split
  · next h => exact pNm_n (isI_n1 h (by decide))
  · exact sk_le hb
theorem pAs_n {v : Int32} {p : Nat} {w : Option Nat} {st : Nat} {ch : List Int32} (hp : p + 1 ≤ n) : eN n (fun q => q.1) (pAs n tx v p w st ch) := by
  unfold pAs
  split
  · next h => exact eN_eb (pSum_n (pk_n (by rw [h]; decide))) (fun a ha => eN_eb (pTk_n (by decide) ha) (fun b hb => hb))
  · split
    · next h => exact eN_eb (pDr_n (pk_n (by rw [h]; decide))) (fun a ha => eN_eb (pTk_n (by decide) ha) (fun b hb => hb))
    · split
      · next h => exact eN_eb (pNo_n (pk_n (by rw [h]; decide))) (fun a ha => eN_eb (pTk_n (by decide) ha) (fun b hb => hb))
      · exact sk_le hp
theorem pBlp_n {R : Nat → Nat → Option Nat → Nat → Nat → List Int32 → SR} {dep cb : Nat} (hR : ∀ dep i w st cb ch, i ≤ n → eN n (fun q => q.1) (R dep i w st cb ch)) : ∀ k i w st C ch r, i ≤ n → eN n (fun q => q.1) (pBlp n tx R dep k i w st cb C ch r) := by
  intro k
  induction k with
  | zero => intro i w st C ch r h; exact Nat.zero_le _
  | succ k ih =>
    intro i w st C ch r hi
    unfold pBlp
    split
    · next h => exact pk_n (by rw [h]; decide)
    · exact eN_eb (hR _ _ _ _ _ _ (sk_le hi)) (fun a ha => ih _ _ _ _ _ _ ha)
theorem pS_n : ∀ d, (∀ dep i w st cb ch, i ≤ n → eN n (fun q => q.1) ((pS n tx d).1 dep i w st cb ch)) ∧ (∀ dep i w st cb ch, i ≤ n → eN n (fun q => q.1) ((pS n tx d).2 dep i w st cb ch)) := by
  intro d
  induction d with
  | zero => exact ⟨fun _ _ _ _ _ _ _ => Nat.zero_le _, fun _ _ _ _ _ _ _ => Nat.zero_le _⟩
  | succ d ih =>
    obtain ⟨ihS, ihB⟩ := ih
    refine ⟨?_, ?_⟩
    · intro dep i w st cb ch hi
      show eN n _ (pSt n tx (pS n tx d).2 dep i w st cb ch)
      unfold pSt
      split
      · next h => exact pAs_n (isI_n1 h (by decide))
      · split
        · next h => exact eN_eb (pSum_n (pk_n (by rw [h]; decide))) (fun a ha => eN_eb (pTk_n (by decide) ha) (fun b hb => hb))
        · split
          · next h => exact eN_eb (pSum_n (pk_n (by rw [h]; decide))) (fun a ha => eN_eb (ihB _ _ _ _ _ _ ha) (fun b hb => hb))
          · split
            · next h =>
              refine eN_eb (pSum_n (pk_n (by rw [h]; decide))) (fun a ha => eN_eb (ihB _ _ _ _ _ _ ha) (fun b hb => ?_))
              split
              · exact eN_eb (ihB _ _ _ _ _ _ (sk_le hb)) (fun c hc => hc)
              · exact sk_le hb
            · exact sk_le hi
    · intro dep i w st cb ch hi
      show eN n _ (pBl n tx (pS n tx d).1 dep i w st cb ch)
      unfold pBl
      exact eN_eb (pTk_n (by decide) hi) (fun a ha => pBlp_n ihS _ _ _ _ _ _ _ ha)
theorem pLe_n {lo hi : Int32} {i : Nat} (hl : 0 ≤ lo) (h : i ≤ n) : eN n (fun q => q.1) (pLe n tx lo hi i) := by
  unfold pLe
  split
  · next q => exact isI_n1 q hl
  · exact sk_le h
theorem pFn_n {i : Nat} {w : Option Nat} {F : List Fn} (h : i ≤ n) : eN n (fun q => q.1) (pFn n tx i w F) := by
  unfold pFn
  exact eN_eb (pLe_n (by decide) h) (fun a ha => eN_eb (pTk_n (by decide) ha) (fun b hb => eN_eb (pLe_n (by decide) hb) (fun v hv => eN_eb (pTk_n (by decide) hv) (fun e he => eN_eb (pTk_n (by decide) he) (fun g hg => eN_eb (pSum_n hg) (fun q hq => eN_eb (pTk_n (by decide) hq) (fun z hz => hz)))))))
end
