set_option maxRecDepth 100000
section
variable {o : Nat} {C : List Cd} {ch : List Int32} {Y : List Sy} {F : List Fn} {R : List Int32} {ka wa ma pa kb wb mb pb : Nat}
theorem cRs_S {σ σ' : cS} {A S X D : Nat} {lg wd : Bool} {G : Nat → Nat} (hB : arr kb wb mb pb) (hs : cRs σ A S X D lg wd G) (hf : fSt kb wb mb pb σ σ') : cRs σ' A S X D lg wd G := by
  obtain ⟨s1, s2, s3, s4, s5, s6, s7, s8, s9⟩ := hs
  have e : ∀ j, 14 ≤ j → j ≤ 19 → σ'.1 74 j = σ.1 74 j := by
    intro j h1 h2
    rcases hB with ⟨rfl, rfl, rfl, rfl⟩ | ⟨rfl, rfl, rfl, rfl⟩ <;> exact hf.2.2 74 j (by decide) (by decide) (by decide) (by decide) (by omega)
  have e2 : ∀ a, σ'.2.1 86 a = σ.2.1 86 a := by
    intro a
    rcases hB with ⟨rfl, rfl, rfl, rfl⟩ | ⟨rfl, rfl, rfl, rfl⟩ <;> exact hf.2.1 86 a (by decide) (by decide)
  exact ⟨(e _ (by omega) (by omega)).trans s1, (e _ (by omega) (by omega)).trans s2, (e _ (by omega) (by omega)).trans s3, (e _ (by omega) (by omega)).trans s4, (e _ (by omega) (by omega)).trans s5, (e _ (by omega) (by omega)).trans s6, s7, s8, fun a ha => (e2 a).trans (s9 a ha)⟩
end
