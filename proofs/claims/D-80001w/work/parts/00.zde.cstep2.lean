set_option maxRecDepth 100000
section
variable {o : Nat} {C : List Cd} {ch : List Int32} {Y : List Sy} {F : List Fn} {R : List Int32} {ka wa ma pa kb wb mb pb : Nat}
/-- refs of the layer at hand -/
def cCu (σ : cS) (ka wa ma pa : Nat) : Prop := σ.2.2 74 0 = some ka ∧ σ.2.2 74 1 = some wa ∧ σ.2.2 74 2 = some ma ∧ σ.2.2 74 3 = some pa
/-- the two layers' arrays are the two sets -/
def ar2 (ka wa ma pa kb wb mb pb : Nat) : Prop := (ka = 75 ∧ wa = 76 ∧ ma = 77 ∧ pa = 78 ∧ kb = 79 ∧ wb = 80 ∧ mb = 81 ∧ pb = 82) ∨ (ka = 79 ∧ wa = 80 ∧ ma = 81 ∧ pa = 82 ∧ kb = 75 ∧ wb = 76 ∧ mb = 77 ∧ pb = 78)
theorem ar2.a (h : ar2 ka wa ma pa kb wb mb pb) : arr ka wa ma pa := by
  rcases h with ⟨a, b, c, d, -⟩ | ⟨a, b, c, d, -⟩
  · exact Or.inl ⟨a, b, c, d⟩
  · exact Or.inr ⟨a, b, c, d⟩
theorem ar2.b (h : ar2 ka wa ma pa kb wb mb pb) : arr kb wb mb pb := by
  rcases h with ⟨-, -, -, -, a, b, c, d⟩ | ⟨-, -, -, -, a, b, c, d⟩
  · exact Or.inr ⟨a, b, c, d⟩
  · exact Or.inl ⟨a, b, c, d⟩
/-- a layer stands over what leaves its arrays -/
theorem cLy_f {σ σ' : cS} {L : List En} (h : cLy σ ka wa ma pa L) (h1 : ∀ j, σ'.2.1 ka j = σ.2.1 ka j) (h2 : ∀ j, σ'.2.1 wa j = σ.2.1 wa j) (h3 : ∀ j, σ'.1 ma j = σ.1 ma j) (h4 : ∀ j, σ'.1 pa j = σ.1 pa j) : cLy σ' ka wa ma pa L := by
  refine ⟨fun k e hk => (h4 k).trans (h.1 k e hk), fun e he => ?_, fun i hi hne => (h1 i).trans (h.2.2.1 i hi hne), h.2.2.2⟩
  obtain ⟨x1, x2, x3, x4, x5⟩ := h.2.1 e he
  exact ⟨x1, (h1 _).trans x2, (h2 _).trans x3, (h3 _).trans x4, x5⟩
theorem cLy_R {σ σ' : cS} {L : List En} (hA : arr ka wa ma pa) (h : cLy σ ka wa ma pa L) (hf : fRu σ σ') : cLy σ' ka wa ma pa L := by
  refine cLy_f h (fun j => by rw [hf.1]) (fun j => by rw [hf.1]) (fun j => ?_) (fun j => ?_)
  · rcases hA with ⟨rfl, rfl, rfl, rfl⟩ | ⟨rfl, rfl, rfl, rfl⟩ <;> exact hf.2 _ _ (by decide) (by decide) (by omega)
  · rcases hA with ⟨rfl, rfl, rfl, rfl⟩ | ⟨rfl, rfl, rfl, rfl⟩ <;> exact hf.2 _ _ (by decide) (by decide) (by omega)
theorem cLy_E {σ σ' : cS} {L : List En} (hA : arr ka wa ma pa) (h : cLy σ ka wa ma pa L) (hf : fEn σ σ') : cLy σ' ka wa ma pa L := by
  refine cLy_f h (fun j => ?_) (fun j => ?_) (fun j => ?_) (fun j => ?_)
  · rcases hA with ⟨rfl, rfl, rfl, rfl⟩ | ⟨rfl, rfl, rfl, rfl⟩ <;> exact hf.2.1 _ _ (by decide)
  · rcases hA with ⟨rfl, rfl, rfl, rfl⟩ | ⟨rfl, rfl, rfl, rfl⟩ <;> exact hf.2.1 _ _ (by decide)
  · rcases hA with ⟨rfl, rfl, rfl, rfl⟩ | ⟨rfl, rfl, rfl, rfl⟩ <;> exact hf.2.2 _ _ (by decide) (by decide) (by omega)
  · rcases hA with ⟨rfl, rfl, rfl, rfl⟩ | ⟨rfl, rfl, rfl, rfl⟩ <;> exact hf.2.2 _ _ (by decide) (by decide) (by omega)
/-- the layer at hand over a step -/
theorem cLy_S {σ σ' : cS} {L : List En} (hA : ar2 ka wa ma pa kb wb mb pb) (h : cLy σ ka wa ma pa L) (hf : fSt kb wb mb pb σ σ') : cLy σ' ka wa ma pa L := by
  rcases hA with ⟨rfl, rfl, rfl, rfl, rfl, rfl, rfl, rfl⟩ | ⟨rfl, rfl, rfl, rfl, rfl, rfl, rfl, rfl⟩
  · exact cLy_f h (fun j => hf.2.1 _ _ (by decide) (by decide)) (fun j => hf.2.1 _ _ (by decide) (by decide)) (fun j => hf.2.2 _ _ (by decide) (by decide) (by decide) (by decide) (by omega)) (fun j => hf.2.2 _ _ (by decide) (by decide) (by decide) (by decide) (by omega))
  · exact cLy_f h (fun j => hf.2.1 _ _ (by decide) (by decide)) (fun j => hf.2.1 _ _ (by decide) (by decide)) (fun j => hf.2.2 _ _ (by decide) (by decide) (by decide) (by decide) (by omega)) (fun j => hf.2.2 _ _ (by decide) (by decide) (by decide) (by decide) (by omega))
end
