set_option maxRecDepth 100000
/-! ===== what is still to come, added up ===== -/
section
variable (C : List Cd) (cl : Int32 → Int32 → Int32) (nu : Int32 → Int32) (cs : Nat → Int32) (Y : List Sy)
/-- results so far and what Q (k + 1 steps left, n done) and N (k left, n + 1 done) still give come to Λ -/
def cPo (Λ : List Lf) (k n A S X D : Nat) (lg wd : Bool) (G : Nat → Nat) (Q N : List En) : Prop :=
  A + sM (fun c => lA (lvs C cl nu cs Y (k + 1) c n)) Q + sM (fun c => lA (lvs C cl nu cs Y k c (n + 1))) N = lA Λ ∧
  S + sM (fun c => lS (lvs C cl nu cs Y (k + 1) c n)) Q + sM (fun c => lS (lvs C cl nu cs Y k c (n + 1))) N = lS Λ ∧
  max X (max (mX (fun c => lX (lvs C cl nu cs Y (k + 1) c n)) Q) (mX (fun c => lX (lvs C cl nu cs Y k c (n + 1))) N)) = lX Λ ∧
  max D (max (mX (fun c => lD (lvs C cl nu cs Y (k + 1) c n)) Q) (mX (fun c => lD (lvs C cl nu cs Y k c (n + 1))) N)) = lD Λ ∧
  ((lg = true ∨ aP (fun c => lK 2 (lvs C cl nu cs Y (k + 1) c n)) Q ∨ aP (fun c => lK 2 (lvs C cl nu cs Y k c (n + 1))) N) ↔ lK 2 Λ) ∧
  ((wd = true ∨ aP (fun c => lK 3 (lvs C cl nu cs Y (k + 1) c n)) Q ∨ aP (fun c => lK 3 (lvs C cl nu cs Y k c (n + 1))) N) ↔ lK 3 Λ) ∧
  (∀ a, a < 100 → G a + sW (fun c => lG (nz a) (lvs C cl nu cs Y (k + 1) c n)) Q + sW (fun c => lG (nz a) (lvs C cl nu cs Y k c (n + 1))) N = lG (nz a) Λ) ∧
  sM g3 Q + sM g3 N ≤ 2187
theorem aP_cons {P : Cfg → Prop} {e : En} {L : List En} : aP P (e :: L) ↔ P e.2.1 ∨ aP P L := by
  unfold aP
  constructor
  · rintro ⟨x, h1, h2⟩
    rcases List.mem_cons.mp h1 with q | q
    · rw [q] at h2; exact Or.inl h2
    · exact Or.inr ⟨x, q, h2⟩
  · rintro (h | ⟨x, h1, h2⟩)
    · exact ⟨e, List.mem_cons_self, h⟩
    · exact ⟨x, List.mem_cons_of_mem _ h1, h2⟩
theorem aP_nil {P : Cfg → Prop} : aP P [] ↔ False := by simp [aP]
theorem cPo_st {Λ : List Lf} {k n A S X D s w m : Nat} {lg wd lg' wd' : Bool} {G : Nat → Nat} {c : Cfg} {Q N N' : List En} (hd : c.2.2.1 ≤ 7) (h : cPo C cl nu cs Y Λ k n A S X D lg wd G ((s, c, w, m) :: Q) N) (ha : adLs (stS C cl nu cs c n w m) N N') (h2 : lg' = true ↔ lg = true ∨ lK 2 (stH C cl nu Y c n)) (h3 : wd' = true ↔ wd = true ∨ lK 3 (stH C cl nu Y c n)) :
    cPo C cl nu cs Y Λ k n (A + m * lA (stH C cl nu Y c n)) (S + m * lS (stH C cl nu Y c n)) (max X (lX (stH C cl nu Y c n))) (max D (lD (stH C cl nu Y c n))) lg' wd' (fun a => G a + w * lG (nz a) (stH C cl nu Y c n)) Q N' := by
  obtain ⟨p1, p2, p3, p4, p5, p6, p7, p8⟩ := h
  obtain ⟨i1, i2, i3, i4, i5, i6⟩ := stG_s C cl nu cs Y k n (stS C cl nu cs c n 1 1) (stS_1 C cl nu cs c n 1 1)
  have e := lvs_st C cl nu cs Y k c n
  have hm : ∀ g, sE g (stS C cl nu cs c n w m) = w * sE g (stS C cl nu cs c n 1 1) ∧ sF g (stS C cl nu cs c n w m) = m * sF g (stS C cl nu cs c n 1 1) ∧ sX g (stS C cl nu cs c n w m) = sX g (stS C cl nu cs c n 1 1) := fun g => by
    rw [stS_wm]; exact swm_1 g _
  have hmem : ∀ (P : Cfg → Prop), (∃ e ∈ stS C cl nu cs c n w m, P e.1) ↔ ∃ e ∈ stS C cl nu cs c n 1 1, P e.1 := by
    intro P
    rw [stS_wm]
    unfold swm
    constructor
    · rintro ⟨x, h1, h2⟩
      obtain ⟨y, y1, rfl⟩ := List.mem_map.mp h1
      exact ⟨y, y1, h2⟩
    · rintro ⟨x, h1, h2⟩
      exact ⟨_, List.mem_map.mpr ⟨x, h1, rfl⟩, h2⟩
  refine ⟨?_, ?_, ?_, ?_, ?_, ?_, fun a ha' => ?_, ?_⟩
  · rw [adLs_M _ ha, (hm _).2.1, ← i1, ← p1]
    simp only [sM]
    rw [e, lA_app, Nat.mul_add]; omega
  · rw [adLs_M _ ha, (hm _).2.1, ← i2, ← p2]
    simp only [sM]
    rw [e, lS_app, Nat.mul_add]; omega
  · rw [adLs_X _ ha, (hm _).2.2, ← i3, ← p3]
    simp only [mX]
    rw [e, lX_app]; omega
  · rw [adLs_X _ ha, (hm _).2.2, ← i4, ← p4]
    simp only [mX]
    rw [e, lD_app]; omega
  · rw [adLs_P _ ha, hmem (fun c => lK 2 (lvs C cl nu cs Y k c (n + 1))), ← i6, ← p5, aP_cons, h2]
    simp only
    rw [e, lK_app]
    constructor
    · rintro ((q | q) | q | q | q)
      · exact Or.inl q
      · exact Or.inr (Or.inl (Or.inl (Or.inl q)))
      · exact Or.inr (Or.inl (Or.inr q))
      · exact Or.inr (Or.inr q)
      · exact Or.inr (Or.inl (Or.inl (Or.inr q)))
    · rintro (q | ((q | q) | q) | q)
      · exact Or.inl (Or.inl q)
      · exact Or.inl (Or.inr q)
      · exact Or.inr (Or.inr (Or.inr q))
      · exact Or.inr (Or.inl q)
      · exact Or.inr (Or.inr (Or.inl q))
  · rw [adLs_P _ ha, hmem (fun c => lK 3 (lvs C cl nu cs Y k c (n + 1))), ← i6, ← p6, aP_cons, h3]
    simp only
    rw [e, lK_app]
    constructor
    · rintro ((q | q) | q | q | q)
      · exact Or.inl q
      · exact Or.inr (Or.inl (Or.inl (Or.inl q)))
      · exact Or.inr (Or.inl (Or.inr q))
      · exact Or.inr (Or.inr q)
      · exact Or.inr (Or.inl (Or.inl (Or.inr q)))
    · rintro (q | ((q | q) | q) | q)
      · exact Or.inl (Or.inl q)
      · exact Or.inl (Or.inr q)
      · exact Or.inr (Or.inr (Or.inr q))
      · exact Or.inr (Or.inl q)
      · exact Or.inr (Or.inr (Or.inl q))
  · rw [adLs_W _ ha, (hm _).1, ← i5, ← p7 a ha']
    simp only [sW]
    rw [e, lG_app, Nat.mul_add]; omega
  · rw [adLs_M _ ha]
    have := stS_3 C cl nu cs c n m w hd
    simp only [sM] at p8
    omega
/-- over to the next layer -/
theorem cPo_nx {Λ : List Lf} {k n A S X D : Nat} {lg wd : Bool} {G : Nat → Nat} {N : List En} (h : cPo C cl nu cs Y Λ (k + 1) n A S X D lg wd G [] N) : cPo C cl nu cs Y Λ k (n + 1) A S X D lg wd G N [] := by
  obtain ⟨p1, p2, p3, p4, p5, p6, p7, p8⟩ := h
  refine ⟨?_, ?_, ?_, ?_, ?_, ?_, fun a ha => ?_, ?_⟩
  · rw [← p1]; simp only [sM]; omega
  · rw [← p2]; simp only [sM]; omega
  · rw [← p3]; simp only [mX]; omega
  · rw [← p4]; simp only [mX]; omega
  · rw [← p5, aP_nil, aP_nil, or_false, false_or]
  · rw [← p6, aP_nil, aP_nil, or_false, false_or]
  · rw [← p7 a ha]; simp only [sW]; omega
  · simp only [sM] at p8 ⊢; omega
theorem cPo_end {Λ : List Lf} {k n A S X D : Nat} {lg wd : Bool} {G : Nat → Nat} (h : cPo C cl nu cs Y Λ k n A S X D lg wd G [] []) : A = lA Λ ∧ S = lS Λ ∧ X = lX Λ ∧ D = lD Λ ∧ (lg = true ↔ lK 2 Λ) ∧ (wd = true ↔ lK 3 Λ) ∧ ∀ a, a < 100 → G a = lG (nz a) Λ := by
  obtain ⟨p1, p2, p3, p4, p5, p6, p7, p8⟩ := h
  simp only [sM, mX, sW, aP_nil, or_false, Nat.add_zero] at p1 p2 p3 p4 p5 p6 p7
  exact ⟨p1, p2, by omega, by omega, p5, p6, p7⟩
end
