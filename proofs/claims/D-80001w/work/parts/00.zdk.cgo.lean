set_option maxRecDepth 100000
/-! ===== THE COMPONENT: all runs ===== -/
/-- what all of it changes -/
def fGo (σ σ' : cS) : Prop := (∀ o j, ¬ (o = 74 ∧ j ≤ 8) → σ'.2.2 o j = σ.2.2 o j) ∧ (∀ o j, o < 75 ∨ 86 < o → σ'.2.1 o j = σ.2.1 o j) ∧ (∀ o j, o < 74 ∨ 84 < o → σ'.1 o j = σ.1 o j)
theorem fGo.rf {σ : cS} : fGo σ σ := ⟨fun _ _ _ => rfl, fun _ _ _ => rfl, fun _ _ _ => rfl⟩
theorem fGo.tr {σ σ1 σ2 : cS} (h : fGo σ σ1) (h' : fGo σ1 σ2) : fGo σ σ2 := ⟨fun o j a => (h'.1 o j a).trans (h.1 o j a), fun o j a => (h'.2.1 o j a).trans (h.2.1 o j a), fun o j a => (h'.2.2 o j a).trans (h.2.2 o j a)⟩
theorem fGo.q {σ σ' : cS} (h : fGo σ σ') : fQ σ σ' := fun o j ho => h.2.2 o j (by omega)
theorem fGo_S {kb wb mb pb : Nat} {σ σ' : cS} (hB : arr kb wb mb pb) (h : fSe kb wb mb pb σ σ') : fGo σ σ' := by
  refine ⟨fun o j _ => by rw [h.1], fun o j ho => ?_, fun o j ho => ?_⟩
  · rcases hB with ⟨rfl, rfl, rfl, rfl⟩ | ⟨rfl, rfl, rfl, rfl⟩ <;> exact h.2.1 _ _ (by omega) (by omega) (by omega)
  · rcases hB with ⟨rfl, rfl, rfl, rfl⟩ | ⟨rfl, rfl, rfl, rfl⟩ <;> exact h.2.2 _ _ (by omega) (by omega) (by omega) (by omega) (by omega)
theorem fGo_T {σ σ' : cS} (h : fTu σ σ') : fGo σ σ' := ⟨h.1, fun o j ho => h.2.1 o j (by omega) (by omega), fun o j ho => h.2.2 o j (by omega)⟩
theorem cCh_G {σ σ' : cS} {cs : Nat → Int32} (h : cCh σ cs) (hf : fGo σ σ') : cCh σ' cs := fun k hk => by
  obtain ⟨h1, h2⟩ := h k hk
  exact ⟨by rw [← h1]; exact hf.2.2 _ _ (by omega), h2⟩
theorem cRs_T {σ σ' : cS} {A S X D : Nat} {lg wd : Bool} {G : Nat → Nat} (hs : cRs σ A S X D lg wd G) (hf : fTu σ σ') : cRs σ' A S X D lg wd G := by
  obtain ⟨s1, s2, s3, s4, s5, s6, s7, s8, s9⟩ := hs
  exact ⟨(hf.2.2 _ _ (by omega)).trans s1, (hf.2.2 _ _ (by omega)).trans s2, (hf.2.2 _ _ (by omega)).trans s3, (hf.2.2 _ _ (by omega)).trans s4, (hf.2.2 _ _ (by omega)).trans s5, (hf.2.2 _ _ (by omega)).trans s6, s7, s8, fun a ha => (hf.2.1 _ _ (by omega) (by omega)).trans (s9 a ha)⟩
/-- places lie in the code -/
def pcO (C : List Cd) (L : List En) : Prop := ∀ e ∈ L, e.2.1.1 ≤ C.length
theorem adL_pc {C : List Cd} {L L' : List En} {c : Cfg} {w m : Nat} (h : adL L c w m L') (hc : c.1 ≤ C.length) (hL : pcO C L) : pcO C L' := by
  rcases h with ⟨A, B, s, w0, m0, rfl, rfl⟩ | ⟨s, rfl⟩
  · intro e he
    rcases List.mem_append.mp he with q | q
    · exact hL e (List.mem_append_left _ q)
    · rcases List.mem_cons.mp q with q | q
      · rw [q]; exact hc
      · exact hL e (List.mem_append_right _ (List.mem_cons_of_mem _ q))
  · intro e he
    rcases List.mem_append.mp he with q | q
    · exact hL e q
    · simp at q; rw [q]; exact hc
theorem adLs_pc {C : List Cd} (A : List (Cfg × Nat × Nat)) : ∀ {L L' : List En}, adLs A L L' → (∀ e ∈ A, e.1.1 ≤ C.length) → pcO C L → pcO C L' := by
  induction A with
  | nil => intro L L' h _ hL; cases h; exact hL
  | cons e A ih =>
    intro L L' h hA hL
    obtain ⟨X, x1, x2⟩ := h
    exact ih x2 (fun x hx => hA x (List.mem_cons_of_mem _ hx)) (adL_pc x1 (hA e List.mem_cons_self) hL)
section
variable {o : Nat} {C : List Cd} {ch : List Int32} {Y : List Sy} {F : List Fn} {R : List Int32} {ka wa ma pa kb wb mb pb : Nat} {cs : Nat → Int32}
/-- all entries of a layer -/
theorem cGo76 (hA : ar2 ka wa ma pa kb wb mb pb) {Λ : List Lf} {k n : Nat} (hn : n ≤ 60) {K : Int32 → cS → Option (Int32 × cS)} {L : List En} (hpc : pcO C L) (hmp : mP L) (hl : L.length ≤ 4096) : ∀ (Q P N : List En) (f : Nat) (σ : cS) (A S X D : Nat) (lg wd : Bool) (G : Nat → Nat), L = P ++ Q → Q.length < f → cQn σ o C ch Y F R → cCh σ cs → cCu σ ka wa ma pa → cNx σ kb wb mb pb → cLy σ ka wa ma pa L → cLy σ kb wb mb pb N → σ.1 74 4 = nz L.length → σ.1 74 9 = nz N.length → pcO C N → mP N → (n = 60 → N = []) → cRs σ A S X D lg wd G → cPo C (clf F (fv F (nuf R)) F.length) (nuf R) cs Y Λ k n A S X D lg wd G Q N →
    ∃ σ' N' A' S' X' D' lg' wd' G', fX6_go_76 o K f (nz n) (nz P.length) σ = bd (fX6_turn σ') (fun _ σ1 => K (nz (n + 1)) σ1) ∧ fGo σ σ' ∧ cQn σ' o C ch Y F R ∧ cCh σ' cs ∧ cCu σ' ka wa ma pa ∧ cNx σ' kb wb mb pb ∧ cLy σ' ka wa ma pa L ∧ cLy σ' kb wb mb pb N' ∧ σ'.1 74 4 = nz L.length ∧ σ'.1 74 9 = nz N'.length ∧ pcO C N' ∧ mP N' ∧ (n = 60 → N' = []) ∧ cRs σ' A' S' X' D' lg' wd' G' ∧ cPo C (clf F (fv F (nuf R)) F.length) (nuf R) cs Y Λ k n A' S' X' D' lg' wd' G' [] N' := by
  obtain ⟨l1, l2, l3, l4⟩ := arr_la hA.a
  intro Q
  induction Q with
  | nil =>
    intro P N f σ A S X D lg wd G hL hf hq hch hC hN hLa hLb h4 h9 p1 p2 p3 hs hp
    obtain ⟨f, rfl⟩ : ∃ e, f = e + 1 := ⟨f - 1, by omega⟩
    rw [List.append_nil] at hL
    refine ⟨σ, N, A, S, X, D, lg, wd, G, ?_, fGo.rf, hq, hch, hC, hN, hLa, hLb, h4, h9, p1, p2, p3, hs, hp⟩
    conv => lhs; unfold fX6_go_76
    rw [h4, hL, if_pos (by rw [nz_le (by rw [← hL]; omega) (by rw [← hL]; omega)]; omega), nz_s]
  | cons e Q ih =>
    intro P N f σ A S X D lg wd G hL hf hq hch hC hN hLa hLb h4 h9 p1 p2 p3 hs hp
    obtain ⟨f, rfl⟩ : ∃ e, f = e + 1 := ⟨f - 1, by omega⟩
    have hLl : L.length = P.length + Q.length + 1 := by rw [hL, List.length_append, List.length_cons]; omega
    have hget : L[P.length]? = some e := by rw [hL, List.getElem?_append_right (Nat.le_refl _), Nat.sub_self]; rfl
    have hmem := List.mem_of_getElem? hget
    have he := hLa.1 P.length e hget
    have hN3 : N.length ≤ 2187 := by
      have := g3_len N p2
      have := hp.2.2.2.2.2.2.2
      omega
    obtain ⟨s, c, w, m⟩ := e
    have hcf := (hLa.2.1 _ hmem).2.2.2.2
    simp only at hcf
    obtain ⟨σ1, N1, lg1, wd1, g1, g2, g3, g4, g5, g6, g7, g8, g9⟩ := cStep hA hq hch hC hN hLa hLb h9 (by omega) hmem (hpc _ hmem) hn hs
    have FG := fGo_S hA.b g2
    have hm1 : 1 ≤ m := hmp _ hmem
    have e4 : σ1.1 74 4 = nz L.length := by
      rw [← h4]
      rcases hA.b with ⟨rfl, rfl, rfl, rfl⟩ | ⟨rfl, rfl, rfl, rfl⟩ <;> exact g2.2.2 _ _ (by decide) (by decide) (by decide) (by decide) (by omega)
    obtain ⟨σ', N', A', S', X', D', lg', wd', G', i1, i2, i3⟩ := ih (P ++ [(s, c, w, m)]) N1 f σ1 _ _ _ _ _ _ _ (by rw [hL]; simp) (by simp only [List.length_cons] at hf; omega) (cQn_Q hq FG.q) (cCh_G hch FG) (cCu_f hC g2.1) (cNx_f hN g2.1) (cLy_Se hA hLa g2) g4 e4 g5 (adLs_pc _ g3 g9 p1) (adLs_mP _ g3 (fun x hx => by rw [stS_1 _ _ _ _ _ _ _ _ x hx]; exact hm1) p2) (fun h60 => by
      have : stS C (clf F (fv F (nuf R)) F.length) (nuf R) cs c n w m = [] := by
        unfold stS
        split
        · rfl
        · rfl
      rw [this] at g3
      exact g3.trans (p3 h60)) g6 (cPo_st C _ _ cs Y hcf.2.1 hp g3 g7 g8)
    refine ⟨σ', N', A', S', X', D', lg', wd', G', ?_, FG.tr i2, i3⟩
    conv => lhs; unfold fX6_go_76
    rw [h4, if_neg (by rw [nz_le (by omega) (by omega)]; omega), hC.2.2.2]
    show (ck (decide (cpLa pa = (2, 4096))) _) = _
    rw [ck_d l4, ck_n (show P.length < 4096 by omega) (by omega), nz_tn (by omega), he, g1, bd_s, nz_s]
    rw [List.length_append] at i1
    exact i1
/-- the answer of all runs -/
def ans (lg wd : Bool) : Int32 := if lg = true then 5 else if wd = true then 6 else 0
/-- the engine stands ready -/
def cRy (σ : cS) : Prop := ∃ ka wa ma pa kb wb mb pb, ar2 ka wa ma pa kb wb mb pb ∧ cCu σ ka wa ma pa ∧ cNx σ kb wb mb pb ∧ cLy σ ka wa ma pa [] ∧ cLy σ kb wb mb pb [] ∧ σ.1 74 4 = nz 0 ∧ σ.1 74 9 = nz 0
/-- what all runs came to -/
def cDn (σ : cS) (Λ : List Lf) (lg wd : Bool) : Prop := cRs σ (lA Λ) (lS Λ) (lX Λ) (lD Λ) lg wd (fun a => lG (nz a) Λ) ∧ (lg = true ↔ lK 2 Λ) ∧ (wd = true ↔ lK 3 Λ)
theorem ar2.s (h : ar2 ka wa ma pa kb wb mb pb) : ar2 kb wb mb pb ka wa ma pa := by
  rcases h with ⟨rfl, rfl, rfl, rfl, rfl, rfl, rfl, rfl⟩ | ⟨rfl, rfl, rfl, rfl, rfl, rfl, rfl, rfl⟩
  · exact Or.inr ⟨rfl, rfl, rfl, rfl, rfl, rfl, rfl, rfl⟩
  · exact Or.inl ⟨rfl, rfl, rfl, rfl, rfl, rfl, rfl, rfl⟩
theorem cGo67e {Λ : List Lf} {k n : Nat} (hA : ar2 ka wa ma pa kb wb mb pb) {f : Nat} (hf : 0 < f) {x : Int32} {σ : cS} {A S X D : Nat} {lg wd : Bool} {G : Nat → Nat} (hC : cCu σ ka wa ma pa) (hN : cNx σ kb wb mb pb) (hLa : cLy σ ka wa ma pa []) (hLb : cLy σ kb wb mb pb []) (h4 : σ.1 74 4 = nz 0) (h9 : σ.1 74 9 = nz 0) (hs : cRs σ A S X D lg wd G) (hp : cPo C (clf F (fv F (nuf R)) F.length) (nuf R) cs Y Λ k n A S X D lg wd G [] []) :
    fX6_go_67 o f x σ = some (ans lg wd, σ) ∧ cRy σ ∧ cDn σ Λ lg wd := by
  obtain ⟨f, rfl⟩ : ∃ e, f = e + 1 := ⟨f - 1, by omega⟩
  obtain ⟨e1, e2, e3, e4, e5, e6, e7⟩ := cPo_end C _ _ cs Y hp
  refine ⟨?_, ⟨ka, wa, ma, pa, kb, wb, mb, pb, hA, hC, hN, hLa, hLb, h4, h9⟩, ?_, e5, e6⟩
  · unfold fX6_go_67
    rw [h4, if_pos (by decide), hs.2.2.2.2.1, hs.2.2.2.2.2.1]
    unfold ans
    cases lg <;> cases wd <;> rfl
  · obtain ⟨s1, s2, s3, s4, s5, s6, s7, s8, s9⟩ := hs
    rw [← e1, ← e2, ← e3, ← e4]
    exact ⟨s1, s2, s3, s4, s5, s6, s7, s8, fun a ha => by rw [s9 a ha, e7 a ha]⟩
theorem cGo67 {Λ : List Lf} : ∀ (k n f : Nat) (ka wa ma pa kb wb mb pb : Nat) (σ : cS) (L : List En) (A S X D : Nat) (lg wd : Bool) (G : Nat → Nat), ar2 ka wa ma pa kb wb mb pb → n + k = 60 → k + 1 < f → cQn σ o C ch Y F R → cCh σ cs → cCu σ ka wa ma pa → cNx σ kb wb mb pb → cLy σ ka wa ma pa L → cLy σ kb wb mb pb [] → σ.1 74 4 = nz L.length → σ.1 74 9 = nz 0 → pcO C L → mP L → cRs σ A S X D lg wd G → cPo C (clf F (fv F (nuf R)) F.length) (nuf R) cs Y Λ k n A S X D lg wd G L [] →
    ∃ σ' lg' wd', fX6_go_67 o f (nz n) σ = some (ans lg' wd', σ') ∧ fGo σ σ' ∧ cRy σ' ∧ cDn σ' Λ lg' wd' := by
  intro k
  induction k with
  | zero =>
    intro n f ka wa ma pa kb wb mb pb σ L A S X D lg wd G hA hk hf hq hch hC hN hLa hLb h4 h9 p1 p2 hs hp
    have hL3 : L.length ≤ 2187 := by
      have := g3_len L p2
      have := hp.2.2.2.2.2.2.2
      omega
    by_cases h0 : L = []
    · subst h0
      obtain ⟨a1, a2, a3⟩ := cGo67e (o := o) hA (f := f) (by omega) (x := nz n) hC hN hLa hLb h4 h9 hs hp
      exact ⟨σ, lg, wd, a1, fGo.rf, a2, a3⟩
    · have hpos := List.length_pos_iff.mpr h0
      obtain ⟨f, rfl⟩ : ∃ e, f = e + 1 := ⟨f - 1, by omega⟩
      obtain ⟨σ1, N, A1, S1, X1, D1, lg1, wd1, G1, i1, i2, i3, i4, i5, i6, i7, i8, i9, j1, j2, j3, j4, j5, j6⟩ := cGo76 (o := o) (K := fX6_go_67 o f) hA (by omega) p1 p2 (by omega) L [] [] FU σ A S X D lg wd G rfl (by unfold FU; omega) hq hch hC hN hLa hLb h4 h9 (fun e he => by cases he) (fun e he => by cases he) (fun _ => rfl) hs hp
      have hN0 := j4 (by omega)
      subst hN0
      obtain ⟨σ2, t1, t2, t3, t4, t5, t6, t7, t8⟩ := cTurn hA i5 i6 i7 i8 i9 (by omega) j1
      obtain ⟨a1, a2, a3⟩ := cGo67e (o := o) hA.s (f := f) (by omega) (x := nz (n + 1)) t3 t4 t5 t6 t7 t8 (cRs_T j5 t2) j6
      refine ⟨σ2, lg1, wd1, ?_, i2.tr (fGo_T t2), a2, a3⟩
      conv => lhs; unfold fX6_go_67
      rw [h4, if_neg (by rw [nz_le0 (by omega)]; omega)]
      have i1' : fX6_go_76 o (fX6_go_67 o f) FU (nz n) 0 σ = _ := i1
      rw [i1', t1, bd_s]
      exact a1
  | succ k ih =>
    intro n f ka wa ma pa kb wb mb pb σ L A S X D lg wd G hA hk hf hq hch hC hN hLa hLb h4 h9 p1 p2 hs hp
    have hL3 : L.length ≤ 2187 := by
      have := g3_len L p2
      have := hp.2.2.2.2.2.2.2
      omega
    by_cases h0 : L = []
    · subst h0
      obtain ⟨a1, a2, a3⟩ := cGo67e (o := o) hA (f := f) (by omega) (x := nz n) hC hN hLa hLb h4 h9 hs hp
      exact ⟨σ, lg, wd, a1, fGo.rf, a2, a3⟩
    · have hpos := List.length_pos_iff.mpr h0
      obtain ⟨f, rfl⟩ : ∃ e, f = e + 1 := ⟨f - 1, by omega⟩
      obtain ⟨σ1, N, A1, S1, X1, D1, lg1, wd1, G1, i1, i2, i3, i4, i5, i6, i7, i8, i9, j1, j2, j3, j4, j5, j6⟩ := cGo76 (o := o) (K := fX6_go_67 o f) hA (by omega) p1 p2 (by omega) L [] [] FU σ A S X D lg wd G rfl (by unfold FU; omega) hq hch hC hN hLa hLb h4 h9 (fun e he => by cases he) (fun e he => by cases he) (fun _ => rfl) hs hp
      obtain ⟨σ2, t1, t2, t3, t4, t5, t6, t7, t8⟩ := cTurn hA i5 i6 i7 i8 i9 (by omega) j1
      obtain ⟨σ', lg', wd', a1, a2, a3⟩ := ih (n + 1) f _ _ _ _ _ _ _ _ σ2 N A1 S1 X1 D1 lg1 wd1 G1 hA.s (by omega) (by omega) (cQn_Q i3 (fGo_T t2).q) (cCh_G i4 (fGo_T t2)) t3 t4 t5 t6 t7 t8 j2 j3 (cRs_T j5 t2) (cPo_nx C _ _ cs Y j6)
      refine ⟨σ', lg', wd', ?_, (i2.tr (fGo_T t2)).tr a2, a3⟩
      conv => lhs; unfold fX6_go_67
      rw [h4, if_neg (by rw [nz_le0 (by omega)]; omega)]
      have i1' : fX6_go_76 o (fX6_go_67 o f) FU (nz n) 0 σ = _ := i1
      rw [i1', t1, bd_s]
      exact a1
end
