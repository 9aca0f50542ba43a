set_option maxRecDepth 100000
section
variable {n : Nat} {tx : Nat → Int32}
theorem GB_app {i0 : Nat} {w0 : Option Nat} {st0 cb : Nat} {ch0 : List Int32} {a q : ST} (h : GB n tx i0 w0 st0 cb ch0 a) (h' : GB n tx a.1 a.2.1 a.2.2.1 (cb + a.2.2.2.1.length) a.2.2.2.2.1 q) :
    GB n tx i0 w0 st0 cb ch0 (q.1, q.2.1, q.2.2.1, a.2.2.2.1 ++ q.2.2.2.1, q.2.2.2.2.1, a.2.2.2.2.2 ++ q.2.2.2.2.2) := by
  obtain ⟨a1, a2, a3, a4, a5, a6, a7, a8, a9, a10, a11, ⟨ax, a12⟩, a13⟩ := h
  obtain ⟨b1, b2, b3, b4, b5, b6, b7, b8, b9, b10, b11, ⟨bx, b12⟩, b13⟩ := h'
  refine ⟨by simp only; omega, b2, by simp only; omega, by simp only [List.length_append]; omega, by simp only [psz_app]; omega, by simp only [List.length_append]; omega, by simp only; omega, a8.tr b8, ?_, GJ_app a10 b10, fun x => b11 (a11 x), ⟨ax ++ bx, by simp only [b12, a12, List.append_assoc]⟩, fun hn => ?_⟩
  · intro c hc
    simp only [List.mem_append] at hc
    exact hc.elim (a9 c) (b9 c)
  · obtain ⟨c1, c2, c3⟩ := b13 hn
    obtain ⟨d1, d2, d3⟩ := a13 (b8.2 hn)
    refine ⟨?_, fun x => c2 (d2 x), fun x => c3 (d3 x)⟩
    intro c hc
    simp only [List.mem_append] at hc
    rcases hc with hc | hc
    · have := d1 c hc
      simp only [b12]
      exact cdW_mono this
    · exact c1 c hc
theorem pBlp_facts {R : Nat → Nat → Option Nat → Nat → Nat → List Int32 → SR} {dep i0 : Nat} {w0 : Option Nat} {st0 cb : Nat} {ch0 : List Int32} (hR : ∀ dep i w st cb ch q, i ≤ n → R dep i w st cb ch = .ok q → GS n tx i w st cb ch q) :
    ∀ (k i : Nat) (w : Option Nat) (st : Nat) (C : List Cd) (ch r : List Int32) (q : ST), GB n tx i0 w0 st0 cb ch0 (i, w, st, C, ch, r) → pBlp n tx R dep k i w st cb C ch r = .ok q → GB n tx i0 w0 st0 cb ch0 q := by
  intro k
  induction k with
  | zero => intro i w st C ch r q _ h; cases h
  | succ k ih =>
    intro i w st C ch r q hB h
    have hle : i ≤ n := hB.2.1
    have hsg := sk_ge (n := n) (tx := tx) i
    have hsl := sk_le (n := n) (tx := tx) hle
    have hsn := nbr_sk (n := n) (tx := tx) i
    unfold pBlp at h
    split at h
    · next hc =>
      obtain ⟨h1, h2⟩ := pkc_lt hc (by decide)
      have htk := nbr_tk h1
      cases h
      obtain ⟨a1, a2, a3, a4, a5, a6, a7, a8, a9, a10, a11, a12, a13⟩ := hB
      simp only at a1 a2 a3 a4 a5 a6 a7 a8 a9 a10 a11 a12 a13
      refine ⟨by simp only; omega, by simp only; omega, a3, a4, by simp only; omega, by simp only [List.length_append, List.length_cons, List.length_nil]; omega, by simp only; omega, a8, a9, a10, a11, a12, a13⟩
    · obtain ⟨q1, e1, e2⟩ := eb_ok h
      obtain ⟨g1, g2⟩ := hR _ _ _ _ _ _ _ hsl e1
      refine ih _ _ _ _ _ _ _ ?_ e2
      refine GB_app (a := (i, w, st, C, ch, r)) hB ?_
      obtain ⟨b1, b2, b3, b4, b5, b6, b7, b8, b9, b10, b11, b12, b13⟩ := g1
      exact ⟨by simp only; omega, b2, b3, b4, by simp only; omega, by simp only; omega, by simp only; omega, b8, b9, b10, b11, b12, b13⟩
theorem pS_facts : ∀ d, (∀ dep i w st cb ch q, i ≤ n → (pS n tx d).1 dep i w st cb ch = .ok q → GS n tx i w st cb ch q) ∧ (∀ dep i w st cb ch q, i ≤ n → (pS n tx d).2 dep i w st cb ch = .ok q → GB n tx i w st cb ch q) := by
  intro d
  induction d with
  | zero => exact ⟨fun _ _ _ _ _ _ _ _ h => (by cases h), fun _ _ _ _ _ _ _ _ h => (by cases h)⟩
  | succ d ih =>
    obtain ⟨ihS, ihB⟩ := ih
    refine ⟨?_, ?_⟩
    · intro dep i w st cb ch q hi h
      have h : pSt n tx (pS n tx d).2 dep i w st cb ch = .ok q := h
      have hsg := sk_ge (n := n) (tx := tx) i
      have hsn := nbr_sk (n := n) (tx := tx) i
      unfold pSt at h
      split at h
      · next hc =>
        obtain ⟨a, ha1, ha2, ea⟩ := isI_lo7 (a := 97) (b := 102) hc (by omega) (by omega)
        obtain ⟨hlt, etx⟩ := pkc_ne (n := n) (tx := tx) (i := i) (by rw [ea]; exact nz_m1 (by omega))
        have htk := nbr_tk hlt
        have hv : vV (pk n tx i - 97) := ⟨a - 97, by omega, by rw [ea]; exact nz_sub (b := 97) ha1⟩
        obtain ⟨f1, f2, f3, f4, f5, f6, f7, f8, f9, f10, f11, f12, f13⟩ := pAs_facts (cb := cb) hv hlt (by rw [hsn]; exact htk) h
        refine ⟨⟨by omega, f2, by omega, by omega, by omega, by omega, by omega, (wTo_ntb hlt).tr f8, f9, f10, f11, f12, fun hn => ?_⟩, by omega, fun hn => ?_, fun q => by rw [q] at f4; cases f4⟩
        · have := (ntb_none (f8.2 hn)).2
          simp at this
          exact ⟨(f13 hn).1, (f13 hn).2, fun _ => by omega⟩
        · have := (ntb_none (f8.2 hn)).2
          simp at this
          omega
      · split at h
        · next hc =>
          obtain ⟨hlt, etx⟩ := pkc_lt hc (by decide)
          have htk := nbr_tk hlt
          obtain ⟨a, e1, h⟩ := eb_ok h
          obtain ⟨b, e2, h⟩ := eb_ok h
          obtain ⟨f1, f2, f3, f4, f5, f6⟩ := pSum_facts (by omega) e1
          obtain ⟨g1, g2, g3, g4, g5, g6⟩ := pTk_ok (by decide) e2
          cases h
          have hst : a.2.1 = none → st + 1 ≤ 40 := by
            intro hn
            have := (ntb_none (f5.2 hn)).2
            simp at this
            omega
          refine ⟨⟨by simp only; omega, g5, by simp only; omega, by simp only [List.length_cons, List.length_nil]; omega, by simp only [psz]; omega, by simp only [List.length_append, List.length_cons, List.length_nil]; omega, by simp only; omega, (wTo_ntb hlt).tr f5, ?_, GJ_one (by simp only; decide) (by simp only; decide), fun x => x, ⟨[], by simp⟩, fun hn => ⟨?_, fun x => x, fun _ => hst hn⟩⟩, by simp only; omega, hst, by simp⟩
          · intro c hc
            simp only [List.mem_cons, List.not_mem_nil, or_false] at hc
            subst hc
            exact Or.inr (Or.inr (Or.inr (Or.inl ⟨rfl, rfl, _, _, f4⟩)))
          · intro c hc
            simp only [List.mem_cons, List.not_mem_nil, or_false] at hc
            subst hc
            exact ⟨fun x => absurd x (by simp only; decide), fun x => absurd x (by simp only; decide)⟩
        · split at h
          · next hc =>
            obtain ⟨hlt, etx⟩ := pkc_lt hc (by decide)
            have htk := nbr_tk hlt
            obtain ⟨a, e1, h⟩ := eb_ok h
            obtain ⟨b, e2, h⟩ := eb_ok h
            obtain ⟨f1, f2, f3, f4, f5, f6⟩ := pSum_facts (by omega) e1
            obtain ⟨b1, b2, b3, b4, b5, b6, b7, b8, b9, b10, b11, b12, b13⟩ := ihB _ _ _ _ _ _ _ f2 e2
            cases h
            have hst : b.2.1 = none → st + 1 ≤ 40 := by
              intro hn
              have := (ntb_none (f5.2 (b8.2 hn))).2
              simp at this
              omega
            refine ⟨⟨by simp only; omega, b2, by simp only; omega, by simp only [List.length_append, List.length_cons, List.length_nil]; omega, by simp only [psz, psz_app, List.length_nil]; omega, by simp only [List.length_append, List.length_cons]; omega, by simp only; omega, ((wTo_ntb hlt).tr f5).tr b8, ?_, ?_, b11, b12, fun hn => ⟨?_, (b13 hn).2.1, fun _ => (b13 hn).2.2 (hst hn)⟩⟩, by simp only; omega, fun hn => (b13 hn).2.2 (hst hn), by simp⟩
            · intro c hc
              simp only [List.mem_cons, List.mem_append, List.not_mem_nil, or_false] at hc
              rcases hc with rfl | hc | rfl
              · exact Or.inr (Or.inr (Or.inr (Or.inr (Or.inl ⟨rfl, rfl, _, _, f4⟩))))
              · exact b9 c hc
              · exact Or.inr (Or.inr (Or.inr (Or.inr (Or.inr ⟨rfl, rfl, rfl⟩))))
            · intro k c hk
              by_cases hk2 : k = b.2.2.2.1.length + 1
              · subst hk2
                have hcc : c = (5, 0, [], 0, 0, nz cb) := by
                  simp only [List.getElem?_cons_succ] at hk
                  rw [List.getElem?_append_right (Nat.le_refl _)] at hk
                  simp at hk
                  exact hk.symm
                subst hcc
                refine ⟨fun x => absurd x (by simp only; decide), fun _ => ⟨cb, rfl, Or.inr ⟨Nat.le_refl _, by omega, (4, 0, a.2.2.2.2, 0, 0, nz (cb + 1 + b.2.2.2.1.length + 1)), by simp, rfl⟩⟩⟩
              · have hk3 : k < b.2.2.2.1.length + 1 := by
                  have := (List.getElem?_eq_some_iff.mp hk).1
                  simp at this
                  omega
                have hk4 : ((4, 0, a.2.2.2.2, 0, 0, nz (cb + 1 + b.2.2.2.1.length + 1)) :: b.2.2.2.1)[k]? = some c := by
                  rw [← List.cons_append] at hk
                  rwa [List.getElem?_append_left (by simpa using hk3)] at hk
                cases k with
                | zero =>
                  simp at hk4; subst hk4
                  exact ⟨fun _ => ⟨_, rfl, by omega, by simp; omega⟩, fun x => absurd x (by simp only; decide)⟩
                | succ k =>
                  simp only [List.getElem?_cons_succ] at hk4
                  obtain ⟨x1, x2⟩ := b10 k c hk4
                  refine ⟨fun x => ?_, fun x => ?_⟩
                  · obtain ⟨g, g1, g2, g3⟩ := x1 x
                    exact ⟨g, g1, by omega, by simp; omega⟩
                  · obtain ⟨g, g1, g2⟩ := x2 x
                    refine ⟨g, g1, ?_⟩
                    rcases g2 with ⟨g2, g3⟩ | ⟨g2, g3, e, g4, g5⟩
                    · exact Or.inl ⟨by omega, by simp; omega⟩
                    · refine Or.inr ⟨by omega, by omega, e, ?_, g5⟩
                      rw [show g - cb = (g - (cb + 1)) + 1 by omega]
                      simp only [List.getElem?_cons_succ]
                      rw [List.getElem?_append_left (by have := (List.getElem?_eq_some_iff.mp g4).1; omega)]
                      exact g4
            · intro c hc
              simp only [List.mem_cons, List.mem_append, List.not_mem_nil, or_false] at hc
              rcases hc with rfl | hc | rfl
              · exact ⟨fun x => absurd x (by simp only; decide), fun x => absurd x (by simp only; decide)⟩
              · exact (b13 hn).1 c hc
              · exact ⟨fun x => absurd x (by simp only; decide), fun x => absurd x (by simp only; decide)⟩
          · split at h
            · next hc =>
              obtain ⟨hlt, etx⟩ := pkc_lt hc (by decide)
              have htk := nbr_tk hlt
              obtain ⟨a, e1, h⟩ := eb_ok h
              obtain ⟨b, e2, h⟩ := eb_ok h
              obtain ⟨f1, f2, f3, f4, f5, f6⟩ := pSum_facts (by omega) e1
              obtain ⟨b1, b2, b3, b4, b5, b6, b7, b8, b9, b10, b11, ⟨bx, b12⟩, b13⟩ := ihB _ _ _ _ _ _ _ f2 e2
              have hst : b.2.1 = none → st + 1 ≤ 40 := by
                intro hn
                have := (ntb_none (f5.2 (b8.2 hn))).2
                simp at this
                omega
              have hbs := sk_ge (n := n) (tx := tx) b.1
              have hbl := sk_le (n := n) (tx := tx) b2
              have hbn := nbr_sk (n := n) (tx := tx) b.1
              split at h
              · obtain ⟨z, e3, h⟩ := eb_ok h
                obtain ⟨d1, d2, d3, d4, d5, d6, d7, d8, d9, d10, d11, ⟨dx, d12⟩, d13⟩ := ihB _ _ _ _ _ _ _ hbl e3
                cases h
                have hst2 : z.2.1 = none → z.2.2.1 ≤ 40 := fun hn => (d13 hn).2.2 ((b13 (d8.2 hn)).2.2 (hst (d8.2 hn)))
                refine ⟨⟨by simp only; omega, d2, by simp only; omega, by simp only [List.length_append, List.length_cons]; omega, by simp only [psz, psz_app, List.length_nil]; omega, by simp only [List.length_append, List.length_cons]; omega, by simp only; omega, (((wTo_ntb hlt).tr f5).tr b8).tr d8, ?_, ?_, fun x => d11 (b11 x), ⟨bx ++ dx, by simp only [d12, b12, List.append_assoc]⟩, fun hn => ⟨?_, fun x => (d13 hn).2.1 ((b13 (d8.2 hn)).2.1 x), fun _ => hst2 hn⟩⟩, by simp only; omega, hst2, by simp⟩
                · intro c hc
                  simp only [List.mem_cons, List.mem_append] at hc
                  rcases hc with rfl | hc | rfl | hc
                  · exact Or.inr (Or.inr (Or.inr (Or.inr (Or.inl ⟨rfl, rfl, _, _, f4⟩))))
                  · exact b9 c hc
                  · exact Or.inr (Or.inr (Or.inr (Or.inr (Or.inr ⟨rfl, rfl, rfl⟩))))
                  · exact d9 c hc
                · refine GJ_test rfl rfl (by omega) (by simp; omega) (GJ_app b10 ?_)
                  have hone : GJ (cb + 1 + b.2.2.2.1.length) ([(5, 0, [], 0, 0, nz (cb + 1 + b.2.2.2.1.length + 1 + z.2.2.2.1.length))] ++ z.2.2.2.1) := by
                    intro k c hk
                    cases k with
                    | zero =>
                      simp at hk; subst hk
                      exact ⟨fun x => absurd x (by simp only; decide), fun _ => ⟨_, rfl, Or.inl ⟨by omega, by simp; omega⟩⟩⟩
                    | succ k =>
                      simp at hk
                      obtain ⟨x1, x2⟩ := d10 k c hk
                      refine ⟨fun x => ?_, fun x => ?_⟩
                      · obtain ⟨g, g1, g2, g3⟩ := x1 x
                        exact ⟨g, g1, by omega, by simp; omega⟩
                      · obtain ⟨g, g1, g2⟩ := x2 x
                        refine ⟨g, g1, ?_⟩
                        rcases g2 with ⟨g2, g3⟩ | ⟨g2, g3, e, g4, g5⟩
                        · exact Or.inl ⟨by omega, by simp; omega⟩
                        · refine Or.inr ⟨by omega, by omega, e, ?_, g5⟩
                          rw [show g - (cb + 1 + b.2.2.2.1.length) = (g - (cb + 1 + b.2.2.2.1.length + 1)) + 1 by omega]
                          simp only [List.cons_append, List.nil_append, List.getElem?_cons_succ]
                          exact g4
                  exact hone
                · intro c hc
                  simp only [List.mem_cons, List.mem_append] at hc
                  rcases hc with rfl | hc | rfl | hc
                  · exact ⟨fun x => absurd x (by simp only; decide), fun x => absurd x (by simp only; decide)⟩
                  · simp only [d12]; exact cdW_mono ((b13 (d8.2 hn)).1 c hc)
                  · exact ⟨fun x => absurd x (by simp only; decide), fun x => absurd x (by simp only; decide)⟩
                  · exact (d13 hn).1 c hc
              · cases h
                refine ⟨⟨by simp only; omega, hbl, by simp only; omega, by simp only [List.length_cons]; omega, by simp only [psz]; omega, by simp only [List.length_append, List.length_cons]; omega, by simp only; omega, ((wTo_ntb hlt).tr f5).tr b8, ?_, GJ_test rfl rfl (by omega) (by omega) b10, b11, ⟨bx, b12⟩, fun hn => ⟨?_, (b13 hn).2.1, fun _ => (b13 hn).2.2 (hst hn)⟩⟩, by simp only; omega, fun hn => (b13 hn).2.2 (hst hn), by simp⟩
                · intro c hc
                  simp only [List.mem_cons] at hc
                  rcases hc with rfl | hc
                  · exact Or.inr (Or.inr (Or.inr (Or.inr (Or.inl ⟨rfl, rfl, _, _, f4⟩))))
                  · exact b9 c hc
                · intro c hc
                  simp only [List.mem_cons] at hc
                  rcases hc with rfl | hc
                  · exact ⟨fun x => absurd x (by simp only; decide), fun x => absurd x (by simp only; decide)⟩
                  · exact (b13 hn).1 c hc
            · cases h
    · intro dep i w st cb ch q hi h
      obtain ⟨j, e1, e2⟩ := eb_ok (show eb (pTk n tx 123 i) _ = .ok q from h)
      obtain ⟨g1, g2, g3, g4, g5, g6⟩ := pTk_ok (by decide) e1
      refine pBlp_facts ihS FU j _ st [] ch [123] q ?_ e2
      refine ⟨g4, g5, Nat.le_refl _, by simp, by simp only [psz]; omega, by simp only [List.length_cons, List.length_nil]; omega, by simp only; omega, wTo_ntb (by omega), by simp, GJ_nil, fun x => x, ⟨[], by simp⟩, fun _ => ⟨by simp, fun x => x, fun x => x⟩⟩
end
