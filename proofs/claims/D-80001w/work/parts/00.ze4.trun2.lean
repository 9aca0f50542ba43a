set_option maxRecDepth 100000
/-! ===== THE TWIN: one run ===== -/
def tHs (σ : cS) (C : List Cd) (H : Hs) : Prop := ∀ (i : Nat) (x : Nat × Nat), H.reverse[i]? = some x → σ.1 36 i = nz x.1 ∧ σ.1 37 i = nz (dn (C.take x.2)) ∧ x.1 < 3 ∧ x.2 < C.length ∧ (cdA C x.2).1 = 1
/-- a run at hand: c at its place, n steps, weight w, draws H -/
def tRu (σ : cS) (o : Nat) (C : List Cd) (c : Cfg) (n w : Nat) (H : Hs) : Prop :=
  σ.1 0 64 = nz (posn o 0 C c.1) ∧ σ.1 0 66 = nz n ∧ σ.1 0 67 = nz c.2.2.1 ∧ σ.1 0 68 = bi c.2.2.2 ∧ σ.1 0 69 = 0 ∧ σ.1 0 70 = 0 ∧ σ.2.1 0 71 = nl (w * 16 ^ (7 - c.2.2.1)) ∧ (vOk c.2.1 ∧ ∀ a, a < 6 → σ.1 33 a = vof c.2.1 a) ∧ tSk σ [] ∧ tHs σ C H ∧ H.length = c.2.2.1 ∧ w ≤ 16 ^ c.2.2.1 ∧ c.2.2.1 ≤ 7 ∧ c.1 ≤ C.length
/-- a run has ended -/
def tEd (σ : cS) (C : List Cd) (r : Rn) : Prop :=
  σ.1 0 69 = (if r.1 = 2 then 1 else 0) ∧ σ.1 0 70 = (if r.1 = 3 then 1 else 0) ∧ (r.1 ≤ 1 → σ.1 0 66 = nz r.2.1 ∧ (r.1 = 0 ↔ r.2.2.1.2.2.2 = true)) ∧ σ.1 0 67 = nz r.2.2.1.2.2.1 ∧ σ.1 0 68 = bi r.2.2.1.2.2.2 ∧ σ.2.1 0 71 = nl (r.2.2.2.1 * 16 ^ (7 - r.2.2.1.2.2.1)) ∧ (vOk r.2.2.1.2.1 ∧ ∀ a, a < 6 → σ.1 33 a = vof r.2.2.1.2.1 a) ∧ tHs σ C r.2.2.2.2 ∧ r.2.2.2.2.length = r.2.2.1.2.2.1 ∧ r.2.2.1.2.2.1 ≤ 7 ∧ r.1 ≤ 3 ∧ r.2.1 ≤ 60
/-- what a statement without draw changes -/
def fSm (σ σ' : cS) : Prop := σ'.2 = σ.2 ∧ (∀ o j, o ≠ 0 → o ≠ 33 → o ≠ 34 → σ'.1 o j = σ.1 o j) ∧ (∀ j, j ≠ 61 → j ≠ 64 → j ≠ 66 → j ≠ 68 → σ'.1 0 j = σ.1 0 j)
theorem fSm.rf {σ : cS} : fSm σ σ := ⟨rfl, fun _ _ _ _ _ => rfl, fun _ _ _ _ _ => rfl⟩
theorem fSm.tr {σ σ1 σ2 : cS} (h : fSm σ σ1) (h' : fSm σ1 σ2) : fSm σ σ2 := ⟨h'.1.trans h.1, fun o j a b c => (h'.2.1 o j a b c).trans (h.2.1 o j a b c), fun j a b c d => (h'.2.2 j a b c d).trans (h.2.2 j a b c d)⟩
theorem fSm_34 {σ σ' : cS} (h : f34 σ σ') : fSm σ σ' := ⟨h.1, fun o j a _ c => h.2.1 o j a c, fun j a b _ _ => h.2.2 j a b⟩
theorem fSm_0 {σ : cS} {j : Nat} {v : Int32} (hj : j = 61 ∨ j = 64 ∨ j = 66 ∨ j = 68) : fSm σ (stI σ 0 j v) := ⟨rfl, fun o k a _ _ => by rw [gI, if_neg a], fun k a b c d => by rw [gI, if_pos rfl, if_neg (by omega)]⟩
theorem fSm_33 {σ : cS} {j : Nat} {v : Int32} : fSm σ (stI σ 33 j v) := ⟨rfl, fun o k _ b _ => by rw [gI, if_neg b], fun k _ _ _ _ => by rw [gI, if_neg (by decide)]⟩
theorem fRn_S {σ σ' : cS} (h : fSm σ σ') : fRn σ σ' := ⟨by rw [h.1], fun _ _ _ => by rw [h.1], fun o j a b c _ _ => h.2.1 o j a b c, fun j a => h.2.2 j (by omega) (by omega) (by omega) (by omega)⟩
theorem psz_mem {c : Cd} : ∀ {C : List Cd}, c ∈ C → c.2.2.1.length ≤ psz C := by
  intro C
  induction C with
  | nil => intro h; cases h
  | cons x C ih =>
    intro h
    rcases List.mem_cons.mp h with q | q
    · rw [q]; simp only [psz]; omega
    · have := ih q; simp only [psz]; omega
theorem posn_s {o : Nat} {C : List Cd} {p : Nat} (hp : p < C.length) : posn o 0 C (p + 1) = posn o 0 C p + osz (cdA C p) := by
  unfold posn
  rw [Nat.sub_zero, Nat.sub_zero]
  have : C.take (p + 1) = C.take p ++ [cdA C p] := by
    rw [List.take_succ, cdA_get hp]; rfl
  rw [this, osum_app]
  simp only [osum]; omega
section
variable {nm : Nat → Int32} {q o p : Nat} {C : List Cd} {ch : List Int32} {Y : List Sy} {F : List Fn} {R : List Int32} {cs : Nat → Int32} {a1 : Int32}
theorem tRu_S {σ σ' : cS} {c c' : Cfg} {n n' w : Nat} {H : Hs} (h : tRu σ o C c n w H) (hf : fSm σ σ') (h64 : σ'.1 0 64 = nz (posn o 0 C c'.1)) (h66 : σ'.1 0 66 = nz n') (h68 : σ'.1 0 68 = bi c'.2.2.2) (hv : vOk c'.2.1 ∧ ∀ a, a < 6 → σ'.1 33 a = vof c'.2.1 a) (hk : tSk σ' []) (hd : c'.2.2.1 = c.2.2.1) (hp : c'.1 ≤ C.length) : tRu σ' o C c' n' w H := by
  obtain ⟨b1, b2, b3, b4, b5, b6, b7, b8, b9, b10, b11, b12, b13, b14⟩ := h
  refine ⟨h64, h66, ?_, h68, ?_, ?_, ?_, hv, hk, fun i x hx => ?_, by rw [hd]; exact b11, by rw [hd]; exact b12, by rw [hd]; exact b13, hp⟩
  · rw [hf.2.2 67 (by decide) (by decide) (by decide) (by decide), hd]; exact b3
  · rw [hf.2.2 69 (by decide) (by decide) (by decide) (by decide)]; exact b5
  · rw [hf.2.2 70 (by decide) (by decide) (by decide) (by decide)]; exact b6
  · rw [hf.1, hd]; exact b7
  · rw [hf.2.1 36 i (by decide) (by decide) (by decide), hf.2.1 37 i (by decide) (by decide) (by decide)]; exact b10 i x hx
theorem tQn.env {σ : cS} (h : tQn σ nm q o p C ch Y F R cs) : (∀ c a, nV a → nV (clf F (fv F (nuf R)) F.length c a)) ∧ (∀ a, nV a → nV (nuf R a)) := by
  obtain ⟨-, -, ⟨c1, c2, c3⟩, ⟨d1, d2, d3, d4⟩, -⟩ := h
  have hnu : ∀ a, nV a → nV (nuf R a) := fun a _ => nuf_n d2 a
  exact ⟨clf_n (fun j x hj hx => fv_n c2 hnu j x hj hx), hnu⟩
/-- a sum within a statement -/
theorem tSm {σ : cS} (h : tQn σ nm q o p C ch Y F R cs) {v : List Int32} (hv : vOk v) (hr : ∀ a, a < 6 → σ.1 33 a = vof v a) {y : List Sy} {pc : Nat} (f : Nat) (hy : sV y) (hl : y.length ≤ 400) (hp : pc + y.length ≤ 12000) (hO : tOA σ pc (y.map (trS (-1) nm F.length))) (h64 : σ.1 0 64 = nz pc) (hk : tSk σ []) :
    ∃ σ', fX11_go_12 a1 (f + y.length) 1 σ = fX11_go_12 a1 f 1 σ' ∧ tSk σ' [val (vof v) (clf F (fv F (nuf R)) F.length) (nuf R) y] ∧ f34 σ σ' ∧ σ'.1 0 64 = nz (pc + y.length) := by
  obtain ⟨e1, e2⟩ := h.env
  obtain ⟨w1, w2⟩ := sV_wf hy
  have hE : gEn (vof v) (clf F (fv F (nuf R)) F.length) (nuf R) := ⟨fun a _ => vof_n hv a, e1, e2⟩
  obtain ⟨σ', g1, g2, g3, g4⟩ := tEvl (ov := -1) (nm := nm) (nF := F.length) (q := q) (a1 := a1) hE h.1.1 h.2.2.1.1 y f pc 0 1 σ [] w1 rfl (by omega) hp (fun s hs => by cases hs) h.1.2.2.2.2.2.2 ⟨R.length, h.2.2.2.1.1, h.2.2.2.1.2.2.1⟩ h64 hk hO (fun a ha => by unfold tVr; rw [if_pos (by decide)]; exact hr a ha) h.2.2.1.2.2 h.2.2.2.1.2.2.2
  refine ⟨σ', g1, ?_, g3, g4⟩
  obtain ⟨l1, -⟩ := evl_n hE y w1 (S := []) rfl (fun s hs => by cases hs)
  obtain ⟨z, hz⟩ := List.length_eq_one_iff.mp l1
  rw [hz] at g2
  have : val (vof v) (clf F (fv F (nuf R)) F.length) (nuf R) y = z := by unfold val; rw [hz]; rfl
  rw [this]; exact g2
theorem tO8 {σ : cS} {pc n : Nat} (f : Nat) (hpc : pc < 12000) (h64 : σ.1 0 64 = nz pc) (e : σ.1 2 pc = 8 ∧ σ.1 3 pc = 0) (h66 : σ.1 0 66 = nz n) (hn : n < 60) : fX11_go_12 a1 (f + 1) 1 σ = fX11_go_12 a1 f 1 (stI (stI σ 0 64 (nz (pc + 1))) 0 66 (nz (n + 1))) := by
  have e66 : (stI σ 0 64 (nz (pc + 1))).1 0 66 = nz n := by simpa [gI] using h66
  rw [go_1, tOrd (k := 8) (by omega) hpc h64 e.1 e.2]
  unfold fX11_doStatement
  rw [if_pos (by rfl), e66, if_neg (by rw [show (60 : Int32) = nz 60 from rfl, nz_inj (by omega) (by omega)]; omega), nz_s, wI_e, bd_s, ck_t (by decide), bd_s]
theorem tO8x {σ : cS} {pc : Nat} (f : Nat) (hpc : pc < 12000) (h64 : σ.1 0 64 = nz pc) (e : σ.1 2 pc = 8 ∧ σ.1 3 pc = 0) (h66 : σ.1 0 66 = nz 60) : fX11_go_12 a1 (f + 2) 1 σ = some ((), stI (stI σ 0 64 (nz (pc + 1))) 0 69 1) := by
  have e66 : (stI σ 0 64 (nz (pc + 1))).1 0 66 = nz 60 := by simpa [gI] using h66
  rw [go_1, tOrd (k := 8) (by omega) hpc h64 e.1 e.2]
  unfold fX11_doStatement
  rw [if_pos (by rfl), e66, if_pos (by rfl), wI_e, bd_s, ck_t (by decide), bd_s, go_0]
theorem tO9 {σ : cS} {pc vx : Nat} {x : Int32} (f : Nat) (hpc : pc < 12000) (h64 : σ.1 0 64 = nz pc) (e : σ.1 2 pc = 9 ∧ σ.1 3 pc = nz vx) (hvx : vx < 6) (hk : tSk σ [x]) : ∃ σ', fX11_go_12 a1 (f + 1) 1 σ = fX11_go_12 a1 f 1 σ' ∧ fSm σ σ' ∧ tSk σ' [] ∧ σ'.1 0 64 = nz (pc + 1) ∧ σ'.1 0 66 = σ.1 0 66 ∧ σ'.1 0 68 = σ.1 0 68 ∧ ∀ a, σ'.1 33 a = if a = vx then x else σ.1 33 a := by
  have h1 := tSk_I (o := 0) (j := 64) (v := nz (pc + 1)) hk (by omega)
  obtain ⟨p1, p2⟩ := tPull h1 (by simp)
  refine ⟨stI (stI (stI σ 0 64 (nz (pc + 1))) 0 61 (nz ([] : List Int32).length)) 33 vx x, ?_, ((fSm_0 (by omega)).tr (fSm_0 (by omega))).tr fSm_33, tSk_I p2 (by omega), by simp [gI], by simp [gI], by simp [gI], fun a => by simp [gI]⟩
  rw [go_1, tOrd (k := 9) (by omega) hpc h64 e.1 e.2]
  unfold fX11_doStatement
  rw [if_neg (by decide), if_pos (by rfl), p1, bd_s, ck_n hvx (by omega), nz_tn (by omega), wI_e, bd_s, ck_t (by decide), bd_s]
theorem tO12 {σ : cS} {pc : Nat} {x : Int32} {ok : Bool} (f : Nat) (hpc : pc < 12000) (h64 : σ.1 0 64 = nz pc) (e : σ.1 2 pc = 12 ∧ σ.1 3 pc = 0) (h68 : σ.1 0 68 = bi ok) (hk : tSk σ [x]) : ∃ σ', fX11_go_12 a1 (f + 1) 1 σ = fX11_go_12 a1 f 1 σ' ∧ fSm σ σ' ∧ tSk σ' [] ∧ σ'.1 0 64 = nz (pc + 1) ∧ σ'.1 0 66 = σ.1 0 66 ∧ σ'.1 0 68 = bi (ok && !decide (x = 0)) ∧ ∀ a, σ'.1 33 a = σ.1 33 a := by
  have h1 := tSk_I (o := 0) (j := 64) (v := nz (pc + 1)) hk (by omega)
  obtain ⟨p1, p2⟩ := tPull h1 (by simp)
  have e68 : (stI (stI σ 0 64 (nz (pc + 1))) 0 61 (nz ([] : List Int32).length)).1 0 68 = bi ok := by simpa [gI] using h68
  refine ⟨stI (stI (stI σ 0 64 (nz (pc + 1))) 0 61 (nz ([] : List Int32).length)) 0 68 (bi (ok && !decide (x = 0))), ?_, ((fSm_0 (by omega)).tr (fSm_0 (by omega))).tr (fSm_0 (by omega)), tSk_I p2 (by omega), by simp [gI], by simp [gI], by simp [gI], fun a => by simp [gI]⟩
  rw [go_1, tOrd (k := 12) (by omega) hpc h64 e.1 e.2]
  unfold fX11_doStatement
  rw [if_neg (by decide), if_neg (by decide), if_neg (by decide), if_neg (by decide), if_pos (by rfl), p1, bd_s, e68]
  by_cases hx : x = 0
  · rw [if_pos hx, wI_e, bd_s, ck_t (by decide), bd_s, decide_eq_true hx, Bool.not_true, Bool.and_false]; rfl
  · rw [if_neg hx, decide_eq_false hx, Bool.not_false, Bool.and_true]
    cases ok
    · rw [if_pos (by rfl), wI_e, bd_s, ck_t (by decide), bd_s]; rfl
    · rw [if_neg (by decide), wI_e, bd_s, ck_t (by decide), bd_s]; rfl
theorem tO13 {σ : cS} {pc t : Nat} {x : Int32} (f : Nat) (hpc : pc < 12000) (h64 : σ.1 0 64 = nz pc) (e : σ.1 2 pc = 13 ∧ σ.1 3 pc = nz t) (hk : tSk σ [x]) : ∃ σ', fX11_go_12 a1 (f + 1) 1 σ = fX11_go_12 a1 f 1 σ' ∧ fSm σ σ' ∧ tSk σ' [] ∧ σ'.1 0 64 = nz (if x = 0 then t else pc + 1) ∧ σ'.1 0 66 = σ.1 0 66 ∧ σ'.1 0 68 = σ.1 0 68 ∧ ∀ a, σ'.1 33 a = σ.1 33 a := by
  have h1 := tSk_I (o := 0) (j := 64) (v := nz (pc + 1)) hk (by omega)
  obtain ⟨p1, p2⟩ := tPull h1 (by simp)
  have e64 : (stI (stI σ 0 64 (nz (pc + 1))) 0 61 (nz ([] : List Int32).length)).1 0 64 = nz (pc + 1) := by simp [gI]
  refine ⟨stI (stI (stI σ 0 64 (nz (pc + 1))) 0 61 (nz ([] : List Int32).length)) 0 64 (nz (if x = 0 then t else pc + 1)), ?_, ((fSm_0 (by omega)).tr (fSm_0 (by omega))).tr (fSm_0 (by omega)), tSk_I p2 (by omega), by simp [gI], by simp [gI], by simp [gI], fun a => by simp [gI]⟩
  rw [go_1, tOrd (k := 13) (by omega) hpc h64 e.1 e.2]
  unfold fX11_doStatement
  rw [if_neg (by decide), if_neg (by decide), if_neg (by decide), if_neg (by decide), if_neg (by decide), if_pos (by rfl), p1, bd_s, e64]
  by_cases hx : x = 0
  · rw [if_pos hx, if_pos hx, wI_e, bd_s, ck_t (by decide), bd_s]
  · rw [if_neg hx, if_neg hx, wI_e, bd_s, ck_t (by decide), bd_s]
theorem tO11 {σ : cS} {pc k : Nat} {x : Int32} (f : Nat) (hpc : pc < 12000) (h64 : σ.1 0 64 = nz pc) (e : σ.1 2 pc = 11 ∧ σ.1 3 pc = nz k) (hk3 : k < 3) (hq : q < 16) (h65 : σ.1 0 65 = nz q) (h31 : σ.1 31 (3 * q + k) = x) (hk : tSk σ []) : ∃ σ', fX11_go_12 a1 (f + 1) 1 σ = fX11_go_12 a1 f 1 σ' ∧ f34 σ σ' ∧ tSk σ' [x] ∧ σ'.1 0 64 = nz (pc + 1) := by
  have h1 := tSk_I (o := 0) (j := 64) (v := nz (pc + 1)) hk (by omega)
  have F1 : f34 σ (stI σ 0 64 (nz (pc + 1))) := f34_0 (by omega)
  obtain ⟨σ', p1, p2, p3, p4⟩ := tPush x h1 (by simp)
  have e65 : (stI σ 0 64 (nz (pc + 1))).1 0 65 = nz q := by simpa [gI] using h65
  have e31 : (stI σ 0 64 (nz (pc + 1))).1 31 (3 * q + k) = x := by simpa [gI] using h31
  refine ⟨σ', ?_, F1.tr p3, p2, by rw [p4]; simp [gI]⟩
  rw [go_1, tOrd (k := 11) (by omega) hpc h64 e.1 e.2]
  unfold fX11_doStatement
  rw [if_neg (by decide), if_neg (by decide), if_neg (by decide), if_pos (by rfl), e65, show (3 : Int32) = nz 3 from rfl, nz_mul, nz_add, ck_n (show 3 * q + k < 48 by omega) (by omega), nz_tn (by omega), e31, p1, bd_s, bd_s, ck_t (by decide), bd_s]
theorem tO15 {σ : cS} {pc : Nat} (f : Nat) (hpc : pc < 12000) (h64 : σ.1 0 64 = nz pc) (e : σ.1 2 pc = 15) : fX11_go_12 a1 (f + 2) 1 σ = some ((), stI σ 0 64 (nz (pc + 1))) := by
  rw [go_1]
  unfold fX11_doOrder
  rw [h64, ck_n hpc (by omega), ck_n hpc (by omega), nz_tn (by omega), wI_e, nz_s, e, if_neg (by decide), if_neg (by decide), if_neg (by decide), if_neg (by decide), if_neg (by decide), if_neg (by decide), if_pos (by rfl), bd_s, go_0]
end
