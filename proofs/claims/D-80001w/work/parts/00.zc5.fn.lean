set_option maxRecDepth 100000
/-! ===== VALUES OF FUNCTIONS ===== -/
theorem ev1_cg {v v' : Nat → Int32} {cl : Int32 → Int32 → Int32} {nu : Int32 → Int32} {y : Sy} {S : List Int32} (h : y.1 = 1 → v y.2.toNatClampNeg = v' y.2.toNatClampNeg) : ev1 v cl nu y S = ev1 v' cl nu y S := by
  unfold ev1
  by_cases h1 : y.1 = 1
  · rw [if_neg (by rw [h1]; decide), if_pos h1, if_neg (by rw [h1]; decide), if_pos h1, h h1]
  · rw [if_neg h1, if_neg h1]
theorem evl_cg {v v' : Nat → Int32} {cl : Int32 → Int32 → Int32} {nu : Int32 → Int32} (y : List Sy) : ∀ S, (∀ s ∈ y, s.1 = 1 → v s.2.toNatClampNeg = v' s.2.toNatClampNeg) → evl v cl nu y S = evl v' cl nu y S := by
  induction y with
  | nil => intro S _; rfl
  | cons a y ih =>
    intro S h
    show evl v cl nu y (ev1 v cl nu a S) = evl v' cl nu y (ev1 v' cl nu a S)
    rw [ev1_cg (h a List.mem_cons_self)]
    exact ih _ (fun s hs => h s (List.mem_cons_of_mem _ hs))
theorem val_cg {v v' : Nat → Int32} {cl : Int32 → Int32 → Int32} {nu : Int32 → Int32} {y : List Sy} (h : ∀ s ∈ y, s.1 = 1 → v s.2.toNatClampNeg = v' s.2.toNatClampNeg) : val v cl nu y = val v' cl nu y := by
  unfold val
  rw [evl_cg y [] h]
/-- letters -/
def fnm (F : List Fn) (j : Nat) : Int32 := (F.getD j (0, 0, [])).1
/-- a call when the first k functions may be called, whose values are g -/
def clf (F : List Fn) (g : Nat → Int32 → Int32) (k : Nat) (c x : Int32) : Int32 := match fr1 (fnm F) c k 0 with
  | none => x
  | some j => g j x
def fvl (F : List Fn) (nu : Int32 → Int32) : Nat → Nat → Int32 → Int32
  | 0, _, _ => 0
  | m + 1, k, a => val (fun _ => a) (clf F (fvl F nu m) k) nu (F.getD k (0, 0, [])).2.2
theorem clf_cg {F : List Fn} {g g' : Nat → Int32 → Int32} {k : Nat} (h : ∀ j x, j < k → g j x = g' j x) : clf F g k = clf F g' k := by
  funext c x
  unfold clf
  cases hf : fr1 (fnm F) c k 0 with
  | none => rfl
  | some j =>
    have := (fr1_lt _ _ hf).2.1
    exact h j x (by omega)
theorem fvl_fuel {F : List Fn} {nu : Int32 → Int32} : ∀ (k m m' : Nat) (a : Int32), k < m → k < m' → fvl F nu m k a = fvl F nu m' k a := by
  intro k
  induction k using Nat.strongRecOn with
  | _ k ih =>
  intro m m' a h h'
  obtain ⟨m, rfl⟩ : ∃ x, m = x + 1 := ⟨m - 1, by omega⟩
  obtain ⟨m', rfl⟩ : ∃ x, m' = x + 1 := ⟨m' - 1, by omega⟩
  show val _ (clf F (fvl F nu m) k) nu _ = val _ (clf F (fvl F nu m') k) nu _
  rw [clf_cg (fun j x hj => ih j hj m m' x (by omega) (by omega))]
/-- the value of the function k at a -/
def fv (F : List Fn) (nu : Int32 → Int32) (k : Nat) (a : Int32) : Int32 := fvl F nu (k + 1) k a
theorem fv_eq (F : List Fn) (nu : Int32 → Int32) (k : Nat) (a : Int32) : fv F nu k a = val (fun _ => a) (clf F (fv F nu) k) nu (F.getD k (0, 0, [])).2.2 := by
  show val _ (clf F (fvl F nu k) k) nu _ = _
  rw [clf_cg (fun j x hj => fvl_fuel j k (j + 1) x hj (by omega))]
  rfl
theorem clf_n {F : List Fn} {g : Nat → Int32 → Int32} {k : Nat} (h : ∀ j x, j < k → nV x → nV (g j x)) : ∀ c x, nV x → nV (clf F g k c x) := by
  intro c x hx
  unfold clf
  cases hf : fr1 (fnm F) c k 0 with
  | none => exact hx
  | some j =>
    have := (fr1_lt _ _ hf).2.1
    exact h j x (by omega) hx
theorem fv_n {F : List Fn} {nu : Int32 → Int32} (hF : ∀ f ∈ F, fnV f) (hnu : ∀ a, nV a → nV (nu a)) : ∀ (k : Nat) (a : Int32), k < F.length → nV a → nV (fv F nu k a) := by
  intro k
  induction k using Nat.strongRecOn with
  | _ k ih =>
  intro a hk ha
  rw [fv_eq]
  have hf : F.getD k (0, 0, []) ∈ F := by
    rw [List.getD_eq_getElem?_getD, List.getElem?_eq_getElem hk]; exact List.getElem_mem hk
  exact val_n ⟨fun _ _ => ha, clf_n (fun j x hj hx => ih j hj x (by omega) hx), hnu⟩ (hF _ hf).2.2.1
/-- the numbers of a row -/
def nuf (R : List Int32) (a : Int32) : Int32 := R.getD a.toNatClampNeg 0
theorem nuf_n {R : List Int32} (h : ∀ x ∈ R, nV x) (a : Int32) : nV (nuf R a) := by
  unfold nuf
  rw [List.getD_eq_getElem?_getD]
  cases hx : R[a.toNatClampNeg]? with
  | none => exact ⟨0, by omega, rfl⟩
  | some x => exact h x (List.mem_of_getElem? hx)
