set_option maxRecDepth 100000
theorem posn_ge {o cb k : Nat} {C D : List Cd} (h : cb + C.length ≤ k) : posn o cb (C ++ D) k = posn (o + osum C) (cb + C.length) D k := by
  unfold posn
  rw [List.take_append, List.take_of_length_le (by omega), osum_app, show k - cb - C.length = k - (cb + C.length) by omega]
  omega
/-- the orders of a loop -/
theorem CM_loop {tr : Sy → Int32 × Int32} {o cb dm : Nat} {y : List Sy} {C : List Cd} (h : GJ (cb + 1) C) (hv : ∀ c ∈ C, cdV c) (hl : cb + C.length < 10000) :
    CM tr o cb dm ((4, 0, y, 0, 0, nz (cb + 1 + C.length + 1)) :: (C ++ [(5, 0, [], 0, 0, nz cb)])) = (8, 0) :: (y.map tr ++ (13, nz (o + 2 + y.length + osum C + 1)) :: (CM tr (o + 2 + y.length) (cb + 1) dm C ++ [(14, nz o)])) := by
  have h4 : osz (4, 0, y, 0, 0, nz (cb + 1 + C.length + 1)) = y.length + 2 := by simp [osz]
  have hend : posn o cb ((4, 0, y, 0, 0, nz (cb + 1 + C.length + 1)) :: (C ++ [(5, 0, [], 0, 0, nz cb)])) (cb + 1 + C.length + 1) = o + 2 + y.length + osum C + 1 := by
    have := posn_end (o := o) (cb := cb) (C := (4, 0, y, 0, 0, nz (cb + 1 + C.length + 1)) :: (C ++ [(5, 0, [], 0, 0, nz cb)]))
    rw [List.length_cons, List.length_append, List.length_singleton, show cb + (C.length + 1 + 1) = cb + 1 + C.length + 1 by omega] at this
    rw [this]
    simp only [osum, osum_app, h4]
    simp [osz]; omega
  have hC : cmpl tr (posn o cb ((4, 0, y, 0, 0, nz (cb + 1 + C.length + 1)) :: (C ++ [(5, 0, [], 0, 0, nz cb)]))) dm C = CM tr (o + 2 + y.length) (cb + 1) dm C := by
    refine cmpl_CM h hv (by omega) (fun k k1 k2 => ?_)
    rw [posn_cons k1, posn_le k2, h4, show o + (y.length + 2) = o + 2 + y.length by omega]
  conv => lhs; unfold CM
  simp only [cmpl]
  rw [cmpl_app]
  rw [show dm + (if (4 : Int32) = 1 then 1 else 0) = dm by simp, hC]
  simp only [cmpl, ord1]
  rw [if_neg (by decide), if_neg (by decide), if_neg (by decide), if_neg (by decide), if_pos trivial, if_neg (by decide), if_neg (by decide), if_neg (by decide), if_neg (by decide), if_neg (by decide), nz_tn (by omega), nz_tn (by omega), hend, posn_st]
  simp
/-- the orders of a test -/
theorem CM_if1 {tr : Sy → Int32 × Int32} {o cb dm : Nat} {y : List Sy} {C : List Cd} (h : GJ (cb + 1) C) (hv : ∀ c ∈ C, cdV c) (hl : cb + C.length < 10000) :
    CM tr o cb dm ((4, 0, y, 0, 0, nz (cb + 1 + C.length)) :: C) = (8, 0) :: (y.map tr ++ (13, nz (o + 2 + y.length + osum C)) :: CM tr (o + 2 + y.length) (cb + 1) dm C) := by
  have h4 : osz (4, 0, y, 0, 0, nz (cb + 1 + C.length)) = y.length + 2 := by simp [osz]
  have hend : posn o cb ((4, 0, y, 0, 0, nz (cb + 1 + C.length)) :: C) (cb + 1 + C.length) = o + 2 + y.length + osum C := by
    have := posn_end (o := o) (cb := cb) (C := (4, 0, y, 0, 0, nz (cb + 1 + C.length)) :: C)
    rw [List.length_cons, show cb + (C.length + 1) = cb + 1 + C.length by omega] at this
    rw [this]
    simp only [osum, h4]; omega
  have hC : cmpl tr (posn o cb ((4, 0, y, 0, 0, nz (cb + 1 + C.length)) :: C)) dm C = CM tr (o + 2 + y.length) (cb + 1) dm C := by
    refine cmpl_CM h hv (by omega) (fun k k1 k2 => ?_)
    rw [posn_cons k1, h4, show o + (y.length + 2) = o + 2 + y.length by omega]
  conv => lhs; unfold CM
  simp only [cmpl]
  rw [show dm + (if (4 : Int32) = 1 then 1 else 0) = dm by simp, hC]
  simp only [ord1]
  rw [if_neg (by decide), if_neg (by decide), if_neg (by decide), if_neg (by decide), if_pos trivial, nz_tn (by omega), hend]
  simp
/-- the orders of a test with its other -/
theorem CM_if2 {tr : Sy → Int32 × Int32} {o cb dm : Nat} {y : List Sy} {C D : List Cd} (h : GJ (cb + 1) C) (hv : ∀ c ∈ C, cdV c) (h' : GJ (cb + 1 + C.length + 1) D) (hv' : ∀ c ∈ D, cdV c) (hl : cb + C.length + D.length < 10000) :
    CM tr o cb dm ((4, 0, y, 0, 0, nz (cb + 1 + C.length + 1)) :: (C ++ (5, 0, [], 0, 0, nz (cb + 1 + C.length + 1 + D.length)) :: D)) = (8, 0) :: (y.map tr ++ (13, nz (o + 2 + y.length + osum C + 1)) :: (CM tr (o + 2 + y.length) (cb + 1) dm C ++ (14, nz (o + 2 + y.length + osum C + 1 + osum D)) :: CM tr (o + 2 + y.length + osum C + 1) (cb + 1 + C.length + 1) (dm + dn C) D)) := by
  generalize hZ : (4, 0, y, 0, 0, nz (cb + 1 + C.length + 1)) :: (C ++ (5, 0, [], 0, 0, nz (cb + 1 + C.length + 1 + D.length)) :: D) = Z
  have h4 : osz (4, 0, y, 0, 0, nz (cb + 1 + C.length + 1)) = y.length + 2 := by simp [osz]
  have h5 : ∀ g, osz (5, 0, [], 0, 0, g) = 1 := fun g => by simp [osz]
  have h2 : ∀ k, cb + 1 + C.length + 1 ≤ k → posn o cb Z k = posn (o + 2 + y.length + osum C + 1) (cb + 1 + C.length + 1) D k := by
    intro k hk
    rw [← hZ, posn_cons (by omega), posn_ge (by omega), posn_cons (by omega), h4, h5]
    congr 1; omega
  have hmid : posn o cb Z (cb + 1 + C.length + 1) = o + 2 + y.length + osum C + 1 := by rw [h2 _ (Nat.le_refl _), posn_st]
  have hend : posn o cb Z (cb + 1 + C.length + 1 + D.length) = o + 2 + y.length + osum C + 1 + osum D := by rw [h2 _ (by omega), posn_end]
  have hC : cmpl tr (posn o cb Z) dm C = CM tr (o + 2 + y.length) (cb + 1) dm C := by
    refine cmpl_CM h hv (by omega) (fun k k1 k2 => ?_)
    rw [← hZ, posn_cons k1, posn_le k2, h4, show o + (y.length + 2) = o + 2 + y.length by omega]
  have hD : cmpl tr (posn o cb Z) (dm + dn C) D = CM tr (o + 2 + y.length + osum C + 1) (cb + 1 + C.length + 1) (dm + dn C) D := cmpl_CM h' hv' (by omega) (fun k k1 k2 => h2 k k1)
  unfold CM at *
  rw [← hC, ← hD]
  generalize hp : posn o cb Z = p at hmid hend
  rw [← hZ]
  simp only [cmpl]
  rw [cmpl_app]
  rw [show dm + (if (4 : Int32) = 1 then 1 else 0) = dm by simp]
  simp only [cmpl, ord1]
  rw [if_neg (by decide), if_neg (by decide), if_neg (by decide), if_neg (by decide), if_pos trivial, if_neg (by decide), if_neg (by decide), if_neg (by decide), if_neg (by decide), if_neg (by decide), nz_tn (by omega), nz_tn (by omega), hend, hmid]
  simp
