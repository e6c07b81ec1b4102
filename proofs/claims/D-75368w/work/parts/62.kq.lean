/-! Plain law: the greatest toll with which a trip uses an arc -/
/-- the greatest of 0 to n that is so; -1 -/
def gr (U : Nat → Bool) : Nat → Int
  | 0 => if U 0 then 0 else -1
  | n + 1 => if U (n + 1) then ((n + 1 : Nat) : Int) else gr U n
theorem gr_some {U : Nat → Bool} : ∀ {n k : Nat}, k ≤ n → U k = true → (∀ j, k < j → j ≤ n → U j = false) → gr U n = k
  | 0, k, hk, h, _ => by
    rw [Nat.le_zero.mp hk] at h ⊢
    simp [gr, h]
  | n + 1, k, hk, h, hj => by
    unfold gr
    by_cases e : k = n + 1
    · subst e; rw [if_pos h]
    · rw [hj (n + 1) (by omega) (Nat.le_refl _), if_neg Bool.false_ne_true]
      exact gr_some (by omega) h (fun j h1 h2 => hj j h1 (by omega))
theorem gr_none {U : Nat → Bool} : ∀ {n : Nat}, (∀ j, j ≤ n → U j = false) → gr U n = -1
  | 0, h => by simp [gr, h 0 (Nat.le_refl _)]
  | n + 1, h => by
    unfold gr
    rw [h (n + 1) (Nat.le_refl _), if_neg Bool.false_ne_true]
    exact gr_none (fun j hj => h j (by omega))
theorem gr_le {U : Nat → Bool} : ∀ {n : Nat}, -1 ≤ gr U n ∧ gr U n ≤ n
  | 0 => by unfold gr; split <;> omega
  | n + 1 => by
    unfold gr
    have := gr_le (U := U) (n := n)
    split <;> omega
def eachI (ρ : Nat → Nat) : Int := 1000000000 + 100 * sgn ρ
theorem eachI_rng (ρ : Nat → Nat) : 999999900 ≤ eachI ρ ∧ eachI ρ ≤ 1000000100 := by
  unfold eachI
  rcases sgn_wB ρ with h | h <;> rw [h] <;> omega
section
variable {ρ : Nat → Nat} {m fz a t : Nat}
theorem useB_iff {ρ : Nat → Nat} {m fz t a : Nat} {aw : Int} : useB ρ m aw fz t a = true ↔ ∃ p, PT ρ m aw fz t = some p ∧ a ∈ p := by
  unfold useB
  cases PT ρ m aw fz t with
  | none => simp
  | some p => simp
theorem kq_A (hI : Inv ρ) (ha : a < ρ 1) (ht : t < ρ 2) {x y : Nat} (hx : x ≤ aMx ρ a) (hy : y ≤ aMx ρ a) {z : Int} (hz : dT (stl ρ a x) m (-1) fz t (pFr ρ t) = some z) :
    ∃ z', dT (stl ρ a y) m (-1) fz t (pFr ρ t) = some z' ∧ z' ≤ z + eachI ρ * ((y : Int) - x) * (if useB (stl ρ a x) m (-1) fz t a then 1 else 0) := by
  have b := hI.ha ha
  have ht1 : t < (stl ρ a x) 2 := by rw [stl_low ρ a x (by omega)]; exact ht
  have ht2 : t < (stl ρ a y) 2 := by rw [stl_low ρ a y (by omega)]; exact ht
  obtain ⟨h1, h2, h3, h4⟩ := dT_cod (hI.stl ha hx) ht1 hz
  obtain ⟨z', hz', hle⟩ := dT_le (m := m) (aw := -1) (fz := fz) (hI.stl ha hy) ht2 (n := pFr ρ t) (l := pT (stl ρ a x) m (-1) fz t (pFr ρ t)) (by
    rw [isP_stl, stl_pT ρ a y t (by omega)]
    rw [isP_stl, stl_pT ρ a x t (by omega)] at h2
    exact h2) (fun b hb => uT_stl.mpr (uT_stl.mp (h3 b hb)))
  refine ⟨z', hz', ?_⟩
  rw [stl_pV ρ a y t (by omega), cod_stl] at hle
  rw [stl_pV ρ a x t (by omega), cod_stl] at h1
  have hc : (List.count a (pT (stl ρ a x) m (-1) fz t (pFr ρ t)) : Int) = (if useB (stl ρ a x) m (-1) fz t a then 1 else 0) := by
    have hP : PT (stl ρ a x) m (-1) fz t = some (pT (stl ρ a x) m (-1) fz t (pFr ρ t)) := by
      unfold PT
      rw [stl_pF ρ a x t (by omega), hz]
      rfl
    by_cases hm : a ∈ pT (stl ρ a x) m (-1) fz t (pFr ρ t)
    · rw [if_pos (useB_iff.mpr ⟨_, hP, hm⟩), List.Nodup.count h4, if_pos hm]
      rfl
    · rw [if_neg (fun hh => by
        obtain ⟨p, hp, hmp⟩ := useB_iff.mp hh
        rw [hP] at hp
        cases hp
        exact hm hmp), List.count_eq_zero.mpr hm]
      rfl
  rw [hc] at hle h1
  unfold eachI
  split
  next hh =>
    rw [if_pos hh] at hle h1
    rw [Int.mul_one] at hle h1 ⊢
    rw [Int.mul_sub]
    omega
  next hh =>
    rw [if_neg hh] at hle h1
    rw [Int.mul_zero] at hle h1 ⊢
    omega
theorem kq_B (hI : Inv ρ) (ha : a < ρ 1) (ht : t < ρ 2) {x y : Nat} (hx : x ≤ aMx ρ a) (hy : y ≤ aMx ρ a) {z : Int} (hz : dT (stl ρ a y) m a fz t (pFr ρ t) = some z) :
    ∃ z', dT (stl ρ a x) m (-1) fz t (pFr ρ t) = some z' ∧ z' ≤ z := by
  have b := hI.ha ha
  have ht1 : t < (stl ρ a x) 2 := by rw [stl_low ρ a x (by omega)]; exact ht
  have ht2 : t < (stl ρ a y) 2 := by rw [stl_low ρ a y (by omega)]; exact ht
  obtain ⟨h1, h2, h3, h4⟩ := dT_cod (hI.stl ha hy) ht2 hz
  obtain ⟨z', hz', hle⟩ := dT_le (m := m) (aw := -1) (fz := fz) (hI.stl ha hx) ht1 (n := pFr ρ t) (l := pT (stl ρ a y) m a fz t (pFr ρ t)) (by
    rw [isP_stl, stl_pT ρ a x t (by omega)]
    rw [isP_stl, stl_pT ρ a y t (by omega)] at h2
    exact h2) (fun b hb => by
      have := uT_stl.mp (h3 b hb)
      refine uT_stl.mpr ⟨this.1, by omega, this.2.2⟩)
  refine ⟨z', hz', ?_⟩
  rw [stl_pV ρ a x t (by omega), cod_stl] at hle
  rw [stl_pV ρ a y t (by omega), cod_stl] at h1
  have hc : List.count a (pT (stl ρ a y) m a fz t (pFr ρ t)) = 0 := List.count_eq_zero.mpr (fun hm => (h3 a hm).2.1 rfl)
  rw [hc] at hle h1
  simp only [Int.natCast_zero, Int.mul_zero] at hle h1
  omega
theorem kq_C (hI : Inv ρ) (ha : a < ρ 1) (ht : t < ρ 2) {x y : Nat} (hx : x ≤ aMx ρ a) (hy : y ≤ aMx ρ a) {z : Int} (hz : dT (stl ρ a x) m (-1) fz t (pFr ρ t) = some z) (hu : useB (stl ρ a x) m (-1) fz t a = false) :
    ∃ z', dT (stl ρ a y) m a fz t (pFr ρ t) = some z' ∧ z' ≤ z := by
  have b := hI.ha ha
  have ht1 : t < (stl ρ a x) 2 := by rw [stl_low ρ a x (by omega)]; exact ht
  have ht2 : t < (stl ρ a y) 2 := by rw [stl_low ρ a y (by omega)]; exact ht
  obtain ⟨h1, h2, h3, h4⟩ := dT_cod (hI.stl ha hx) ht1 hz
  have hP : PT (stl ρ a x) m (-1) fz t = some (pT (stl ρ a x) m (-1) fz t (pFr ρ t)) := by
    unfold PT
    rw [stl_pF ρ a x t (by omega), hz]
    rfl
  have hm : ¬ a ∈ pT (stl ρ a x) m (-1) fz t (pFr ρ t) := fun hm => by
    rw [useB_iff.mpr ⟨_, hP, hm⟩] at hu
    cases hu
  obtain ⟨z', hz', hle⟩ := dT_le (m := m) (aw := a) (fz := fz) (hI.stl ha hy) ht2 (n := pFr ρ t) (l := pT (stl ρ a x) m (-1) fz t (pFr ρ t)) (by
    rw [isP_stl, stl_pT ρ a y t (by omega)]
    rw [isP_stl, stl_pT ρ a x t (by omega)] at h2
    exact h2) (fun b hb => by
      have := uT_stl.mp (h3 b hb)
      refine uT_stl.mpr ⟨this.1, fun e => ?_, this.2.2⟩
      have e' : b = a := by omega
      subst e'
      exact hm hb)
  refine ⟨z', hz', ?_⟩
  rw [stl_pV ρ a y t (by omega), cod_stl] at hle
  rw [stl_pV ρ a x t (by omega), cod_stl] at h1
  rw [List.count_eq_zero.mpr hm] at hle h1
  simp only [Int.natCast_zero, Int.mul_zero] at hle h1
  omega
theorem kq_fin (hI : Inv ρ) (ha : a < ρ 1) (ht : t < ρ 2) {x : Nat} (hx : x ≤ aMx ρ a) (hu : useB (stl ρ a x) m (-1) fz t a = true) : ∃ z, dT (stl ρ a x) m (-1) fz t (pFr ρ t) = some z := by
  have b := hI.ha ha
  obtain ⟨p, hp, -⟩ := useB_iff.mp hu
  have ht1 : t < (stl ρ a x) 2 := by rw [stl_low ρ a x (by omega)]; exact ht
  have := (PT_all (hI.stl ha hx) ht1 hp).2.2.2.2.1
  rw [stl_pF ρ a x t (by omega)] at this
  exact ⟨_, this⟩
theorem kq_0 (hI : Inv ρ) (ha : a < ρ 1) (ht : t < ρ 2) {x : Nat} (hx : x ≤ aMx ρ a) (hu : useB (stl ρ a x) m (-1) fz t a = true) : useB (stl ρ a 0) m (-1) fz t a = true := by
  cases e : useB (stl ρ a 0) m (-1) fz t a with
  | true => rfl
  | false =>
    obtain ⟨z, hz⟩ := kq_fin hI ha ht hx hu
    obtain ⟨z0, hz0, h0⟩ := kq_A (y := 0) hI ha ht hx (by omega) hz
    obtain ⟨zi, hzi, hi⟩ := kq_C (y := 0) hI ha ht (by omega) (by omega) hz0 e
    obtain ⟨z1, hz1, h1⟩ := kq_B (x := x) hI ha ht hx (by omega) hzi
    rw [hz] at hz1
    cases hz1
    rw [hu, if_pos rfl, Int.mul_one] at h0
    have hE := eachI_rng ρ
    have hx0 : x = 0 := by
      rcases Nat.eq_zero_or_pos x with h | h
      · exact h
      · have h2 : eachI ρ * (((0 : Nat) : Int) - x) ≤ 999999900 * (((0 : Nat) : Int) - x) := Int.mul_le_mul_of_nonpos_right hE.1 (by omega)
        omega
    subst hx0
    rw [hu] at e
    cases e
theorem kq_U (hI : Inv ρ) (ha : a < ρ 1) (ht : t < ρ 2) {z0 : Int} (hz0 : dT (stl ρ a 0) m (-1) fz t (pFr ρ t) = some z0) (hu0 : useB (stl ρ a 0) m (-1) fz t a = true) {x : Nat} (hx : x ≤ aMx ρ a) :
    (useB (stl ρ a x) m (-1) fz t a = true → ∀ zi, dT (stl ρ a 0) m a fz t (pFr ρ t) = some zi → z0 + eachI ρ * x ≤ zi) ∧
    (useB (stl ρ a x) m (-1) fz t a = false → ∃ zi, dT (stl ρ a 0) m a fz t (pFr ρ t) = some zi ∧ zi ≤ z0 + eachI ρ * x) := by
  obtain ⟨z, hz, hle⟩ := kq_A (y := x) hI ha ht (by omega) hx hz0
  rw [hu0, if_pos rfl, Int.mul_one] at hle
  simp only [Int.natCast_zero, Int.sub_zero] at hle
  refine ⟨fun hu zi hzi => ?_, fun hu => ?_⟩
  · obtain ⟨z0', hz0', h0⟩ := kq_A (y := 0) hI ha ht hx (by omega) hz
    rw [hz0] at hz0'
    cases hz0'
    rw [hu, if_pos rfl, Int.mul_one, Int.mul_sub] at h0
    obtain ⟨z1, hz1, h1⟩ := kq_B (x := x) hI ha ht hx (by omega) hzi
    rw [hz] at hz1
    cases hz1
    simp only [Int.natCast_zero, Int.mul_zero] at h0
    omega
  · obtain ⟨zi, hzi, hi⟩ := kq_C (y := 0) hI ha ht hx (by omega) hz hu
    exact ⟨zi, hzi, by omega⟩
/-- it uses it with all smaller tolls -/
theorem kq_mono (hI : Inv ρ) (ha : a < ρ 1) (ht : t < ρ 2) {x y : Nat} (hx : x ≤ aMx ρ a) (hyx : y ≤ x) (hu : useB (stl ρ a x) m (-1) fz t a = true) : useB (stl ρ a y) m (-1) fz t a = true := by
  by_cases e : y = x
  · rw [e]; exact hu
  have hu0 := kq_0 hI ha ht hx hu
  obtain ⟨z0, hz0⟩ := kq_fin hI ha ht (by omega) hu0
  cases hy : useB (stl ρ a y) m (-1) fz t a with
  | true => rfl
  | false =>
    obtain ⟨zi, hzi, h1⟩ := (kq_U hI ha ht hz0 hu0 (x := y) (by omega)).2 hy
    have h2 := (kq_U hI ha ht hz0 hu0 hx).1 hu zi hzi
    have hE := eachI_rng ρ
    have h3 : eachI ρ * y + eachI ρ ≤ eachI ρ * x := by
      have : eachI ρ * ((y : Int) + 1) ≤ eachI ρ * x := Int.mul_le_mul_of_nonneg_left (by omega) (by omega)
      rw [Int.mul_add, Int.mul_one] at this
      exact this
    omega
/-- the greatest toll with which a trip uses an arc -/
noncomputable def kpI (ρ : Nat → Nat) (m fz t a : Nat) : Int := gr (fun x => useB (stl ρ a x) m (-1) fz t a) (aMx ρ a)
theorem kq_none (hI : Inv ρ) (ha : a < ρ 1) (ht : t < ρ 2) (hu0 : useB (stl ρ a 0) m (-1) fz t a = false) : kpI ρ m fz t a = -1 :=
  gr_none (fun j hj => by
    cases e : useB (stl ρ a j) m (-1) fz t a with
    | false => rfl
    | true => rw [kq_0 hI ha ht hj e] at hu0; cases hu0)
theorem kq_inf (hI : Inv ρ) (ha : a < ρ 1) (ht : t < ρ 2) (hu0 : useB (stl ρ a 0) m (-1) fz t a = true) (hw : dT (stl ρ a 0) m a fz t (pFr ρ t) = none) : kpI ρ m fz t a = aMx ρ a := by
  obtain ⟨z0, hz0⟩ := kq_fin hI ha ht (by omega) hu0
  refine gr_some (Nat.le_refl _) ?_ (fun j h1 h2 => by omega)
  cases e : useB (stl ρ a (aMx ρ a)) m (-1) fz t a with
  | true => rfl
  | false =>
    obtain ⟨zi, hzi, -⟩ := (kq_U hI ha ht hz0 hu0 (Nat.le_refl _)).2 e
    rw [hw] at hzi
    cases hzi
theorem kq_fin2 (hI : Inv ρ) (ha : a < ρ 1) (ht : t < ρ 2) (hu0 : useB (stl ρ a 0) m (-1) fz t a = true) {z0 zi : Int} (hz0 : dT (stl ρ a 0) m (-1) fz t (pFr ρ t) = some z0) (hw : dT (stl ρ a 0) m a fz t (pFr ρ t) = some zi) :
    z0 ≤ zi ∧ ((aMx ρ a : Int) < (zi - z0) / eachI ρ → kpI ρ m fz t a = aMx ρ a) ∧ (∀ q : Nat, (q : Int) = (zi - z0) / eachI ρ → q ≤ aMx ρ a → kpI ρ m fz t a = if useB (stl ρ a q) m (-1) fz t a then (q : Int) else (q : Int) - 1) := by
  have hE := eachI_rng ρ
  have H0 := (kq_U hI ha ht hz0 hu0 (x := 0) (by omega)).1 hu0 zi hw
  simp only [Int.natCast_zero, Int.mul_zero, Int.add_zero] at H0
  have hdm := Int.mul_ediv_add_emod (zi - z0) (eachI ρ)
  have hm0 := Int.emod_nonneg (zi - z0) (show eachI ρ ≠ 0 by omega)
  have hm1 := Int.emod_lt_of_pos (zi - z0) (show 0 < eachI ρ by omega)
  have up : ∀ x : Nat, x ≤ aMx ρ a → (x : Int) < (zi - z0) / eachI ρ → useB (stl ρ a x) m (-1) fz t a = true := by
    intro x hx hlt
    cases e : useB (stl ρ a x) m (-1) fz t a with
    | true => rfl
    | false =>
      obtain ⟨zi', hzi', hle⟩ := (kq_U hI ha ht hz0 hu0 hx).2 e
      rw [hw] at hzi'
      cases hzi'
      have h3 : eachI ρ * (x : Int) + eachI ρ ≤ eachI ρ * ((zi - z0) / eachI ρ) := by
        have : eachI ρ * ((x : Int) + 1) ≤ eachI ρ * ((zi - z0) / eachI ρ) := Int.mul_le_mul_of_nonneg_left (by omega) (by omega)
        rw [Int.mul_add, Int.mul_one] at this
        exact this
      omega
  have dn : ∀ x : Nat, x ≤ aMx ρ a → (zi - z0) / eachI ρ < (x : Int) → useB (stl ρ a x) m (-1) fz t a = false := by
    intro x hx hlt
    cases e : useB (stl ρ a x) m (-1) fz t a with
    | false => rfl
    | true =>
      have hle := (kq_U hI ha ht hz0 hu0 hx).1 e zi hw
      have h3 : eachI ρ * ((zi - z0) / eachI ρ) + eachI ρ ≤ eachI ρ * (x : Int) := by
        have : eachI ρ * ((zi - z0) / eachI ρ + 1) ≤ eachI ρ * (x : Int) := Int.mul_le_mul_of_nonneg_left (by omega) (by omega)
        rw [Int.mul_add, Int.mul_one] at this
        exact this
      omega
  refine ⟨H0, fun hlt => gr_some (Nat.le_refl _) (up _ (Nat.le_refl _) hlt) (fun j h1 h2 => by omega), fun q hq hqM => ?_⟩
  split
  next hh => exact gr_some hqM hh (fun j h1 h2 => dn j h2 (by omega))
  next hh =>
    have hq0 : q ≠ 0 := fun e => by subst e; exact hh hu0
    have := gr_some (U := fun x => useB (stl ρ a x) m (-1) fz t a) (n := aMx ρ a) (k := q - 1) (by omega) (up _ (by omega) (by omega)) (fun j h1 h2 => by
      by_cases e : j = q
      · subst e; simpa using hh
      · exact dn j h2 (by omega))
    unfold kpI
    rw [this]
    omega
end
