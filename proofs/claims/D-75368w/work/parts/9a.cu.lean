/-! Plain law: the component's detour, margin -/
/-- the smallest that is felt without one of some arcs -/
def MnC (ρ : Nat → Nat) (t : Nat) (P : Nat → Prop) (o : Option Int) : Prop := (o = none ∧ ∀ k : Nat, P k → lT ρ 0 k 0 t (pFr ρ t) = none) ∨ ∃ k : Nat, ∃ y : Int, P k ∧ o = some y ∧ lT ρ 0 k 0 t (pFr ρ t) = some y ∧ ∀ k' : Nat, P k' → ∀ y', lT ρ 0 k' 0 t (pFr ρ t) = some y' → y ≤ y'
theorem MnC.uniq {ρ : Nat → Nat} {t : Nat} {P : Nat → Prop} {o o' : Option Int} (h : MnC ρ t P o) (h' : MnC ρ t P o') : o = o' := by
  rcases h with ⟨h1, h2⟩ | ⟨k, y, h1, h2, h3, h4⟩
  · rcases h' with ⟨g1, g2⟩ | ⟨k', y', g1, g2, g3, g4⟩
    · rw [h1, g1]
    · rw [h2 k' g1] at g3; cases g3
  · rcases h' with ⟨g1, g2⟩ | ⟨k', y', g1, g2, g3, g4⟩
    · rw [g2 k h1] at h3; cases h3
    · have a1 := h4 k' g1 y' g3
      have a2 := g4 k h1 y h3
      rw [h2, g2, show y = y' by omega]
theorem MnC.congr {ρ : Nat → Nat} {t : Nat} {P P' : Nat → Prop} {o : Option Int} (h : MnC ρ t P o) (hP : ∀ k, P k ↔ P' k) : MnC ρ t P' o := by
  rw [show P' = P from funext fun k => propext (hP k).symm]
  exact h
def mnO (o o' : Option Int) : Option Int := match o, o' with
  | none, o' => o'
  | some y, none => some y
  | some y, some y' => if y' < y then some y' else some y
theorem MnC.add {ρ : Nat → Nat} {t : Nat} {P : Nat → Prop} {o : Option Int} (h : MnC ρ t P o) (k : Nat) : MnC ρ t (fun j => P j ∨ j = k) (mnO o (lT ρ 0 k 0 t (pFr ρ t))) := by
  rcases h with ⟨rfl, h2⟩ | ⟨k0, y, h1, rfl, h3, h4⟩
  · cases e : lT ρ 0 k 0 t (pFr ρ t) with
    | none => exact .inl ⟨rfl, fun j hj => by rcases hj with hj | rfl; exact h2 j hj; exact e⟩
    | some y => exact .inr ⟨k, y, .inr rfl, rfl, e, fun j hj y' hy => by
        rcases hj with hj | rfl
        · rw [h2 j hj] at hy; cases hy
        · rw [e] at hy; cases hy; exact Int.le_refl _⟩
  · cases e : lT ρ 0 k 0 t (pFr ρ t) with
    | none => exact .inr ⟨k0, y, .inl h1, rfl, h3, fun j hj y' hy => by
        rcases hj with hj | rfl
        · exact h4 j hj y' hy
        · rw [e] at hy; cases hy⟩
    | some z =>
      show MnC ρ t _ (if z < y then some z else some y)
      by_cases c : z < y
      · rw [if_pos c]
        exact .inr ⟨k, z, .inr rfl, rfl, e, fun j hj y' hy => by
          rcases hj with hj | rfl
          · have := h4 j hj y' hy; omega
          · rw [e] at hy; cases hy; exact Int.le_refl _⟩
      · rw [if_neg c]
        exact .inr ⟨k0, y, .inl h1, rfl, h3, fun j hj y' hy => by
          rcases hj with hj | rfl
          · exact h4 j hj y' hy
          · rw [e] at hy; cases hy; omega⟩
theorem FAR_v : FAR = 2305843009213693951 := rfl
section
variable {w : WH} {x s q F : Nat} {ρ : Nat → Nat} {ν : NH} {t a : Nat}
theorem lTa_rng (hI : Inv ρ) (ht : t < ρ 2) {n : Nat} {y : Int} {aw : Int} (h : lT ρ 0 aw 0 t n = some y) : 0 ≤ y ∧ y ≤ 300000 := by
  have := lT_rng hI ht h
  omega
theorem lTa_in (hI : Inv ρ) (ht : t < ρ 2) (ha : a < ρ 1) : inF (lT ρ 0 a 0 t (pFr ρ t)) := by
  have b24 : a < 24 := by have := hI.h1; omega
  have := dW_in (ρ := scl ρ a 1) (k := 6) (t := t) (hI.scl ha (Nat.le_refl 1)) (by rw [scl_low ρ a 1 (by omega)]; exact ht) (pFr ρ t)
  rw [dW6, lT_scl ρ b24] at this
  exact this
theorem mnL_enc {o o' : Option Int} (h : ∀ y, o = some y → 0 ≤ y ∧ y ≤ 300000) (h' : ∀ y, o' = some y → 0 ≤ y ∧ y ≤ 300000) : mnL (encF o) (encF o') = encF (mnO o o') := by
  have f := FAR_v
  have key : ∀ a b : Int, bJ a → bJ b → mnL (zJ a) (zJ b) = zJ (if b < a then b else a) := fun a b ha hb => by
    unfold mnL
    by_cases c : b < a
    · rw [if_pos ((zJ_lt hb ha).mpr c), if_pos c]
    · rw [if_neg (fun g => c ((zJ_lt hb ha).mp g)), if_neg c]
  have eN : encF none = zJ FAR := rfl
  cases o with
  | none =>
    cases o' with
    | none =>
      rw [eN, key _ _ ⟨by omega, by omega⟩ ⟨by omega, by omega⟩, if_neg (Int.lt_irrefl _)]
      rfl
    | some y' =>
      have := h' y' rfl
      rw [eN, encF_some, key _ _ ⟨by omega, by omega⟩ ⟨by omega, by omega⟩, if_pos (by omega)]
      exact (encF_some _).symm
  | some y =>
    have b1 := h y rfl
    cases o' with
    | none =>
      rw [eN, encF_some, key _ _ ⟨by omega, by omega⟩ ⟨by omega, by omega⟩, if_neg (by omega)]
      exact (encF_some _).symm
    | some y' =>
      have b2 := h' y' rfl
      rw [encF_some, encF_some, key _ _ ⟨by omega, by omega⟩ ⟨by omega, by omega⟩]
      show _ = encF (if y' < y then some y' else some y)
      by_cases c : y' < y
      · rw [if_pos c, if_pos c]; exact (encF_some _).symm
      · rw [if_neg c, if_neg c]; exact (encF_some _).symm
theorem lT_min {m fz : Nat} {aw : Int} (hI : Inv ρ) (ht : t < ρ 2) {n : Nat} {l : List Nat} (hp : isP (aFr ρ) (aTo ρ) (pTo ρ t) n l) (hu : ∀ a ∈ l, uT ρ m aw fz a) : ∃ z, lT ρ m aw fz t n = some z ∧ z ≤ lsum (feI ρ (pVa ρ t)) l := by
  obtain ⟨z, hz, hle⟩ := (dC_sol (tw_GN (m := m) (aw := aw) (fz := fz) hI ht)).1.path l n hp (fun a ha => ⟨(hu a ha).1, _, wcd_pos (hu a ha)⟩)
  rw [wsum_code l hu] at hle
  exact ⟨z, hz, by omega⟩
theorem lT_pth {m fz : Nat} {aw : Int} (hI : Inv ρ) (ht : t < ρ 2) {n : Nat} {y : Int} (h : lT ρ m aw fz t n = some y) : (∃ z, dT ρ m aw fz t n = some z) ∧ y = lsum (feI ρ (pVa ρ t)) (pT ρ m aw fz t n) ∧ isP (aFr ρ) (aTo ρ) (pTo ρ t) n (pT ρ m aw fz t n) ∧ ∀ a ∈ pT ρ m aw fz t n, uT ρ m aw fz a := by
  rw [lT_eq hI ht] at h
  cases hd : dT ρ m aw fz t n with
  | none => rw [hd] at h; cases h
  | some c =>
    rw [hd] at h
    obtain ⟨h1, h2, h3, h4⟩ := dT_cod hI ht hd
    exact ⟨⟨c, rfl⟩, (Option.some.inj h).symm, h2, h3⟩
theorem lT_mono {o : Nat} (hI : Inv ρ) (ht : t < ρ 2) {y : Int} (h : lT ρ 0 o 0 t (pFr ρ t) = some y) : ∃ z, lT ρ 0 (-1) 0 t (pFr ρ t) = some z ∧ z ≤ y := by
  obtain ⟨-, rfl, h2, h3⟩ := lT_pth hI ht h
  exact lT_min hI ht h2 (fun b hb => by
    have := h3 b hb
    exact ⟨this.1, by omega, this.2.2⟩)
theorem c_dtr (h : MR w x F s q ν ρ) (ht : t < ρ 2) (ha : a < ρ 1) : ∃ w', fX1_detour x (zN t) (zN a) w = some (.inl (zI (dtrI ρ t a)), w') ∧ Kf w w' F := by
  have hI := h.inv
  have eF : (2305843009213693951 : Int64) = zJ FAR := rfl
  obtain ⟨w1, e1, k1⟩ := c_fwo h ht ha
  have h1 := h.kf k1
  obtain ⟨w2, e2, k2⟩ := c_fltBy h1 ht
  have c1 := encF_eq (lTa_in hI ht ha)
  unfold dtrI
  cases hy : lT ρ 0 a 0 t (pFr ρ t) with
  | none =>
    rw [hy] at e1 c1
    dsimp only
    generalize encF none = v at e1 c1
    refine ⟨w1, ?_, k1⟩
    simp (disch := omega) only [b2_some, bd_some, nm_eq, Option.map_some, zN_lit, zN_add, zN_mul, zN_neg1, if_true, if_false, reduceIte, eq_self, Nat.reduceEqDiff, Nat.reduceAdd, Nat.reduceMul, Nat.reduceSub, Nat.reduceLeDiff, Nat.one_ne_zero, not_false_eq_true, Bool.false_eq_true, zN_eq, zN_lt, zN_le,  fX1_detour, h.xI, c_isP1 h ht, c_isA1 h ha, fX1_detour_b21, c_rq1, ex_, h.g0, h.g1, h.xI, h.1.FI, c_snet h.1.2.1, c_sI h.1.2.1, c_nal h.1.2.2.1, c_ntl h.1.2.2.1, c_nn h.1.2.2.1, c_alI h.1.2.2.1, c_tlI h.1.2.2.1, c_size h.1.2.2.1, c_size2 h.1.2.2.1, c_gett h.1.2.2.1 hI ht, c_tI h.1.2.2.1 ht, e1, eF, c1]
  | some y =>
    obtain ⟨z, hz, -⟩ := lT_mono hI ht hy
    rw [hy] at e1 c1
    rw [hz] at e2
    rw [encF_some] at e1 c1 e2
    dsimp only
    have ez : lI ρ 0 (-1) 0 t (pFr ρ t) = z := by unfold lI; rw [hz]; rfl
    rw [ez]
    have c2 : (some y = (none : Option Int)) = False := eq_false (by simp)
    rw [c2] at c1
    refine ⟨w2, ?_, k1.trans k2⟩
    simp (disch := omega) only [b2_some, bd_some, nm_eq, Option.map_some, zN_lit, zN_add, zN_mul, zN_neg1, if_true, if_false, reduceIte, eq_self, Nat.reduceEqDiff, Nat.reduceAdd, Nat.reduceMul, Nat.reduceSub, Nat.reduceLeDiff, Nat.one_ne_zero, not_false_eq_true, Bool.false_eq_true, zN_eq, zN_lt, zN_le,  fX1_detour, h.xI, c_isP1 h ht, c_isA1 h ha, fX1_detour_b21, c_rq1, ex_, h.g0, h.g1, h.xI, h.1.FI, c_snet h.1.2.1, c_sI h.1.2.1, c_nal h.1.2.2.1, c_ntl h.1.2.2.1, c_nn h.1.2.2.1, c_alI h.1.2.2.1, c_tlI h.1.2.2.1, c_size h.1.2.2.1, c_size2 h.1.2.2.1, c_gett h.1.2.2.1 hI ht, c_tI h.1.2.2.1 ht, e1, eF, c1, h1.xI, e2, zJ_sub, zJ_I]
end
