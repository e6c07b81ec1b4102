/-! Plain law: the next best path, two ways -/
section
variable {ρ : Nat → Nat} {t m fz : Nat} {aw : Int}
theorem pT_nil {n : Nat} (hn : n = pTo ρ t) : pT ρ m aw fz t n = [] := by
  unfold pT ptA pth
  rw [if_pos hn]
theorem pT_stp (hI : Inv ρ) (ht : t < ρ 2) {n : Nat} {z : Int} (hz : dT ρ m aw fz t n = some z) (hn : n ≠ pTo ρ t) :
    ∃ b y, pT ρ m aw fz t n = b :: pT ρ m aw fz t (aTo ρ b) ∧ b < ρ 1 ∧ aFr ρ b = n ∧ uT ρ m aw fz b ∧ dT ρ m aw fz t (aTo ρ b) = some y ∧ y < z ∧ 0 ≤ y := by
  have h := tw_GN (m := m) (aw := aw) (fz := fz) hI ht
  have hs := sgn_wB ρ
  obtain ⟨g1, g2, g3, g4, -, g5⟩ := nA_ok h hs hz hn
  obtain ⟨x, y, hx, hy, hxy⟩ := tgt_iff.mp g4
  rw [g2] at hxy
  have hz' : dA (ρ 1) (aFr ρ) (aTo ρ) (uT ρ m aw fz) (feI ρ (pVa ρ t)) (tlI ρ) (sgn ρ) (pTo ρ t) n = some z := hz
  rw [hz'] at hxy
  have hxy := Option.some.inj hxy
  obtain ⟨ua, ex⟩ := (wcd_some _ _).mp hx
  have d := h.2.2.1 _ g1
  have := wA_rng hs _ _ d.1 d.2.1 d.2.2.1 d.2.2.2
  have hy0 := (dA_sol h hs).1.2.2.2 _ _ hy
  exact ⟨_, y, ptA_cons h hs hz hn, g1, g2, g3, hy, by omega, hy0⟩
theorem pT_dec (hI : Inv ρ) (ht : t < ρ 2) : ∀ (k n : Nat) (z : Int), z.toNat < k → 0 ≤ z → dT ρ m aw fz t n = some z → ∀ b ∈ pT ρ m aw fz t n, (∃ y, dT ρ m aw fz t (aFr ρ b) = some y ∧ y ≤ z) ∧ (∃ y, dT ρ m aw fz t (aTo ρ b) = some y ∧ y < z) ∧ aFr ρ b ≠ pTo ρ t
  | 0, n, z, h, _, _ => by omega
  | k + 1, n, z, h, h0, hz => by
    intro b hb
    by_cases hn : n = pTo ρ t
    · rw [pT_nil hn] at hb; cases hb
    · obtain ⟨b0, y, e1, e2, e3, e4, e5, e6, e7⟩ := pT_stp hI ht hz hn
      rw [e1] at hb
      rcases List.mem_cons.mp hb with rfl | hb
      · exact ⟨⟨z, by rw [e3]; exact hz, Int.le_refl _⟩, ⟨y, e5, e6⟩, by rw [e3]; exact hn⟩
      · obtain ⟨⟨y1, f1, f2⟩, ⟨y2, f3, f4⟩, f5⟩ := pT_dec hI ht k _ y (by omega) e7 e5 b hb
        exact ⟨⟨y1, f1, by omega⟩, ⟨y2, f3, by omega⟩, f5⟩
theorem dT_nn (hI : Inv ρ) (ht : t < ρ 2) {n : Nat} {z : Int} (hz : dT ρ m aw fz t n = some z) : 0 ≤ z := (dA_sol (tw_GN (m := m) (aw := aw) (fz := fz) hI ht) (sgn_wB ρ)).1.2.2.2 _ _ hz
theorem pmk_bit (p : List Nat) (n : Nat) : ∀ j, (pmk ρ t p j).testBit n = true ↔ ∃ i, i < j ∧ nd ρ t p i = n
  | 0 => by
    unfold pmk
    rw [Nat.zero_testBit]
    exact ⟨(fun h => by cases h), fun ⟨i, hi, _⟩ => by omega⟩
  | j + 1 => by
    unfold pmk
    rw [Nat.testBit_or, Bool.or_eq_true, pmk_bit p n j, Nat.testBit_two_pow, decide_eq_true_eq]
    constructor
    · rintro (⟨i, hi, e⟩ | e)
      · exact ⟨i, by omega, e⟩
      · exact ⟨j, by omega, e⟩
    · rintro ⟨i, hi, e⟩
      by_cases c : i = j
      · subst c; exact .inr e
      · exact .inl ⟨i, by omega, e⟩
theorem isP_fr {fr to : Nat → Nat} {e : Nat} : ∀ (p : List Nat) (n : Nat), isP fr to e n p → ∀ k, k < p.length → fr (p.getD k 0) = if k = 0 then n else to (p.getD (k - 1) 0)
  | [], _, _, k, hk => by simp at hk
  | a :: p, n, h, 0, _ => h.1
  | a :: p, n, h, k + 1, hk => by
    rw [if_neg (by omega)]
    have := isP_fr p (to a) h.2 k (by simpa using hk)
    by_cases c : k = 0
    · subst c; rw [if_pos rfl] at this; exact this
    · rw [if_neg c] at this
      obtain ⟨k', rfl⟩ : ∃ k', k = k' + 1 := ⟨k - 1, by omega⟩
      exact this
theorem isP_app {fr to : Nat → Nat} {e : Nat} : ∀ (p l : List Nat) (n k : Nat), isP fr to e n p → k ≤ p.length → isP fr to e (if k = 0 then n else to (p.getD (k - 1) 0)) l → isP fr to e n (p.take k ++ l)
  | p, l, n, 0, h, _, hl => hl
  | [], l, n, k + 1, h, hk, hl => by simp at hk
  | a :: p, l, n, k + 1, h, hk, hl => by
    refine ⟨h.1, isP_app p l (to a) k h.2 (by simpa using hk) ?_⟩
    rw [if_neg (by omega)] at hl
    by_cases c : k = 0
    · subst c; rw [if_pos rfl]; exact hl
    · rw [if_neg c]
      obtain ⟨k', rfl⟩ : ∃ k', k = k' + 1 := ⟨k - 1, by omega⟩
      exact hl
theorem lsum_app (f : Nat → Int) : ∀ l l' : List Nat, lsum f (l ++ l') = lsum f l + lsum f l'
  | [], l' => by simp [lsum]
  | a :: l, l' => by
    rw [List.cons_append, lsum, lsum, lsum_app f l l']
    omega
theorem psm_take (p : List Nat) : ∀ k, k ≤ p.length → (psm ρ t p k : Int) = lsum (feI ρ (pVa ρ t)) (p.take k)
  | 0, _ => rfl
  | k + 1, h => by
    have ih := psm_take p k (by omega)
    rw [show p.take (k + 1) = p.take k ++ [p.getD k 0] from by
      rw [List.take_succ, List.getD_eq_getElem?_getD, List.getElem?_eq_getElem (by omega)]
      rfl, lsum_app, ← ih]
    show ((psm ρ t p k + feN ρ (pVa ρ t) (p.getD k 0) : Nat) : Int) = _
    unfold lsum lsum feI
    omega
/-- a path without one of the own arcs leaves the own path somewhere -/
theorem mrg_dev (hI : Inv ρ) (ht : t < ρ 2) {p : List Nat} (hp : isP (aFr ρ) (aTo ρ) (pTo ρ t) (pFr ρ t) p) (hne : ∀ b ∈ p, aFr ρ b ≠ pTo ρ t) {k : Nat} (hk : k < p.length) {y : Int} (hy : lT ρ 0 (p.getD k 0) 0 t (pFr ρ t) = some y) :
    ∃ j v, j ≤ k ∧ lT ρ (pmk ρ t p j) (p.getD j 0) 0 t (nd ρ t p j) = some v ∧ (psm ρ t p j : Int) + v ≤ y := by
  obtain ⟨⟨c, hc⟩, rfl, h2, h3⟩ := lT_pth hI ht hy
  have main : ∀ d j : Nat, d + j = k → ∀ z, dT ρ 0 (p.getD k 0) 0 t (nd ρ t p j) = some z → (∀ i, i < j → ∃ z', dT ρ 0 (p.getD k 0) 0 t (nd ρ t p i) = some z' ∧ z < z') → lsum (feI ρ (pVa ρ t)) (pT ρ 0 (p.getD k 0) 0 t (pFr ρ t)) = psm ρ t p j + lsum (feI ρ (pVa ρ t)) (pT ρ 0 (p.getD k 0) 0 t (nd ρ t p j)) →
      ∃ j v, j ≤ k ∧ lT ρ (pmk ρ t p j) (p.getD j 0) 0 t (nd ρ t p j) = some v ∧ (psm ρ t p j : Int) + v ≤ lsum (feI ρ (pVa ρ t)) (pT ρ 0 (p.getD k 0) 0 t (pFr ρ t)) := by
    intro d
    induction d with
    | zero =>
      intro j hj z hz hd he
      have ej : j = k := by omega
      subst ej
      have fj := isP_fr p _ hp j hk
      have fn : aFr ρ (p.getD j 0) = nd ρ t p j := fj
      have nn : nd ρ t p j ≠ pTo ρ t := by rw [← fn]; exact hne _ (getD_mem hk)
      obtain ⟨b0, y0, e1, e2, e3, e4, e5, e6, e7⟩ := pT_stp hI ht hz nn
      obtain ⟨v, hv, hle⟩ := lT_min (m := pmk ρ t p j) (aw := p.getD j 0) (fz := 0) hI ht (n := nd ρ t p j) (l := pT ρ 0 (p.getD j 0) 0 t (nd ρ t p j)) (by
        have := dT_cod hI ht hz
        exact this.2.1) (fun b hb => by
        obtain ⟨⟨y1, f1, f2⟩, ⟨y2, f3, f4⟩, f5⟩ := pT_dec hI ht _ _ z (Nat.lt_succ_self _) (dT_nn hI ht hz) hz b hb
        have hu := (dT_cod hI ht hz).2.2.1 b hb
        refine ⟨hu.1, hu.2.1, ?_, ?_, hu.2.2.2.2⟩
        · cases e : (pmk ρ t p j).testBit (aFr ρ b) with
          | false => rfl
          | true =>
            obtain ⟨i, hi, ei⟩ := (pmk_bit p _ j).mp e
            obtain ⟨z', g1, g2⟩ := hd i hi
            rw [ei, f1] at g1
            have := Option.some.inj g1
            omega
        · cases e : (pmk ρ t p j).testBit (aTo ρ b) with
          | false => rfl
          | true =>
            obtain ⟨i, hi, ei⟩ := (pmk_bit p _ j).mp e
            obtain ⟨z', g1, g2⟩ := hd i hi
            rw [ei, f3] at g1
            have := Option.some.inj g1
            omega)
      exact ⟨j, v, Nat.le_refl _, hv, by omega⟩
    | succ d ih =>
      intro j hj z hz hd he
      have hjl : j < p.length := by omega
      have fn : aFr ρ (p.getD j 0) = nd ρ t p j := isP_fr p _ hp j hjl
      have nn : nd ρ t p j ≠ pTo ρ t := by rw [← fn]; exact hne _ (getD_mem hjl)
      obtain ⟨b0, y0, e1, e2, e3, e4, e5, e6, e7⟩ := pT_stp hI ht hz nn
      by_cases eb : b0 = p.getD j 0
      · have en : nd ρ t p (j + 1) = aTo ρ b0 := by
          unfold nd
          rw [if_neg (by omega), eb]
          rfl
        refine ih (j + 1) (by omega) y0 (by rw [en]; exact e5) (fun i hi => ?_) ?_
        · by_cases c : i = j
          · subst c; exact ⟨z, hz, e6⟩
          · obtain ⟨z', g1, g2⟩ := hd i (by omega)
            exact ⟨z', g1, by omega⟩
        · have hps : (psm ρ t p (j + 1) : Int) = (psm ρ t p j : Int) + feI ρ (pVa ρ t) (p.getD j 0) := Int.natCast_add _ _
          rw [he, en, e1, lsum, hps, eb]
          omega
      · obtain ⟨v, hv, hle⟩ := lT_min (m := pmk ρ t p j) (aw := p.getD j 0) (fz := 0) hI ht (n := nd ρ t p j) (l := pT ρ 0 (p.getD k 0) 0 t (nd ρ t p j)) (by
          have := dT_cod hI ht hz
          exact this.2.1) (fun b hb => by
          obtain ⟨⟨y1, f1, f2⟩, ⟨y2, f3, f4⟩, f5⟩ := pT_dec hI ht _ _ z (Nat.lt_succ_self _) (dT_nn hI ht hz) hz b hb
          have hu := (dT_cod hI ht hz).2.2.1 b hb
          have hbn : b ≠ p.getD j 0 := by
            rw [e1] at hb
            rcases List.mem_cons.mp hb with rfl | hb
            · exact eb
            · obtain ⟨⟨y3, g1, g2⟩, -⟩ := pT_dec hI ht _ _ y0 (Nat.lt_succ_self _) e7 e5 b hb
              intro ebb
              rw [ebb, fn, hz] at g1
              have := Option.some.inj g1
              omega
          refine ⟨hu.1, fun e => hbn (by omega), ?_, ?_, hu.2.2.2.2⟩
          · cases e : (pmk ρ t p j).testBit (aFr ρ b) with
            | false => rfl
            | true =>
              obtain ⟨i, hi, ei⟩ := (pmk_bit p _ j).mp e
              obtain ⟨z', g1, g2⟩ := hd i hi
              rw [ei, f1] at g1
              have := Option.some.inj g1
              omega
          · cases e : (pmk ρ t p j).testBit (aTo ρ b) with
            | false => rfl
            | true =>
              obtain ⟨i, hi, ei⟩ := (pmk_bit p _ j).mp e
              obtain ⟨z', g1, g2⟩ := hd i hi
              rw [ei, f3] at g1
              have := Option.some.inj g1
              omega)
        exact ⟨j, v, by omega, hv, by omega⟩
  refine main k 0 (by omega) c hc (fun i hi => by omega) ?_
  show _ = ((0 : Nat) : Int) + lsum _ (pT ρ 0 (p.getD k 0) 0 t (pFr ρ t))
  omega
/-- a way off the own path goes without an own arc -/
theorem mrg_own (hI : Inv ρ) (ht : t < ρ 2) {p : List Nat} (hp : isP (aFr ρ) (aTo ρ) (pTo ρ t) (pFr ρ t) p) (hu : ∀ b ∈ p, uT ρ 0 (-1) 0 b) (hnd : p.Nodup) {k : Nat} (hk : k < p.length) {v : Int} (hv : lT ρ (pmk ρ t p k) (p.getD k 0) 0 t (nd ρ t p k) = some v) :
    ∃ y, lT ρ 0 (p.getD k 0) 0 t (pFr ρ t) = some y ∧ y ≤ psm ρ t p k + v := by
  obtain ⟨-, rfl, h2, h3⟩ := lT_pth hI ht hv
  obtain ⟨y, hy, hle⟩ := lT_min (m := 0) (aw := p.getD k 0) (fz := 0) hI ht (n := pFr ρ t) (l := p.take k ++ pT ρ (pmk ρ t p k) (p.getD k 0) 0 t (nd ρ t p k)) (isP_app p _ _ k hp (by omega) h2) (fun b hb => by
    rcases List.mem_append.mp hb with hb | hb
    · have u1 := hu b (List.mem_of_mem_take hb)
      refine ⟨u1.1, fun e => ?_, u1.2.2⟩
      have e' : b = p.getD k 0 := by omega
      obtain ⟨i, hi, ei⟩ := List.getElem_of_mem hb
      rw [List.length_take] at hi
      rw [List.getElem_take, e', List.getD_eq_getElem?_getD, List.getElem?_eq_getElem hk] at ei
      exact List.pairwise_iff_getElem.mp hnd i k (by omega) hk (by omega) ei
    · have u1 := h3 b hb
      exact ⟨u1.1, u1.2.1, Nat.zero_testBit _, Nat.zero_testBit _, u1.2.2.2.2⟩)
  rw [lsum_app, ← psm_take p k (by omega)] at hle
  exact ⟨y, hy, hle⟩
end
