/-! Plain law: builders: numbers, words -/
section
variable {w w' : WH} {F b V cap : Nat} {o : List Nat}
theorem sz_step {v P k : Nat} (hv : v ≤ 9999) (hP : P ≤ 100000) (hk : k < 10) : fJ16_stringSize_b16 (zI (-(v : Int))) (zN 0) (zI (-(P : Int))) (zN k) w = if P ≤ v then some (.inl (zI (-((10 * P : Nat) : Int)), zN (k + 1), w)) else some (.inr (zN k, w)) := by
  have n1 : ¬ (10 ≤ k) := by omega
  have c1 : (zI (-(v : Int)) ≤ zI (-(P : Int))) = (P ≤ v) := by
    rw [zI_le (by omega) (by omega)]
    exact propext ⟨fun h => by omega, fun h => by omega⟩
  have e1 : zN 10 * zI (-(P : Int)) = zI (-((10 * P : Nat) : Int)) := by
    rw [← zI_cast, zI_mul]
    congr 1
    omega
  by_cases c : P ≤ v
  · rw [if_pos c]
    rw [eq_true c] at c1
    simp (disch := omega) only [b2_some, bd_some, nm_eq, Option.map_some, zN_lit, zN_add, zN_mul, zN_neg1, if_true, if_false, reduceIte, eq_self, Nat.reduceEqDiff, Nat.reduceAdd, Nat.reduceMul, Nat.reduceSub, Nat.reduceLeDiff, Nat.one_ne_zero, not_false_eq_true, Bool.false_eq_true, zN_eq, zN_lt, zN_le,  fJ16_stringSize_b16, n1, c1, e1]
  · rw [if_neg c]
    rw [eq_false c] at c1
    simp (disch := omega) only [b2_some, bd_some, nm_eq, Option.map_some, zN_lit, zN_add, zN_mul, zN_neg1, if_true, if_false, reduceIte, eq_self, Nat.reduceEqDiff, Nat.reduceAdd, Nat.reduceMul, Nat.reduceSub, Nat.reduceLeDiff, Nat.one_ne_zero, not_false_eq_true, Bool.false_eq_true, zN_eq, zN_lt, zN_le,  fJ16_stringSize_b16, n1, c1, fJ16_stringSize_b27, Nat.add_zero]
theorem c_ssz {v : Nat} (hv : v ≤ 9999) : fJ16_stringSize (zN v) w = some (zN (dgs v).length, w) := by
  have n1 : ¬ (v < 0) := by omega
  have e1 : -zN v = zI (-(v : Int)) := zI_neg _
  have e2 : (-10 : Int32) = zI (-((10 : Nat) : Int)) := rfl
  have st : ∀ (P k : Nat), P ≤ 100000 → k < 10 → whileO (fun q : Int32 × Int32 × WH => fJ16_stringSize_b16 (zI (-(v : Int))) (zN 0) q.1 q.2.1 q.2.2) (zI (-(P : Int)), zN k, w) = if P ≤ v then whileO (fun q : Int32 × Int32 × WH => fJ16_stringSize_b16 (zI (-(v : Int))) (zN 0) q.1 q.2.1 q.2.2) (zI (-((10 * P : Nat) : Int)), zN (k + 1), w) else some (zN k, w) := by
    intro P k hP hk
    have s := sz_step (w := w) hv hP hk
    by_cases c : P ≤ v
    · rw [if_pos c] at s ⊢
      exact wh_inl s
    · rw [if_neg c] at s ⊢
      exact wh_inr s
  have fin : fJ16_stringSize_l16 (zI (-(v : Int))) (zN 0) (zI (-((10 : Nat) : Int))) (zN 1) w = some (zN (dgs v).length, w) := by
    unfold fJ16_stringSize_l16
    rw [st 10 1 (by omega) (by omega)]
    unfold dgs
    by_cases c1 : v < 10
    · rw [if_pos c1, if_neg (by omega)]; rfl
    · rw [if_neg c1, if_pos (by omega), st 100 2 (by omega) (by omega)]
      by_cases c2 : v < 100
      · rw [if_pos c2, if_neg (by omega)]; rfl
      · rw [if_neg c2, if_pos (by omega), st 1000 3 (by omega) (by omega)]
        by_cases c3 : v < 1000
        · rw [if_pos c3, if_neg (by omega)]; rfl
        · rw [if_neg c3, if_pos (by omega), st 10000 4 (by omega) (by omega), if_neg (by omega)]; rfl
  unfold fJ16_stringSize fJ16_stringSize_b11
  rw [if_neg (by rw [show (0 : Int32) = zN 0 from rfl, zN_lt (by omega) (by omega)]; omega), nm_eq, e1, e2]
  exact fin
theorem zI_dv {v : Nat} (hv : v ≤ 9999) : zI (-(v : Int)) / zN 100 = zI (-((v / 100 : Nat) : Int)) := by
  apply Int32.toInt_inj.mp
  rw [Int32.toInt_div, zI_toInt (by omega), zI_toInt (by omega), show (zN 100).toInt = 100 from rfl, Int.neg_tdiv, show ((100 : Int)) = ((100 : Nat) : Int) from rfl, ← Int.ofNat_tdiv]
  exact Int.bmod_eq_of_le (by omega) (by omega)
/-- the world with another array -/
def wBy (w : WH) (V cap : Nat) (g : Nat → Int32) : WH := hUp w V (bytC cap g)
theorem wBy_V (w : WH) (V cap : Nat) (g : Nat → Int32) : (wBy w V cap g).1 V = some (bytC cap g) := hUp_eq _ _ _
theorem wBy_wB (w : WH) (V cap : Nat) (g g' : Nat → Int32) : wBy (wBy w V cap g) V cap g' = wBy w V cap g' := hUp_hUp _ _ _ _
theorem wBy_st {g : Nat → Int32} {k : Nat} (hk : k < cap) (hc : cap ≤ 65536) (x : Int32) : stI (wBy w V cap g) V 2 (zN k) x = some (wBy w V cap (upd g k x)) := by
  have := c_stI (wBy_V w V cap g) hk hc x
  rw [this]
  exact congrArg some (hUp_hUp _ _ _ _)
theorem KN.wBy (h : KN w) {y : hE} (hV : w.1 V = some y) (g : Nat → Int32) : KN (wBy w V cap g) := h.of (fun a ha _ => (hUp_ne _ _ (fun e => by rw [e, hV] at ha; cases ha)).trans ha) (Nat.le_refl _) rfl
/-- the last two digits -/
theorem c_b72 (h : KN w) {y : hE} (hV : w.1 V = some y) {g : Nat → Int32} {i e : Nat} (hi : i < 100) (he : 2 ≤ e ∨ (1 ≤ e ∧ i < 10)) (hec : e ≤ cap) (hc : cap ≤ 60000) :
    ∃ r, fJ16_getChars_b72 (zI (-(i : Int))) V (zN e) (zN 0) (wBy w V cap g) = some (r, wBy w V cap (if i < 10 then upd g (e - 1) (zN (48 + i)) else upd (upd g (e - 1) (zN (48 + i % 10))) (e - 2) (zN (48 + i / 10)))) := by
  have h1 := kn_O (h.wBy (cap := cap) hV g) hi
  have e1 : -zI (-(i : Int)) = zN i := by
    rw [zI_neg, Int.neg_neg]
    rfl
  have d1 := zN_dec (i := e) (by omega)
  have s1 := wBy_st (w := w) (V := V) (cap := cap) (g := g) (k := e - 1) (by omega) (by omega) (zN (48 + i % 10))
  have na := nar_c (48 + i % 10) (by omega)
  have c9 : (zI (-9) ≤ zI (-(i : Int))) = (i < 10) := by
    rw [zI_le (by omega) (by omega)]
    exact propext ⟨fun h => by omega, fun h => by omega⟩
  have z9 : (-9 : Int32) = zI (-9) := rfl
  by_cases c : i < 10
  · rw [if_pos c]
    rw [eq_true c] at c9
    refine ⟨zN (e - 1), ?_⟩
    rw [show i % 10 = i by omega] at na s1 h1
    unfold fJ16_getChars_b72
    rw [e1, h1.1, bd_some, na, show (-1 : Int32) = zI (-1) from rfl, d1, s1, bd_some, z9, if_pos (of_eq_true c9)]
    unfold fJ16_getChars_b104
    rw [if_pos (by decide)]
  · rw [if_neg c]
    rw [eq_false c] at c9
    have h2 := kn_O (h.wBy (cap := cap) hV (upd g (e - 1) (zN (48 + i % 10)))) hi
    have d2 := zN_dec (i := e - 1) (by omega)
    rw [show e - 1 - 1 = e - 2 by omega] at d2
    have s2 := wBy_st (w := w) (V := V) (cap := cap) (g := upd g (e - 1) (zN (48 + i % 10))) (k := e - 2) (by omega) (by omega) (zN (48 + i / 10))
    have nb := nar_c (48 + i / 10) (by omega)
    refine ⟨zN (e - 2), ?_⟩
    unfold fJ16_getChars_b72
    rw [e1, h1.1, bd_some, na, show (-1 : Int32) = zI (-1) from rfl, d1, s1, bd_some, z9, if_neg (of_eq_false c9), h2.2, bd_some, nb, d2, s2, bd_some]
    unfold fJ16_getChars_b104
    rw [if_pos (by decide)]
def dgW (g : Nat → Int32) (e i : Nat) : Nat → Int32 := if i < 10 then upd g (e - 1) (zN (48 + i)) else upd (upd g (e - 1) (zN (48 + i % 10))) (e - 2) (zN (48 + i / 10))
def dgX (g : Nat → Int32) (e v : Nat) : Nat → Int32 := if v < 100 then dgW g e v else dgW (upd (upd g (e - 1) (zN (48 + v % 10))) (e - 2) (zN (48 + v / 10 % 10))) (e - 2) (v / 100)
theorem c_getC (h : KN w) {g : Nat → Int32} (hV : w.1 V = some (bytC cap g)) {v e : Nat} (hv : v ≤ 9999) (he : (dgs v).length ≤ e) (hec : e ≤ cap) (hc : cap ≤ 60000) :
    ∃ r, fJ16_getChars (zN v) (zN e) V w = some (r, wBy w V cap (dgX g e v)) := by
  have e0 : wBy w V cap g = w := hUp_self hV
  have e1 : -zN v = zI (-(v : Int)) := zI_neg _
  have n0 : ((0 : Int32) ≤ zN v) = True := eq_true (by rw [show (0 : Int32) = zN 0 from rfl, zN_le (by omega) (by omega)]; omega)
  have H : ∃ r, fJ16_getChars_l22 (zI (-(v : Int))) V (zN e) (zN 0) w = some (r, wBy w V cap (dgX g e v)) := by
    unfold fJ16_getChars_l22
    have c1 : ∀ i : Nat, i ≤ 9999 → (zI (-100) < zI (-(i : Int))) = (i < 100) := fun i hi => by
      rw [zI_lt (by omega) (by omega)]
      exact propext ⟨fun h => by omega, fun h => by omega⟩
    have z1 : (-100 : Int32) = zI (-100) := rfl
    unfold dgX
    by_cases c : v < 100
    · rw [if_pos c]
      have hl : 2 ≤ e ∨ (1 ≤ e ∧ v < 10) := by
        unfold dgs at he
        by_cases q : v < 10
        · rw [if_pos q] at he; exact .inr ⟨he, q⟩
        · rw [if_neg q, if_pos c] at he; exact .inl he
      obtain ⟨r, er⟩ := c_b72 (cap := cap) h hV (g := g) c hl hec hc
      rw [e0] at er
      refine ⟨r, wh_inr ?_⟩
      show fJ16_getChars_b22 (zI (-(v : Int))) V (zN e) (zN 0) w = _
      unfold fJ16_getChars_b22
      rw [z1, if_pos (by rw [c1 v hv]; exact c), er]
      rfl
    · rw [if_neg c]
      have hl : 3 ≤ e ∧ (4 ≤ e ∨ v < 1000) := by
        unfold dgs at he
        rw [if_neg (by omega), if_neg c] at he
        by_cases q : v < 1000
        · rw [if_pos q] at he; exact ⟨he, .inr q⟩
        · rw [if_neg q] at he
          have he' : 4 ≤ e := he
          exact ⟨by omega, .inl he'⟩
      have q1 : zI (-(v : Int)) / zN 100 = zI (-((v / 100 : Nat) : Int)) := zI_dv hv
      have q2 : zI (-((v / 100 : Nat) : Int)) * zN 100 - zI (-(v : Int)) = zN (v % 100) := by
        rw [← zI_cast, ← zI_cast, zI_mul, zI_sub]
        congr 1
        omega
      have d1 := zN_dec (i := e) (by omega)
      have d2 := zN_dec (i := e - 1) (by omega)
      rw [show e - 1 - 1 = e - 2 by omega] at d2
      have h1 := kn_O (h.wBy (cap := cap) hV g) (j := v % 100) (by omega)
      rw [e0, show v % 100 % 10 = v % 10 by omega, show v % 100 / 10 = v / 10 % 10 by omega] at h1
      have s1 := wBy_st (w := w) (V := V) (cap := cap) (g := g) (k := e - 1) (by omega) (by omega) (zN (48 + v % 10))
      rw [e0] at s1
      have h2 := kn_O (h.wBy (cap := cap) hV (upd g (e - 1) (zN (48 + v % 10)))) (j := v % 100) (by omega)
      rw [show v % 100 % 10 = v % 10 by omega, show v % 100 / 10 = v / 10 % 10 by omega] at h2
      have s2 := wBy_st (w := w) (V := V) (cap := cap) (g := upd g (e - 1) (zN (48 + v % 10))) (k := e - 2) (by omega) (by omega) (zN (48 + v / 10 % 10))
      have b1 : fJ16_getChars_b22 (zI (-(v : Int))) V (zN e) (zN 0) w = some (.inl (zI (-((v / 100 : Nat) : Int)), zN (e - 2), wBy w V cap (upd (upd g (e - 1) (zN (48 + v % 10))) (e - 2) (zN (48 + v / 10 % 10))))) := by
        unfold fJ16_getChars_b22
        rw [z1, if_neg (by rw [c1 v hv]; exact c), show (100 : Int32) = zN 100 from rfl, q1, nm_eq, q2, nm_eq, h1.1, bd_some, nar_c _ (by omega), show (-1 : Int32) = zI (-1) from rfl, d1, s1, bd_some, h2.2, bd_some, nar_c _ (by omega), d2, s2, bd_some]
        rfl
      obtain ⟨r, er⟩ := c_b72 (cap := cap) h hV (g := upd (upd g (e - 1) (zN (48 + v % 10))) (e - 2) (zN (48 + v / 10 % 10))) (i := v / 100) (e := e - 2) (by omega) (by omega) (by omega) hc
      refine ⟨r, (wh_inl b1).trans (wh_inr ?_)⟩
      show fJ16_getChars_b22 (zI (-((v / 100 : Nat) : Int))) V (zN (e - 2)) (zN 0) _ = _
      unfold fJ16_getChars_b22
      rw [z1, if_pos (by rw [c1 (v / 100) (by omega)]; omega), er]
      rfl
  obtain ⟨r, er⟩ := H
  refine ⟨r, ?_⟩
  unfold fJ16_getChars fJ16_getChars_b12
  rw [if_pos (of_eq_true n0), if_pos (by decide), nm_eq, e1]
  exact er
end
