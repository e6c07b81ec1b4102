/-! Plain law: builders: numbers and words appended -/
theorem dgX_get (g : Nat → Int32) (L : Nat) {v : Nat} (hv : v ≤ 9999) : (∀ k, k < L → dgX g (L + (dgs v).length) v k = g k) ∧ (∀ k, L + (dgs v).length ≤ k → dgX g (L + (dgs v).length) v k = g k) ∧ ∀ i, i < (dgs v).length → dgX g (L + (dgs v).length) v (L + i) = zN ((dgs v).getD i 0) ∧ (dgs v).getD i 0 < 128 := by
  unfold dgs
  by_cases c1 : v < 10
  · rw [if_pos c1]
    have e : dgX g (L + [48 + v].length) v = upd g L (zN (48 + v)) := by
      unfold dgX dgW
      rw [if_pos (by omega), if_pos c1]
      rfl
    rw [e]
    unfold upd
    refine ⟨fun k hk => if_neg (by omega), fun k hk => if_neg (by simp only [List.length_singleton] at hk; omega), fun i hi => ?_⟩
    have : i = 0 := by simp only [List.length_singleton] at hi; omega
    subst this
    exact ⟨if_pos rfl, by show 48 + v < 128; omega⟩
  · rw [if_neg c1]
    by_cases c2 : v < 100
    · rw [if_pos c2]
      have e : dgX g (L + [48 + v / 10, 48 + v % 10].length) v = upd (upd g (L + 1) (zN (48 + v % 10))) L (zN (48 + v / 10)) := by
        unfold dgX dgW
        rw [if_pos c2, if_neg c1]
        rfl
      rw [e]
      unfold upd
      refine ⟨fun k hk => by rw [if_neg (by omega), if_neg (by omega)], fun k hk => by simp only [List.length_cons, List.length_nil] at hk; rw [if_neg (by omega), if_neg (by omega)], fun i hi => ?_⟩
      have : i = 0 ∨ i = 1 := by simp only [List.length_cons, List.length_nil] at hi; omega
      rcases this with rfl | rfl
      · exact ⟨if_pos rfl, by show 48 + v / 10 < 128; omega⟩
      · exact ⟨(if_neg (by omega)).trans (if_pos rfl), by show 48 + v % 10 < 128; omega⟩
    · rw [if_neg c2]
      by_cases c3 : v < 1000
      · rw [if_pos c3]
        have e : dgX g (L + [48 + v / 100, 48 + v / 10 % 10, 48 + v % 10].length) v = upd (upd (upd g (L + 2) (zN (48 + v % 10))) (L + 1) (zN (48 + v / 10 % 10))) L (zN (48 + v / 100)) := by
          unfold dgX dgW
          rw [if_neg c2, if_pos (by omega)]
          rfl
        rw [e]
        unfold upd
        refine ⟨fun k hk => by rw [if_neg (by omega), if_neg (by omega), if_neg (by omega)], fun k hk => by simp only [List.length_cons, List.length_nil] at hk; rw [if_neg (by omega), if_neg (by omega), if_neg (by omega)], fun i hi => ?_⟩
        have : i = 0 ∨ i = 1 ∨ i = 2 := by simp only [List.length_cons, List.length_nil] at hi; omega
        rcases this with rfl | rfl | rfl
        · exact ⟨if_pos rfl, by show 48 + v / 100 < 128; omega⟩
        · exact ⟨(if_neg (by omega)).trans (if_pos rfl), by show 48 + v / 10 % 10 < 128; omega⟩
        · exact ⟨(if_neg (by omega)).trans ((if_neg (by omega)).trans (if_pos rfl)), by show 48 + v % 10 < 128; omega⟩
      · rw [if_neg c3]
        have e : dgX g (L + [48 + v / 1000, 48 + v / 100 % 10, 48 + v / 10 % 10, 48 + v % 10].length) v = upd (upd (upd (upd g (L + 3) (zN (48 + v % 10))) (L + 2) (zN (48 + v / 10 % 10))) (L + 1) (zN (48 + v / 100 % 10))) L (zN (48 + v / 1000)) := by
          unfold dgX dgW
          rw [if_neg c2, if_neg (by omega), show v / 100 / 10 = v / 1000 by omega]
          rfl
        rw [e]
        unfold upd
        refine ⟨fun k hk => by rw [if_neg (by omega), if_neg (by omega), if_neg (by omega), if_neg (by omega)], fun k hk => by simp only [List.length_cons, List.length_nil] at hk; rw [if_neg (by omega), if_neg (by omega), if_neg (by omega), if_neg (by omega)], fun i hi => ?_⟩
        have : i = 0 ∨ i = 1 ∨ i = 2 ∨ i = 3 := by simp only [List.length_cons, List.length_nil] at hi; omega
        rcases this with rfl | rfl | rfl | rfl
        · exact ⟨if_pos rfl, by show 48 + v / 1000 < 128; omega⟩
        · exact ⟨(if_neg (by omega)).trans (if_pos rfl), by show 48 + v / 100 % 10 < 128; omega⟩
        · exact ⟨(if_neg (by omega)).trans ((if_neg (by omega)).trans (if_pos rfl)), by show 48 + v / 10 % 10 < 128; omega⟩
        · exact ⟨(if_neg (by omega)).trans ((if_neg (by omega)).trans ((if_neg (by omega)).trans (if_pos rfl))), by show 48 + v % 10 < 128; omega⟩
section
variable {w w' : WH} {F b V cap : Nat} {o : List Nat}
theorem BdC.some (h : BdC w b V cap o) : ∀ a, bdQ b V a → w.1 a ≠ none := by
  obtain ⟨⟨ml, h1⟩, ⟨g, h2, -⟩, -⟩ := h
  rintro a (rfl | rfl)
  · rw [h1]; simp
  · rw [h2]; simp
theorem c_bInt (hF : FiC w F) (hW : WF w) (hKN : KN w) (h : BdC w b V cap o) {v : Nat} (hv : v ≤ 9999) (ho : o.length ≤ 28000) (hcap : cap ≤ 29000) (hC : 1 ≤ wC w) (hS : 2 * (o.length + 4) + 2 ≤ wS w) :
    ∃ w' V' cap', fJ8_append_2 b (zN v) w = some (some b, w') ∧ BdC w' b V' cap' (o ++ dgs v) ∧ (V' = V ∨ wN w ≤ V') ∧ Kg F (bdQ b V) w w' 1 (2 * (o.length + 4) + 2) ∧ (cap' = cap ∨ (cap < o.length + 4 ∧ cap' ≤ 2 * (o.length + 4) + 2)) := by
  have dl := dgs_len v
  obtain ⟨w1, V', cap', e1, B1, hm, hV, hK, hcp⟩ := c_bEns hF hW h (m := o.length + (dgs v).length) (by omega) hcap hC (by omega)
  have KN1 := hKN.kg hF hK h.some
  have r3 : gI w b 15 3 = some (zN o.length) := by
    obtain ⟨⟨ml, h1⟩, -⟩ := h
    exact c_I h1 3
  have i0 := (c_bLat h).2
  obtain ⟨l1, i1⟩ := c_bLat B1
  have hne := B1.ne
  obtain ⟨⟨ml, h1⟩, ⟨g, h2, h3, h4⟩, h5, h6⟩ := B1
  have q1 : gR w1 b 15 0 = some (some V') := c_R h1 0
  obtain ⟨r, gc⟩ := c_getC KN1 h2 hv (e := o.length + (dgs v).length) (by omega) hm h6
  have sz := c_ssz (w := w) hv
  obtain ⟨d1, d2, d3⟩ := dgX_get g o.length hv
  have bw : (wBy w1 V' cap' (dgX g (o.length + (dgs v).length) v)).1 b = some (bldC V' o.length ml) := (hUp_ne _ _ hne).trans h1
  have p1 : hPut (wBy w1 V' cap' (dgX g (o.length + (dgs v).length) v)) b 15 3 (.int (zN (o.length + (dgs v).length))) = some (hUp (wBy w1 V' cap' (dgX g (o.length + (dgs v).length) v)) b (bldC V' (o.length + (dgs v).length) ml)) := c_P bw (k := 3) (show 3 < 4 by decide) _
  have K2 : Kg F (bdQ b V) w (wBy w1 V' cap' (dgX g (o.length + (dgs v).length) v)) 1 (2 * (o.length + (dgs v).length) + 2) := hK.up h2 rfl (hV.elim (fun e => .inr (.inr e)) .inl) _
  have K3 := K2.up bw rfl (.inr (.inl rfl)) (bldC V' (o.length + (dgs v).length) ml)
  refine ⟨_, V', cap', ?_, ⟨⟨ml, ?_⟩, ⟨dgX g (o.length + (dgs v).length) v, (hUp_ne _ _ hne.symm).trans (hUp_eq _ _ _), fun k hk => ?_, fun k hk => ?_⟩, by rw [List.length_append]; omega, h6⟩, hV, K3.mono (Nat.le_refl _) (by omega), by omega⟩
  · have i2 : hIs w b 15 = some () := i0
    simp (disch := omega) only [b2_some, bd_some, nm_eq, Option.map_some, zN_lit, zN_add, zN_mul, zN_neg1, if_true, if_false, reduceIte, eq_self, Nat.reduceEqDiff, Nat.reduceAdd, Nat.reduceMul, Nat.reduceSub, Nat.reduceLeDiff, Nat.one_ne_zero, not_false_eq_true, Bool.false_eq_true, zN_eq, zN_lt, zN_le,  fJ8_append_2, i0, fJ7_append_2, r3, sz, e1, i1, l1, q1, gc, fJ7_append_2_b34, fJ7_append_2_b48, p1]
    rfl
  · rw [List.length_append]
    exact hUp_eq _ _ _
  · rw [List.length_append] at hk
    rw [getD_app]
    by_cases q : k < o.length
    · rw [if_pos q, d1 k q]
      exact h3 k q
    · rw [if_neg q]
      have := (d3 (k - o.length) (by omega)).1
      rw [show o.length + (k - o.length) = k by omega] at this
      exact this
  · by_cases q : k < o.length
    · rw [d1 k q]; exact h4 k hk
    · by_cases q2 : o.length + (dgs v).length ≤ k
      · rw [d2 k q2]; exact h4 k hk
      · have := d3 (k - o.length) (by omega)
        rw [show o.length + (k - o.length) = k by omega] at this
        rw [this.1]
        exact fit_c _ this.2
theorem c_bLen0 (hF : FiC w F) (hW : WF w) (h : BdC w b V cap o) (hcap : cap ≤ 29000) (ho : o.length ≤ 28000) : ∃ w', fJ8_setLength b (zN 0) w = some w' ∧ BdC w' b V cap [] ∧ Kg F (bdQ b V) w w' 0 0 := by
  obtain ⟨⟨ml, h1⟩, ⟨g, h2, h3, h4⟩, h5, h6⟩ := h
  have hne : b ≠ V := BdC.ne (o := o) ⟨⟨ml, h1⟩, ⟨g, h2, h3, h4⟩, h5, h6⟩
  have r0 : hIs w b 15 = some () := c_C h1
  have r1 : gR w b 15 0 = some (some V) := c_R h1 0
  have r2 : gI w b 15 1 = some (zN 0) := c_I h1 1
  have r3 : gI w b 15 3 = some (zN o.length) := c_I h1 3
  have a1 : aLn w V = some (zN cap) := c_len (x := (2, cap, .inl g)) h2 (show 2 < 6 by omega)
  have e1 : zN 0 - zN cap = zI ((0 : Int) - cap) := zI_sub 0 _
  have c1 : (zI ((0 : Int) - cap) ≤ zN 0) = True := by
    rw [show zN 0 = zI 0 from rfl, zI_le (by omega) (by omega)]
    exact eq_true (by omega)
  have en : fJ7_ensureCapacityInternal b (zN 0) w = some w := by
    simp (disch := omega) only [b2_some, bd_some, nm_eq, Option.map_some, zN_lit, zN_add, zN_mul, zN_neg1, if_true, if_false, reduceIte, eq_self, Nat.reduceEqDiff, Nat.reduceAdd, Nat.reduceMul, Nat.reduceSub, Nat.reduceLeDiff, Nat.one_ne_zero, not_false_eq_true, Bool.false_eq_true, zN_eq, zN_lt, zN_le,  fJ7_ensureCapacityInternal, r1, a1, r2, zN_sr0, e1, c1]
  have n1 : 0 ≤ o.length := Nat.zero_le _
  by_cases c : o.length ≤ 0
  · have p1 : hPut w b 15 3 (.int (zN 0)) = some (hUp w b (bldC V 0 ml)) := c_P h1 (k := 3) (show 3 < 4 by decide) _
    refine ⟨hUp w b (bldC V 0 ml), ?_, ⟨⟨ml, hUp_eq _ _ _⟩, ⟨g, (hUp_ne _ _ hne.symm).trans h2, fun k hk => absurd hk (Nat.not_lt_zero _), h4⟩, Nat.zero_le _, h6⟩, (Kg.refl (Q := bdQ b V) hF hW).up h1 rfl (.inr (.inl rfl)) _⟩
    simp (disch := omega) only [b2_some, bd_some, nm_eq, Option.map_some, zN_lit, zN_add, zN_mul, zN_neg1, if_true, if_false, reduceIte, eq_self, Nat.reduceEqDiff, Nat.reduceAdd, Nat.reduceMul, Nat.reduceSub, Nat.reduceLeDiff, Nat.one_ne_zero, not_false_eq_true, Bool.false_eq_true, zN_eq, zN_lt, zN_le,  fJ8_setLength, r0, fJ7_setLength, Nat.le_refl, en, r3, n1, c, fJ7_setLength_b76, p1]
  · have p0 : hPut w b 15 2 (.int (zN 1)) = some (hUp w b (bldC V o.length (zN 1))) := c_P h1 (k := 2) (show 2 < 4 by decide) _
    have p1 : hPut (hUp w b (bldC V o.length (zN 1))) b 15 3 (.int (zN 0)) = some (hUp w b (bldC V 0 (zN 1))) := by
      have := c_P (hUp_eq w b (bldC V o.length (zN 1))) (k := 3) (show 3 < 4 by decide) (.int (zN 0))
      rw [hUp_hUp] at this
      exact this
    refine ⟨hUp w b (bldC V 0 (zN 1)), ?_, ⟨⟨_, hUp_eq _ _ _⟩, ⟨g, (hUp_ne _ _ hne.symm).trans h2, fun k hk => absurd hk (Nat.not_lt_zero _), h4⟩, Nat.zero_le _, h6⟩, (Kg.refl (Q := bdQ b V) hF hW).up h1 rfl (.inr (.inl rfl)) _⟩
    simp (disch := omega) only [b2_some, bd_some, nm_eq, Option.map_some, zN_lit, zN_add, zN_mul, zN_neg1, if_true, if_false, reduceIte, eq_self, Nat.reduceEqDiff, Nat.reduceAdd, Nat.reduceMul, Nat.reduceSub, Nat.reduceLeDiff, Nat.one_ne_zero, not_false_eq_true, Bool.false_eq_true, zN_eq, zN_lt, zN_le,  fJ8_setLength, r0, fJ7_setLength, Nat.le_refl, en, r3, n1, c, p0, fJ7_setLength_b76, p1]
theorem c_bAt (h : BdC w b V cap o) (ho : ∀ c ∈ o, c < 128) (hol : o.length ≤ 28000) {k : Nat} (hk : k < o.length) : fJ8_charAt b (zN k) w = some (zN (o.getD k 0), w) := by
  obtain ⟨⟨ml, h1⟩, ⟨g, h2, h3, h4⟩, h5, h6⟩ := h
  have r0 : hIs w b 15 = some () := c_C h1
  have r1 : gR w b 15 0 = some (some V) := c_R h1 0
  have r2 : gI w b 15 1 = some (zN 0) := c_I h1 1
  have r3 : gI w b 15 3 = some (zN o.length) := c_I h1 3
  have a1 : aLn w V = some (zN cap) := c_len (x := (2, cap, .inl g)) h2 (show 2 < 6 by omega)
  have mn : mnI (zN o.length) (zN cap) = zN o.length := by
    have := mnI_z (a := (o.length : Nat)) (b := (cap : Nat)) (by omega) (by omega)
    rw [← zI_cast, ← zI_cast, this]
    by_cases q : (cap : Int) < o.length
    · omega
    · rw [if_neg q]
  have ck := c_chk (w := w) hk (by omega) (oK (wK w 24))
  have l1 : ldI w V 2 (zN k) = some (zN (o.getD k 0)) := by rw [c_ldI h2 (by omega) (by omega), h3 k hk]
  have hc := ho _ (getD_mm 0 hk)
  have ch : ∀ c, c < 128 → (((zN c &&& zN 255).toUInt32 % 65536).toInt32) = zN c ∧ fz_ .char (zN c) = some () := by decide +kernel
  obtain ⟨x1, x2⟩ := ch _ hc
  unfold fJ8_charAt fJ7_charAt fJ9_checkIndex
  rw [r0, bd_some, r2, bd_some, r1, bd_some, r3, bd_some, bd_some, a1, bd_some, nm_eq, show (31 : Int32) = zN 31 from rfl, zN_sr0, mn, ck, b2_some, bd_some, if_pos (by decide), l1, bd_some, show (255 : Int32) = zN 255 from rfl, x1, x2, bd_some, b2_some, x2, bd_some]
end
