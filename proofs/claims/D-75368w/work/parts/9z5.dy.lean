/-! Plain law: builders of strings -/
def bdQ (b V : Nat) : Nat → Prop := fun a => a = b ∨ a = V
/-- a builder, what it was, what is left alone -/
def BdS (F : Nat) (w w' : WH) (b V : Nat) (o : List Nat) (c n m : Nat) : Prop := ∃ V' cap', BdC w' b V' cap' o ∧ (V' = V ∨ wN w ≤ V') ∧ Kg F (bdQ b V) w w' c n ∧ cap' ≤ m
section
variable {w w' : WH} {F b V cap : Nat} {o : List Nat}
theorem BdC.ne (h : BdC w b V cap o) : b ≠ V := by
  obtain ⟨⟨ml, h1⟩, ⟨g, h2, -⟩, -⟩ := h
  exact fun e => by
    rw [e, h2] at h1
    cases h1
theorem c_cpB {a0 a n0 n1 k : Nat} {f g : Nat → Int32} (h0 : w.1 a0 = some (bytC n0 f)) (h1 : w.1 a = some (bytC n1 g)) (hne : a0 ≠ a) (hk : k ≤ n0) (hk1 : k ≤ n1) (hn : n0 ≤ 65536) (hf : ∀ i, i < k → fits .byte (.int (f i)) = true) : cpI w 2 a0 (zN 0) a (zN 0) (zN k) = some (hUp w a (bytC n1 (va_cpy f g 0 0 k))) := by
  unfold cpI hArr bytC at *
  rw [h0, h1]
  dsimp only
  have e1 : (zN k).toNatClampNeg = k := zN_cl (by omega)
  have e0 : (zN 0).toNatClampNeg = 0 := zN_cl (by omega)
  have n0' : ¬ (zN k < 0) := by rw [show (0 : Int32) = zN 0 from rfl, zN_lt (by omega) (by omega)]; omega
  rw [e1, e0, if_pos]
  exact ⟨⟨rfl, rfl, hne⟩, ⟨by decide, by decide, n0', by omega, by omega⟩, fun _ i hi => by rw [Nat.zero_add]; exact hf i hi⟩
theorem zN_sr0 (n : Int32) : n >>> (zN 0 &&& zN 31) = n := by
  rw [show (zN 0 &&& zN 31) = 0 from by decide]
  apply Int32.toBitVec_inj.mp
  simp
theorem zN_sl0 (n : Int32) : n <<< (zN 0 &&& zN 31) = n := by
  rw [show (zN 0 &&& zN 31) = 0 from by decide]
  apply Int32.toBitVec_inj.mp
  simp
theorem c_bEns (hF : FiC w F) (hW : WF w) (h : BdC w b V cap o) {m : Nat} (hm : m ≤ 29000) (hc : cap ≤ 29000) (hC : 1 ≤ wC w) (hS : 2 * m + 2 ≤ wS w) :
    ∃ w' V' cap', fJ7_ensureCapacityInternal b (zN m) w = some w' ∧ BdC w' b V' cap' o ∧ m ≤ cap' ∧ (V' = V ∨ wN w ≤ V') ∧ Kg F (bdQ b V) w w' 1 (2 * m + 2) ∧ (cap' = cap ∨ (cap < m ∧ (cap' ≤ 2 * cap + 2 ∨ cap' = m))) := by
  have hne := h.ne
  obtain ⟨⟨ml, h1⟩, ⟨g, h2, h3, h4⟩, h5, h6⟩ := h
  have r1 : gR w b 15 0 = some (some V) := c_R h1 0
  have r2 : gI w b 15 1 = some (zN 0) := c_I h1 1
  have r3 : hIs w b 15 = some () := c_C h1
  have a1 : aLn w V = some (zN cap) := c_len (x := (2, cap, .inl g)) h2 (show 2 < 6 by omega)
  have e1 : zN m - zN cap = zI ((m : Int) - cap) := zI_sub _ _
  have c1 : (zI ((m : Int) - cap) ≤ zN 0) = (m ≤ cap) := by
    rw [show zN 0 = zI 0 from rfl, zI_le (by omega) (by omega)]
    exact propext ⟨fun h => by omega, fun h => by omega⟩
  by_cases c : m ≤ cap
  · rw [eq_true c] at c1
    refine ⟨w, V, cap, ?_, ⟨⟨ml, h1⟩, ⟨g, h2, h3, h4⟩, h5, h6⟩, c, .inl rfl, (Kg.refl hF hW).mono (by omega) (by omega), .inl rfl⟩
    simp (disch := omega) only [b2_some, bd_some, nm_eq, Option.map_some, zN_lit, zN_add, zN_mul, zN_neg1, if_true, if_false, reduceIte, eq_self, Nat.reduceEqDiff, Nat.reduceAdd, Nat.reduceMul, Nat.reduceSub, Nat.reduceLeDiff, Nat.one_ne_zero, not_false_eq_true, Bool.false_eq_true, zN_eq, zN_lt, zN_le,  fJ7_ensureCapacityInternal, r1, a1, r2, zN_sr0, e1, c1]
  · rw [eq_false c] at c1
    obtain ⟨N, hN⟩ : ∃ N, N = if m - cap < cap + 2 then cap + (cap + 2) else m := ⟨_, rfl⟩
    have hNb : cap < N ∧ m ≤ N ∧ N ≤ 2 * m + 2 ∧ (N ≤ 2 * cap + 2 ∨ N = m) := by
      rw [hN]
      split <;> omega
    have e2 : zN m - zN cap = zN (m - cap) := zN_sub (by omega)
    have e3 : (zN 2 : Int32) <<< (zN 0 &&& zN 31) = zN 2 := zN_sl0 _
    have mx : mxI (zN (m - cap)) (zN (cap + 2)) = zN (if m - cap < cap + 2 then cap + 2 else m - cap) := by
      have := mxI_z (a := (m - cap : Nat)) (b := (cap + 2 : Nat)) (by omega) (by omega)
      rw [← zI_cast, ← zI_cast, this]
      by_cases q : m - cap < cap + 2
      · rw [if_pos (by omega), if_pos q]; rfl
      · rw [if_neg (by omega), if_neg q]; rfl
    have e4 : zN cap + zN (if m - cap < cap + 2 then cap + 2 else m - cap) = zN N := by
      rw [zN_add, hN]
      congr 1
      split <;> omega
    have n1 : ¬ (N ≤ 0) := by omega
    have n2 : ¬ (2147483639 < N) := by omega
    have n3 : ¬ (N = 2147483647) := by omega
    have nc : fJ7_newCapacity b (zN m) w = some (zN N, w) := by
      simp (disch := omega) only [b2_some, bd_some, nm_eq, Option.map_some, zN_lit, zN_add, zN_mul, zN_neg1, if_true, if_false, reduceIte, eq_self, Nat.reduceEqDiff, Nat.reduceAdd, Nat.reduceMul, Nat.reduceSub, Nat.reduceLeDiff, Nat.one_ne_zero, not_false_eq_true, Bool.false_eq_true, zN_eq, zN_lt, zN_le,  fJ7_newCapacity, r1, a1, r2, zN_sl0, e2, fJ11_newLength, mx, e4, n1, n2, fJ7_newCapacity_b34, n3, zN_sr0]
    have n4 : ¬ (N = cap) := by omega
    have na := c_na (w := w) (t := 2) (k := N) (by omega) hC (by omega)
    have hV := hW.lt h2
    have hb := hW.lt h1
    have A1 : (hMk w N (bytC N (fun _ => 0))).1 (wN w) = some (bytC N (fun _ => 0)) := hMk_eq _ _ _
    have V1 : (hMk w N (bytC N (fun _ => 0))).1 V = some (bytC cap g) := (hMk_ne _ _ _ (by omega)).trans h2
    have B1 : (hMk w N (bytC N (fun _ => 0))).1 b = some (bldC V o.length ml) := (hMk_ne _ _ _ (by omega)).trans h1
    have K1 : Kg F (bdQ b V) w (hMk w N (bytC N (fun _ => 0))) 1 N := Kg.mk hF hW _ _
    have na' : hNa w 2 (zN N) = some (wN w, hMk w N (bytC N (fun _ => 0))) := na
    generalize hMk w N (bytC N (fun _ => 0)) = w1 at na' A1 V1 B1 K1
    have a2 : aLn w1 V = some (zN cap) := c_len (x := (2, cap, .inl g)) V1 (show 2 < 6 by omega)
    have mn : mnI (zN cap) (zN N) = zN cap := by
      have := mnI_z (a := (cap : Nat)) (b := (N : Nat)) (by omega) (by omega)
      rw [← zI_cast, ← zI_cast, this, if_neg (by omega)]
    have cp := c_cpB V1 A1 (by omega) (Nat.le_refl cap) (by omega) (by omega) h4
    have A2 := hUp_eq w1 (wN w) (bytC N (va_cpy g (fun _ => 0) 0 0 cap))
    have B2 : (hUp w1 (wN w) (bytC N (va_cpy g (fun _ => 0) 0 0 cap))).1 b = some (bldC V o.length ml) := (hUp_ne _ _ (by omega)).trans B1
    have K2 := K1.up A1 rfl (.inl (Nat.le_refl _)) (bytC N (va_cpy g (fun _ => 0) 0 0 cap))
    generalize hUp w1 (wN w) (bytC N (va_cpy g (fun _ => 0) 0 0 cap)) = w2 at cp A2 B2 K2
    have p1 : hPut w2 b 15 0 (.ref (wN w)) = some (hUp w2 b (bldC (wN w) o.length ml)) := c_P B2 (k := 0) (show 0 < 4 by decide) _
    refine ⟨hUp w2 b (bldC (wN w) o.length ml), wN w, N, ?_, ⟨⟨ml, hUp_eq _ _ _⟩, ⟨_, (hUp_ne _ _ (by omega)).trans A2, fun k hk => ?_, fun k hk => ?_⟩, by omega, by omega⟩, hNb.2.1, .inr (Nat.le_refl _), (K2.up B2 rfl (.inr (.inl rfl)) _).mono (Nat.le_refl _) hNb.2.2.1, .inr ⟨by omega, hNb.2.2.2⟩⟩
    · simp (disch := omega) only [b2_some, bd_some, nm_eq, Option.map_some, zN_lit, zN_add, zN_mul, zN_neg1, if_true, if_false, reduceIte, eq_self, Nat.reduceEqDiff, Nat.reduceAdd, Nat.reduceMul, Nat.reduceSub, Nat.reduceLeDiff, Nat.one_ne_zero, not_false_eq_true, Bool.false_eq_true, zN_eq, zN_lt, zN_le,  fJ7_ensureCapacityInternal, r1, a1, r2, zN_sr0, e1, c1, r3, nc, zN_sl0, fJ13_copyOf, n4, na', a2, mn, cp, va_rf, p1, fJ7_ensureCapacityInternal_b38]
    · unfold va_cpy
      rw [if_pos (by omega), Nat.sub_zero, Nat.zero_add]
      exact h3 k hk
    · unfold va_cpy
      by_cases q : k < cap
      · rw [if_pos (by omega), Nat.sub_zero, Nat.zero_add]
        exact h4 k q
      · rw [if_neg (by omega)]
        exact (by decide : fits .byte (.int 0) = true)
theorem fit_c : ∀ c, c < 128 → fits .byte (.int (zN c)) = true := by decide +kernel
theorem nar_c : ∀ c, c < 128 → vp_nar .byte (zN c) = zN c := by decide +kernel
theorem getD_app (o l : List Nat) (k d : Nat) : (o ++ l).getD k d = if k < o.length then o.getD k d else l.getD (k - o.length) d := by
  induction o generalizing k with
  | nil => rw [List.nil_append, if_neg (by simp)]; rfl
  | cons a o ih =>
    cases k with
    | zero => rfl
    | succ k =>
      show (o ++ l).getD k d = _
      rw [ih k, List.length_cons]
      by_cases c : k < o.length
      · rw [if_pos c, if_pos (by omega)]; rfl
      · rw [if_neg c, if_neg (by omega)]
        congr 1
        omega
theorem c_bLat (h : BdC w b V cap o) : fJ7_isLatin1 b w = some (zN 1, w) ∧ hIs w b 15 = some () := by
  obtain ⟨⟨ml, h1⟩, -⟩ := h
  have r2 : gI w b 15 1 = some (zN 0) := c_I h1 1
  refine ⟨?_, c_C h1⟩
  unfold fJ7_isLatin1
  rw [if_neg (by decide), r2, bd_some, if_pos (by decide)]
  rfl
theorem c_bLen (h : BdC w b V cap o) : fJ8_length b w = some (zN o.length, w) := by
  obtain ⟨⟨ml, h1⟩, -⟩ := h
  have r3 : gI w b 15 3 = some (zN o.length) := c_I h1 3
  have r0 : hIs w b 15 = some () := c_C h1
  simp (disch := omega) only [b2_some, bd_some, nm_eq, Option.map_some, zN_lit, zN_add, zN_mul, zN_neg1, if_true, if_false, reduceIte, eq_self, Nat.reduceEqDiff, Nat.reduceAdd, Nat.reduceMul, Nat.reduceSub, Nat.reduceLeDiff, Nat.one_ne_zero, not_false_eq_true, Bool.false_eq_true, zN_eq, zN_lt, zN_le,  fJ8_length, fJ7_length, r0, r3]
theorem c_bChr (hF : FiC w F) (hW : WF w) (h : BdC w b V cap o) {c : Nat} (hc : c < 128) (ho : o.length ≤ 28000) (hcap : cap ≤ 29000) (hC : 1 ≤ wC w) (hS : 2 * (o.length + 1) + 2 ≤ wS w) :
    ∃ w' V' cap', fJ8_append_3 b (zN c) w = some (some b, w') ∧ BdC w' b V' cap' (o ++ [c]) ∧ (V' = V ∨ wN w ≤ V') ∧ Kg F (bdQ b V) w w' 1 (2 * (o.length + 1) + 2) ∧ (cap' = cap ∨ (cap < o.length + 1 ∧ (cap' ≤ 2 * cap + 2 ∨ cap' = o.length + 1))) := by
  obtain ⟨w1, V', cap', e1, B1, hm, hV, hK, hcp⟩ := c_bEns hF hW h (m := o.length + 1) (by omega) hcap hC hS
  have r3 : gI w b 15 3 = some (zN o.length) := by
    obtain ⟨⟨ml, h1⟩, -⟩ := h
    exact c_I h1 3
  have i0 := (c_bLat h).2
  obtain ⟨l1, i1⟩ := c_bLat B1
  have hne := B1.ne
  obtain ⟨⟨ml, h1⟩, ⟨g, h2, h3, h4⟩, h5, h6⟩ := B1
  have q1 : gR w1 b 15 0 = some (some V') := c_R h1 0
  have q3 : gI w1 b 15 3 = some (zN o.length) := c_I h1 3
  have p1 : hPut w1 b 15 3 (.int (zN (o.length + 1))) = some (hUp w1 b (bldC V' (o.length + 1) ml)) := c_P h1 (k := 3) (show 3 < 4 by decide) _
  have V2 : (hUp w1 b (bldC V' (o.length + 1) ml)).1 V' = some (bytC cap' g) := (hUp_ne _ _ hne.symm).trans h2
  have s1 : stI (hUp w1 b (bldC V' (o.length + 1) ml)) V' 2 (zN o.length) (zN c) = some (hUp (hUp w1 b (bldC V' (o.length + 1) ml)) V' (bytC cap' (upd g o.length (zN c)))) := c_stI V2 (by omega) (by omega) _
  have ce : fJ15_canEncode (zN c) w1 = some (zN 1, w1) := by
    have n1 : ¬ (255 < c) := by omega
    simp (disch := omega) only [b2_some, bd_some, nm_eq, Option.map_some, zN_lit, zN_add, zN_mul, zN_neg1, if_true, if_false, reduceIte, eq_self, Nat.reduceEqDiff, Nat.reduceAdd, Nat.reduceMul, Nat.reduceSub, Nat.reduceLeDiff, Nat.one_ne_zero, not_false_eq_true, Bool.false_eq_true, zN_eq, zN_lt, zN_le,  fJ15_canEncode, n1]
  have K2 := hK.up h1 rfl (.inr (.inl rfl)) (bldC V' (o.length + 1) ml)
  have K3 := K2.up V2 rfl (hV.elim (fun e => .inr (.inr e)) .inl) (bytC cap' (upd g o.length (zN c)))
  refine ⟨_, V', cap', ?_, ⟨⟨ml, ?_⟩, ⟨_, hUp_eq _ _ _, fun k hk => ?_, fun k hk => ?_⟩, by rw [List.length_append, List.length_singleton]; omega, h6⟩, hV, K3, hcp⟩
  · simp (disch := omega) only [b2_some, bd_some, nm_eq, Option.map_some, zN_lit, zN_add, zN_mul, zN_neg1, if_true, if_false, reduceIte, eq_self, Nat.reduceEqDiff, Nat.reduceAdd, Nat.reduceMul, Nat.reduceSub, Nat.reduceLeDiff, Nat.one_ne_zero, not_false_eq_true, Bool.false_eq_true, zN_eq, zN_lt, zN_le,  fJ8_append_3, i0, fJ7_append_3, r3, e1, i1, l1, ce, q1, q3, p1, byt_id, s1, fJ7_append_3_b42]
  · rw [List.length_append, List.length_singleton]
    exact (hUp_ne _ _ hne).trans (hUp_eq _ _ _)
  · rw [List.length_append, List.length_singleton] at hk
    rw [getD_app]
    unfold upd
    by_cases q : k < o.length
    · rw [if_pos q, if_neg (by omega)]
      exact h3 k q
    · have : k = o.length := by omega
      rw [if_neg q, if_pos this, this, Nat.sub_self]
      rfl
  · unfold upd
    by_cases q : k = o.length
    · rw [if_pos q]
      exact fit_c c hc
    · rw [if_neg q]
      exact h4 k hk
/-- digits -/
theorem kn_O (h : KN w) {j : Nat} (hj : j < 100) : ldI w (wK w 21) 2 (zN j) = some (zN (48 + j % 10)) ∧ ldI w (wK w 20) 2 (zN j) = some (zN (48 + j / 10)) := by
  have hn1 := (h.1 21 (by decide)).1
  have hn2 := (h.1 20 (by decide)).1
  obtain ⟨-, -, k1, k2⟩ := h.2
  have x0 := k1 0 (by omega)
  have x1 := k1 1 (by omega)
  have x2 := k1 2 (by omega)
  have x3 := k1 3 (by omega)
  have x4 := k1 4 (by omega)
  have y1 : kIx (fun i => wK w (10 + i)) (wK w 21) = none := by
    unfold kIx
    rw [if_neg x0.2.symm, if_neg x1.2.symm, if_neg x2.2.symm, if_neg x3.2.symm, if_neg x4.2.symm]
  have y2 : kIx (fun i => wK w (10 + i)) (wK w 20) = none := by
    unfold kIx
    rw [if_neg x0.1.symm, if_neg x1.1.symm, if_neg x2.1.symm, if_neg x3.1.symm, if_neg x4.1.symm]
  have rdx : ∀ f : Nat → Int32, rd_ f 100 (zN j) = some (f j) := fun f => by
    unfold rd_
    rw [if_neg (zN_in hj (by omega)), zN_cl (by omega)]
  constructor
  · unfold ldI hArr roA
    rw [hn1]
    dsimp only
    rw [y1]
    dsimp only
    rw [if_neg k2.symm, if_pos rfl]
    dsimp only
    rw [if_pos rfl, rdx]
    rfl
  · unfold ldI hArr roA
    rw [hn2]
    dsimp only
    rw [y2]
    dsimp only
    rw [if_pos rfl]
    dsimp only
    rw [if_pos rfl, rdx]
    rfl
end
