/-! Plain law: the linked list is read -/
theorem zN_shr1 : ∀ n, n < 16 → zN n >>> (zN 1 &&& zN 31) = zN (n / 2) := by decide
def liC (L0 n k : Nat) (lr : Value) (mc : Int32) : hE := .inr (7, [lr, if k < n then .ref (L0 + (n - k)) else .null, .int (zN k), .int mc, .ref L0])
section
variable {w w0 : WH} {L0 n F : Nat} {it : Nat → Nat} {I : Nat}
theorem lk_prev (h : LkC w L0 n it) {j : Nat} (j1 : 1 ≤ j) (j2 : j < n) : gR w (L0 + j) 3 2 = some (some (L0 + (j + 1))) := by
  rw [c_R (h.2 j j1 (by omega)) 2]
  show vR (some (if j = n then Value.null else Value.ref (L0 + j + 1))) = _
  rw [if_neg (by omega)]
  rfl
theorem lk_next (h : LkC w L0 n it) {j : Nat} (j1 : 1 < j) (j2 : j ≤ n) : gR w (L0 + j) 3 1 = some (some (L0 + (j - 1))) := by
  rw [c_R (h.2 j (by omega) (by omega)) 1]
  show vR (some (if j = 1 then Value.null else Value.ref (L0 + j - 1))) = _
  rw [if_neg (by omega), show L0 + j - 1 = L0 + (j - 1) by omega]
  rfl
theorem lk_nex1 (h : LkC w L0 n it) (hn : 1 ≤ n) : gR w (L0 + 1) 3 1 = some none := by
  rw [c_R (h.2 1 (by omega) (by omega)) 1]
  rfl
theorem lk_item (h : LkC w L0 n it) {j : Nat} (j1 : 1 ≤ j) (j2 : j ≤ n) : gR w (L0 + j) 3 0 = some (some (it j)) := c_R (h.2 j j1 j2) 0
theorem lk_first (h : LkC w L0 n it) (hn : 1 ≤ n) : gR w L0 11 2 = some (some (L0 + n)) ∧ gR w L0 11 3 = some (some (L0 + 1)) := by
  obtain ⟨⟨mc, h1⟩, -⟩ := h
  constructor
  · rw [c_R h1 2]
    show vR (some (if n = 0 then Value.null else Value.ref (L0 + n))) = _
    rw [if_neg (by omega)]
    rfl
  · rw [c_R h1 3]
    show vR (some (if n = 0 then Value.null else Value.ref (L0 + 1))) = _
    rw [if_neg (by omega)]
    rfl
theorem lk_sz (h : LkC w L0 n it) : gI w L0 11 1 = some (zN n) ∧ hIs w L0 11 = some () := by
  obtain ⟨⟨mc, h1⟩, -⟩ := h
  exact ⟨c_I h1 1, c_C h1⟩
theorem c_lkSize (h : LkC w L0 n it) : fJ31_size L0 w = some (zN n, w) := by
  unfold fJ31_size
  rw [(lk_sz h).1]
  rfl
theorem c_lkNode (h : LkC w L0 n it) (hn : n < 16) {i : Nat} (hi : i < n) : fJ31_node L0 (zN i) w = some (some (L0 + (n - i)), w) := by
  obtain ⟨s1, s2⟩ := lk_sz h
  obtain ⟨f1, f2⟩ := lk_first h (by omega)
  have sh := zN_shr1 n hn
  by_cases c : n / 2 ≤ i
  · have H : ∃ r, fJ31_node_l47 (zN i) (some (L0 + 1)) (zN (n - 1)) w = some r ∧ r = (some (L0 + (n - i)), w) := by
      refine wh_dn (P := fun d y => ∃ v, d = v ∧ i ≤ v ∧ v < n ∧ y = (some (L0 + (n - v)), zN v, w)) ?_ (n - 1) _ ⟨n - 1, rfl, by omega, by omega, by rw [show n - (n - 1) = 1 by omega]⟩
      rintro d y ⟨v, rfl, h1, h2, rfl⟩
      by_cases e : d ≤ i
      · right
        have : d = i := by omega
        subst this
        refine ⟨_, ?_, rfl⟩
        simp (disch := omega) only [b2_some, bd_some, nm_eq, Option.map_some, zN_lit, zN_add, zN_mul, zN_neg1, if_true, if_false, reduceIte, eq_self, Nat.reduceEqDiff, Nat.reduceAdd, Nat.reduceMul, Nat.reduceSub, Nat.reduceLeDiff, Nat.one_ne_zero, not_false_eq_true, Bool.false_eq_true, zN_eq, zN_lt, zN_le,  fJ31_node_b47, Nat.le_refl]
      · left
        have pv := lk_prev h (j := n - d) (by omega) (by omega)
        rw [show n - d + 1 = n - (d - 1) by omega] at pv
        have e2 := zN_dec (i := d) (by omega)
        refine ⟨_, d - 1, by omega, ?_, d - 1, rfl, by omega, by omega, rfl⟩
        simp (disch := omega) only [b2_some, bd_some, nm_eq, Option.map_some, zN_lit, zN_add, zN_mul, zN_neg1, if_true, if_false, reduceIte, eq_self, Nat.reduceEqDiff, Nat.reduceAdd, Nat.reduceMul, Nat.reduceSub, Nat.reduceLeDiff, Nat.one_ne_zero, not_false_eq_true, Bool.false_eq_true, zN_eq, zN_lt, zN_le,  fJ31_node_b47, e, pv, e2]
    obtain ⟨r, e, rfl⟩ := H
    have e1 : zN n - zN 1 = zN (n - 1) := zN_sub (b := 1) (by omega)
    simp (disch := omega) only [b2_some, bd_some, nm_eq, Option.map_some, zN_lit, zN_add, zN_mul, zN_neg1, if_true, if_false, reduceIte, eq_self, Nat.reduceEqDiff, Nat.reduceAdd, Nat.reduceMul, Nat.reduceSub, Nat.reduceLeDiff, Nat.one_ne_zero, not_false_eq_true, Bool.false_eq_true, zN_eq, zN_lt, zN_le,  fJ31_node, s1, sh, c, f2, e1]
    exact e
  · have H : ∃ r, fJ31_node_l17 (zN i) (some (L0 + n)) (zN 0) w = some r ∧ r = (some (L0 + (n - i)), w) := by
      refine wh_up (P := fun v y => v ≤ i ∧ y = (some (L0 + (n - v)), zN v, w)) i ?_ ?_ i 0 _ (by omega) ⟨by omega, rfl⟩
      · rintro v y hv ⟨-, rfl⟩
        left
        have nx := lk_next h (j := n - v) (by omega) (by omega)
        rw [show n - v - 1 = n - (v + 1) by omega] at nx
        have e : ¬ (i ≤ v) := by omega
        refine ⟨_, ?_, by omega, rfl⟩
        simp (disch := omega) only [b2_some, bd_some, nm_eq, Option.map_some, zN_lit, zN_add, zN_mul, zN_neg1, if_true, if_false, reduceIte, eq_self, Nat.reduceEqDiff, Nat.reduceAdd, Nat.reduceMul, Nat.reduceSub, Nat.reduceLeDiff, Nat.one_ne_zero, not_false_eq_true, Bool.false_eq_true, zN_eq, zN_lt, zN_le,  fJ31_node_b17, e, nx]
      · rintro y ⟨-, rfl⟩
        refine ⟨_, ?_, rfl⟩
        simp (disch := omega) only [b2_some, bd_some, nm_eq, Option.map_some, zN_lit, zN_add, zN_mul, zN_neg1, if_true, if_false, reduceIte, eq_self, Nat.reduceEqDiff, Nat.reduceAdd, Nat.reduceMul, Nat.reduceSub, Nat.reduceLeDiff, Nat.one_ne_zero, not_false_eq_true, Bool.false_eq_true, zN_eq, zN_lt, zN_le,  fJ31_node_b17, Nat.le_refl]
    obtain ⟨r, e, rfl⟩ := H
    simp (disch := omega) only [b2_some, bd_some, nm_eq, Option.map_some, zN_lit, zN_add, zN_mul, zN_neg1, if_true, if_false, reduceIte, eq_self, Nat.reduceEqDiff, Nat.reduceAdd, Nat.reduceMul, Nat.reduceSub, Nat.reduceLeDiff, Nat.one_ne_zero, not_false_eq_true, Bool.false_eq_true, zN_eq, zN_lt, zN_le,  fJ31_node, s1, sh, c, f1]
    exact e
theorem c_lkGet (h : LkC w L0 n it) (hn : n < 16) {i : Nat} (hi : i < n) : fJ31_get L0 (zN i) w = some (some (it (n - i)), w) := by
  obtain ⟨s1, s2⟩ := lk_sz h
  have nd := c_lkNode h hn hi
  have im := lk_item h (j := n - i) (by omega) (by omega)
  have n1 : ¬ (i < 0) := by omega
  have n2 : ¬ (n ≤ i) := by omega
  simp (disch := omega) only [b2_some, bd_some, nm_eq, Option.map_some, zN_lit, zN_add, zN_mul, zN_neg1, if_true, if_false, reduceIte, eq_self, Nat.reduceEqDiff, Nat.reduceAdd, Nat.reduceMul, Nat.reduceSub, Nat.reduceLeDiff, Nat.one_ne_zero, not_false_eq_true, Bool.false_eq_true, zN_eq, zN_lt, zN_le,  fJ31_get, s1, s2, fJ31_checkElementIndex, fJ31_isElementIndex, n1, n2, nd, im]
theorem c_lkFirst (h : LkC w L0 n it) (hn : 1 ≤ n) : fJ31_getFirst L0 w = some (some (it n), w) := by
  obtain ⟨f1, f2⟩ := lk_first h hn
  have im := lk_item h (j := n) hn (Nat.le_refl _)
  unfold fJ31_getFirst
  rw [f1, bd_some, if_neg (by simp), bd_some, im, bd_some]
theorem c_lkIter {c k : Nat} {Q : Nat → Prop} (h : LkC w L0 n it) (hn : n < 16) (h1 : 1 ≤ n) (hK : Kg F Q w0 w c k) (hN : L0 + n < wN w) (hC : 1 ≤ wC w) (hS : 5 ≤ wS w) :
    ∃ w' mc, fJ30_iterator L0 w = some (some (wN w), w') ∧ w'.1 (wN w) = some (liC L0 n 0 .null mc) ∧ LkC w' L0 n it ∧ w'.1 L0 = some (lkC L0 n mc) ∧ Kg F Q w0 w' (c + 1) (k + 5) := by
  obtain ⟨s1, s2⟩ := lk_sz h
  obtain ⟨mc, hl⟩ := h.1
  have n1 : hNw w 5 7 [.null, .null, .int (zN 0), .int (zN 0), .null] = some (wN w, hMk w 5 (.inr (7, [.null, .null, .int (zN 0), .int (zN 0), .null]))) := c_new hC hS
  have A0 := hMk_eq w 5 (.inr (7, [.null, .null, .int (zN 0), .int (zN 0), .null]))
  have K1 : Kg F Q w0 (hMk w 5 (.inr (7, [.null, .null, .int (zN 0), .int (zN 0), .null]))) (c + 1) (k + 5) := hK.tr0 (Kg.mk hK.2.1 hK.2.2.1 _ _)
  have H1 : LkC (hMk w 5 (.inr (7, [.null, .null, .int (zN 0), .int (zN 0), .null]))) L0 n it := h.eq (fun b b1 b2 => hMk_ne _ _ _ (by omega))
  have hwn : wN w0 ≤ wN w := hK.2.2.2.1
  generalize hMk w 5 (.inr (7, [.null, .null, .int (zN 0), .int (zN 0), .null])) = w1 at n1 A0 K1 H1
  generalize hI : wN w = I at *
  have st : ∀ (w2 : WH) (y z : hE), w2.1 I = some y → finT y = false → Kg F Q w0 w2 (c + 1) (k + 5) → LkC w2 L0 n it → Kg F Q w0 (hUp w2 I z) (c + 1) (k + 5) ∧ LkC (hUp w2 I z) L0 n it := fun w2 y z hy hf hk hl => ⟨hk.up hy hf (.inl (by omega)) z, hl.up (.inr (by omega)) z⟩
  have p1 := c_P A0 (k := 4) (show 4 < 5 by decide) (.ref L0)
  have p1' : hPut w1 I 7 4 (.ref L0) = some (hUp w1 I (.inr (7, [.null, .null, .int (zN 0), .int (zN 0), .ref L0]))) := p1
  obtain ⟨K2, H2⟩ := st w1 _ (.inr (7, [.null, .null, .int (zN 0), .int (zN 0), .ref L0])) A0 rfl K1 H1
  have A2 := hUp_eq w1 I (.inr (7, [.null, .null, .int (zN 0), .int (zN 0), .ref L0]))
  generalize hUp w1 I (.inr (7, [.null, .null, .int (zN 0), .int (zN 0), .ref L0])) = w2 at p1' K2 H2 A2
  obtain ⟨mc2, hl2⟩ := H2.1
  have g1 : gR w2 I 7 4 = some (some L0) := c_R A2 4
  have g2 : gI w2 L0 11 0 = some mc2 := c_I hl2 0
  have p2' : hPut w2 I 7 3 (.int mc2) = some (hUp w2 I (.inr (7, [.null, .null, .int (zN 0), .int mc2, .ref L0]))) := c_P A2 (k := 3) (show 3 < 5 by decide) _
  obtain ⟨K3, H3⟩ := st w2 _ (.inr (7, [.null, .null, .int (zN 0), .int mc2, .ref L0])) A2 rfl K2 H2
  have A3 := hUp_eq w2 I (.inr (7, [.null, .null, .int (zN 0), .int mc2, .ref L0]))
  have hl3 : (hUp w2 I (.inr (7, [.null, .null, .int (zN 0), .int mc2, .ref L0]))).1 L0 = some (lkC L0 n mc2) := (hUp_ne _ _ (by omega)).trans hl2
  generalize hUp w2 I (.inr (7, [.null, .null, .int (zN 0), .int mc2, .ref L0])) = w3 at p2' K3 H3 A3 hl3
  obtain ⟨s3, s4⟩ := lk_sz H3
  have nd := c_lkNode H3 hn (i := 0) (by omega)
  have p3' : hPut w3 I 7 1 (.ref (L0 + (n - 0))) = some (hUp w3 I (.inr (7, [.null, .ref (L0 + (n - 0)), .int (zN 0), .int mc2, .ref L0]))) := c_P A3 (k := 1) (show 1 < 5 by decide) _
  obtain ⟨K4, H4⟩ := st w3 _ (.inr (7, [.null, .ref (L0 + (n - 0)), .int (zN 0), .int mc2, .ref L0])) A3 rfl K3 H3
  have A4 := hUp_eq w3 I (.inr (7, [.null, .ref (L0 + (n - 0)), .int (zN 0), .int mc2, .ref L0]))
  have hl4 : (hUp w3 I (.inr (7, [.null, .ref (L0 + (n - 0)), .int (zN 0), .int mc2, .ref L0]))).1 L0 = some (lkC L0 n mc2) := (hUp_ne _ _ (by omega)).trans hl3
  have p4' : hPut (hUp w3 I (.inr (7, [.null, .ref (L0 + (n - 0)), .int (zN 0), .int mc2, .ref L0]))) I 7 2 (.int (zN 0)) = some (hUp (hUp w3 I (.inr (7, [.null, .ref (L0 + (n - 0)), .int (zN 0), .int mc2, .ref L0]))) I (.inr (7, [.null, .ref (L0 + (n - 0)), .int (zN 0), .int mc2, .ref L0]))) := c_P A4 (k := 2) (show 2 < 5 by decide) _
  obtain ⟨K5, H5⟩ := st _ _ (.inr (7, [.null, .ref (L0 + (n - 0)), .int (zN 0), .int mc2, .ref L0])) A4 rfl K4 H4
  have el : liC L0 n 0 .null mc2 = .inr (7, [.null, .ref (L0 + (n - 0)), .int (zN 0), .int mc2, .ref L0]) := by
    unfold liC
    rw [if_pos (by omega)]
  have n0 : ¬ (n < 0) := by omega
  have n2 : ¬ (0 = n) := by omega
  have n3 : ¬ (0 < 0) := by omega
  refine ⟨_, mc2, ?_, by rw [el]; exact hUp_eq _ _ _, H5, (hUp_ne _ _ (by omega)).trans hl4, K5⟩
  simp (disch := omega) only [b2_some, bd_some, nm_eq, Option.map_some, zN_lit, zN_add, zN_mul, zN_neg1, if_true, if_false, reduceIte, eq_self, Nat.reduceEqDiff, Nat.reduceAdd, Nat.reduceMul, Nat.reduceSub, Nat.reduceLeDiff, Nat.one_ne_zero, not_false_eq_true, Bool.false_eq_true, zN_eq, zN_lt, zN_le,  fJ30_iterator, s2, fJ1_listIterator, fJ31_listIterator, fJ31_checkPositionIndex, fJ31_isPositionIndex, s1, n0, n3, n1, fJ25_init, p1', g1, g2, p2', s3, n2, s4, nd, fJ25_init_b38, va_rf, p3', p4']
theorem c_liHas {k : Nat} {lr : Value} {mc : Int32} (h : LkC w L0 n it) (hI : w.1 I = some (liC L0 n k lr mc)) (hk : k ≤ n) (hn : n < 16) : fJ25_hasNext I w = some (zN (if k < n then 1 else 0), w) ∧ hIs w I 7 = some () := by
  have g1 : gI w I 7 2 = some (zN k) := c_I hI 2
  have g2 : gR w I 7 4 = some (some L0) := c_R hI 4
  obtain ⟨s1, s2⟩ := lk_sz h
  refine ⟨?_, c_C hI⟩
  by_cases c : k < n
  · rw [if_pos c]
    have n1 : ¬ (n ≤ k) := by omega
    simp (disch := omega) only [b2_some, bd_some, nm_eq, Option.map_some, zN_lit, zN_add, zN_mul, zN_neg1, if_true, if_false, reduceIte, eq_self, Nat.reduceEqDiff, Nat.reduceAdd, Nat.reduceMul, Nat.reduceSub, Nat.reduceLeDiff, Nat.one_ne_zero, not_false_eq_true, Bool.false_eq_true, zN_eq, zN_lt, zN_le,  fJ25_hasNext, g1, g2, s1, n1]
  · rw [if_neg c]
    have n1 : n ≤ k := by omega
    simp (disch := omega) only [b2_some, bd_some, nm_eq, Option.map_some, zN_lit, zN_add, zN_mul, zN_neg1, if_true, if_false, reduceIte, eq_self, Nat.reduceEqDiff, Nat.reduceAdd, Nat.reduceMul, Nat.reduceSub, Nat.reduceLeDiff, Nat.one_ne_zero, not_false_eq_true, Bool.false_eq_true, zN_eq, zN_lt, zN_le,  fJ25_hasNext, g1, g2, s1, n1]
theorem c_liNext {k c d : Nat} {Q : Nat → Prop} {lr : Value} {mc : Int32} (h : LkC w L0 n it) (hm : w.1 L0 = some (lkC L0 n mc)) (hI : w.1 I = some (liC L0 n k lr mc)) (hk : k < n) (hn : n < 16) (hL : L0 + n < I) (hK : Kg F Q w0 w c d) (hw0 : wN w0 ≤ I) :
    ∃ w' lr', fJ25_next I w = some (some (it (n - k)), w') ∧ w'.1 I = some (liC L0 n (k + 1) lr' mc) ∧ LkC w' L0 n it ∧ w'.1 L0 = some (lkC L0 n mc) ∧ Kg F Q w0 w' c d ∧ w' = hUp w I (liC L0 n (k + 1) lr' mc) := by
  obtain ⟨e1, e2⟩ := c_liHas h hI (by omega) hn
  rw [if_pos hk] at e1
  have el : liC L0 n k lr mc = .inr (7, [lr, .ref (L0 + (n - k)), .int (zN k), .int mc, .ref L0]) := by
    unfold liC
    rw [if_pos hk]
  rw [el] at hI
  have g1 : gR w I 7 4 = some (some L0) := c_R hI 4
  have g2 : gI w L0 11 0 = some mc := c_I hm 0
  have g3 : gI w I 7 3 = some mc := c_I hI 3
  have g4 : gR w I 7 1 = some (some (L0 + (n - k))) := c_R hI 1
  have p1 : hPut w I 7 0 (.ref (L0 + (n - k))) = some (hUp w I (.inr (7, [.ref (L0 + (n - k)), .ref (L0 + (n - k)), .int (zN k), .int mc, .ref L0]))) := c_P hI (k := 0) (show 0 < 5 by decide) _
  have A1 := hUp_eq w I (.inr (7, [.ref (L0 + (n - k)), .ref (L0 + (n - k)), .int (zN k), .int mc, .ref L0]))
  have H1 := h.up (b := I) (.inr (by omega)) (.inr (7, [.ref (L0 + (n - k)), .ref (L0 + (n - k)), .int (zN k), .int mc, .ref L0]))
  have g5 : gR (hUp w I (.inr (7, [.ref (L0 + (n - k)), .ref (L0 + (n - k)), .int (zN k), .int mc, .ref L0]))) I 7 1 = some (some (L0 + (n - k))) := c_R A1 1
  have e5 : liC L0 n (k + 1) (.ref (L0 + (n - k))) mc = .inr (7, [.ref (L0 + (n - k)), if k + 1 < n then .ref (L0 + (n - (k + 1))) else .null, .int (zN (k + 1)), .int mc, .ref L0]) := rfl
  have g6 : gR (hUp w I (.inr (7, [.ref (L0 + (n - k)), .ref (L0 + (n - k)), .int (zN k), .int mc, .ref L0]))) (L0 + (n - k)) 3 1 = some (if k + 1 < n then some (L0 + (n - (k + 1))) else none) := by
    by_cases c : k + 1 < n
    · rw [if_pos c, lk_next H1 (by omega) (by omega), show n - k - 1 = n - (k + 1) by omega]
    · rw [if_neg c, show n - k = 1 by omega]
      have := lk_nex1 H1 (by omega)
      rw [show n - k = 1 by omega] at this
      exact this
  have vr : va_rf (if k + 1 < n then some (L0 + (n - (k + 1))) else none) = if k + 1 < n then .ref (L0 + (n - (k + 1))) else .null := by
    by_cases c : k + 1 < n
    · rw [if_pos c, if_pos c]; rfl
    · rw [if_neg c, if_neg c]; rfl
  have p2 : hPut (hUp w I (.inr (7, [.ref (L0 + (n - k)), .ref (L0 + (n - k)), .int (zN k), .int mc, .ref L0]))) I 7 1 (if k + 1 < n then .ref (L0 + (n - (k + 1))) else .null) = some (hUp w I (.inr (7, [.ref (L0 + (n - k)), if k + 1 < n then .ref (L0 + (n - (k + 1))) else .null, .int (zN k), .int mc, .ref L0]))) := by
    have := c_P A1 (k := 1) (show 1 < 5 by decide) (if k + 1 < n then .ref (L0 + (n - (k + 1))) else .null)
    rw [hUp_hUp] at this
    exact this
  have A2 := hUp_eq w I (.inr (7, [.ref (L0 + (n - k)), if k + 1 < n then .ref (L0 + (n - (k + 1))) else .null, .int (zN k), .int mc, .ref L0]))
  have g7 : gI (hUp w I (.inr (7, [.ref (L0 + (n - k)), if k + 1 < n then .ref (L0 + (n - (k + 1))) else .null, .int (zN k), .int mc, .ref L0]))) I 7 2 = some (zN k) := c_I A2 2
  have p3 : hPut (hUp w I (.inr (7, [.ref (L0 + (n - k)), if k + 1 < n then .ref (L0 + (n - (k + 1))) else .null, .int (zN k), .int mc, .ref L0]))) I 7 2 (.int (zN (k + 1))) = some (hUp w I (liC L0 n (k + 1) (.ref (L0 + (n - k))) mc)) := by
    have := c_P A2 (k := 2) (show 2 < 5 by decide) (.int (zN (k + 1)))
    rw [hUp_hUp] at this
    exact this
  have A3 := hUp_eq w I (liC L0 n (k + 1) (.ref (L0 + (n - k))) mc)
  have H3 := h.up (b := I) (.inr (by omega)) (liC L0 n (k + 1) (.ref (L0 + (n - k))) mc)
  have g8 : gR (hUp w I (liC L0 n (k + 1) (.ref (L0 + (n - k))) mc)) I 7 0 = some (some (L0 + (n - k))) := c_R A3 0
  have im := lk_item H3 (j := n - k) (by omega) (by omega)
  refine ⟨_, .ref (L0 + (n - k)), ?_, A3, H3, (hUp_ne _ _ (by omega)).trans hm, hK.up hI rfl (.inl hw0) _, rfl⟩
  have n1 : ¬ (zN 1 = 0) := by decide
  unfold fJ25_next fJ25_checkForComodification
  rw [e2, bd_some, g1, bd_some, bd_some, g2, bd_some, g3, bd_some, if_pos rfl, bd_some, e2, bd_some, e1, b2_some, if_neg n1, g4, bd_some]
  rw [show va_rf (some (L0 + (n - k))) = .ref (L0 + (n - k)) from rfl, p1, bd_some, g5, bd_some, bd_some, g6, bd_some, vr, p2, bd_some, g7, bd_some, show zN k + 1 = zN (k + 1) from zN_add k 1, p3, bd_some, g8, bd_some, bd_some, im, bd_some]
end
