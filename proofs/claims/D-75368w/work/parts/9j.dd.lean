/-! Plain law: the deque of kept states -/
def deqC (e h t : Nat) : hE := .inr (1, [.ref e, .int (zN h), .int (zN t)])
def refC (m : Nat) (g : Nat → Option Nat) : hE := .inl (4, m, .inr (.inr (.inr (.inr g))))
def DqC (w : WH) (P e h : Nat) (L : List Nat) : Prop := w.1 P = some (deqC e h ((h + L.length) % 13)) ∧ h < 13 ∧ L.length ≤ 12 ∧ ∃ g, w.1 e = some (refC 13 g) ∧ ∀ j, j < L.length → g ((h + j) % 13) = some (L.getD j 0)
/-- only these cells change -/
def Ko (Q : Nat → Prop) (w w' : WH) : Prop := (∀ a, ¬ Q a → w'.1 a = w.1 a) ∧ w'.2 = w.2
def dqQ (P e : Nat) : Nat → Prop := fun a => a = P ∨ a = e
theorem Ko.refl (Q : Nat → Prop) (w : WH) : Ko Q w w := ⟨fun _ _ => rfl, rfl⟩
theorem Ko.trans {Q : Nat → Prop} {w w1 w2 : WH} (h : Ko Q w w1) (h' : Ko Q w1 w2) : Ko Q w w2 := ⟨fun a ha => (h'.1 a ha).trans (h.1 a ha), h'.2.trans h.2⟩
theorem Ko.up {Q : Nat → Prop} {w w1 : WH} (h : Ko Q w w1) {a : Nat} (ha : Q a) (c : hE) : Ko Q w (hUp w1 a c) := ⟨fun b hb => by rw [hUp_ne w1 c (fun e => hb (by rw [e]; exact ha))]; exact h.1 b hb, h.2⟩
theorem Ko.kg {Q : Nat → Prop} {w w' : WH} {F : Nat} (h : Ko Q w w') (hF : FiC w F) (hW : WF w) (hQ : ∀ a, Q a → ¬ (F ≤ a ∧ a < F + 6) ∧ a < wN w) : Kg F Q w w' 0 0 := by
  have eN : wN w' = wN w := congrArg (fun z => z.2.1) h.2
  refine ⟨fun a _ _ hq => h.1 a hq, ?_, fun a ha => ?_, Nat.le_of_eq eN.symm, congrArg (fun z => z.1) h.2, Nat.le_of_eq (congrArg (fun z => z.2.2.1) h.2).symm, Nat.le_of_eq (congrArg (fun z => z.2.2.2) h.2).symm⟩
  · have k : ∀ a, F ≤ a → a < F + 6 → w'.1 a = w.1 a := fun a h1 h2 => h.1 a (fun q => (hQ a q).1 ⟨h1, h2⟩)
    obtain ⟨⟨l, h3⟩, ⟨f1, h4⟩, ⟨f2, h5⟩, ⟨f3, h6⟩, ⟨f4, h7⟩, ⟨f5, h8⟩⟩ := hF
    exact ⟨⟨l, by rw [k F (by omega) (by omega)]; exact h3⟩, ⟨f1, by rw [k _ (by omega) (by omega)]; exact h4⟩, ⟨f2, by rw [k _ (by omega) (by omega)]; exact h5⟩, ⟨f3, by rw [k _ (by omega) (by omega)]; exact h6⟩, ⟨f4, by rw [k _ (by omega) (by omega)]; exact h7⟩, ⟨f5, by rw [k _ (by omega) (by omega)]; exact h8⟩⟩
  · rw [eN] at ha
    rw [h.1 a (fun q => by have := (hQ a q).2; omega)]
    exact hW a ha
section
variable {w : WH} {P e h : Nat} {L : List Nat}
theorem DqC.ne (hd : DqC w P e h L) : P ≠ e := fun c => by
  obtain ⟨h1, -, -, g, h2, -⟩ := hd
  rw [c, h2] at h1
  cases h1
theorem c_aLn {m : Nat} {g : Nat → Option Nat} (he : w.1 e = some (refC m g)) : aLn w e = some (zN m) := c_len (x := (4, m, .inr (.inr (.inr (.inr g))))) he (show 4 < 6 by omega)
theorem c_dqSub {t n : Nat} (hh : h < 13) (hn : n ≤ 12) (ht : t = (h + n) % 13) : fJ18_sub (zN t) (zN h) (zN 13) w = some (zN n, w) := by
  have e1 : zN t - zN h = zI ((t : Int) - h) := zI_sub _ _
  by_cases c : h + n < 13
  · have e2 : t = h + n := by rw [ht]; exact Nat.mod_eq_of_lt c
    have e3 : zI ((t : Int) - h) = zN n := by rw [show (t : Int) - h = (n : Int) by omega]; rfl
    have z0 : (0 : Int32) = zN 0 := rfl
    have n1 : 0 ≤ n := by omega
    simp (disch := omega) only [b2_some, bd_some, nm_eq, Option.map_some, zN_lit, zN_add, zN_mul, zN_neg1, if_true, if_false, reduceIte, eq_self, Nat.reduceEqDiff, Nat.reduceAdd, Nat.reduceMul, Nat.reduceSub, Nat.reduceLeDiff, Nat.one_ne_zero, not_false_eq_true, Bool.false_eq_true, zN_eq, zN_lt, zN_le,  fJ18_sub, e1, e3, n1]
  · have e2 : t = h + n - 13 := by rw [ht, Nat.mod_eq_sub_mod (by omega)]; exact Nat.mod_eq_of_lt (by omega)
    have n1 : (zN 0 ≤ zI ((t : Int) - h)) = False := by
      rw [show zN 0 = zI 0 from rfl, zI_le (by omega) (by omega)]
      exact eq_false (by omega)
    have e3 : zI ((t : Int) - h) + zN 13 = zN n := by
      rw [show zN 13 = zI 13 from rfl, zI_add, show (t : Int) - h + 13 = (n : Int) by omega]
      rfl
    simp (disch := omega) only [b2_some, bd_some, nm_eq, Option.map_some, zN_lit, zN_add, zN_mul, zN_neg1, if_true, if_false, reduceIte, eq_self, Nat.reduceEqDiff, Nat.reduceAdd, Nat.reduceMul, Nat.reduceSub, Nat.reduceLeDiff, Nat.one_ne_zero, not_false_eq_true, Bool.false_eq_true, zN_eq, zN_lt, zN_le,  fJ18_sub, e1, n1, e3]
theorem c_dqSize (hd : DqC w P e h L) : fJ18_size P w = some (zN L.length, w) := by
  obtain ⟨h1, h2, h3, g, h4, h5⟩ := hd
  have r1 : gI w P 1 2 = some (zN ((h + L.length) % 13)) := c_I h1 2
  have r2 : gI w P 1 1 = some (zN h) := c_I h1 1
  have r3 : gR w P 1 0 = some (some e) := c_R h1 0
  have s1 := c_dqSub (w := w) h2 h3 rfl
  simp (disch := omega) only [b2_some, bd_some, nm_eq, Option.map_some, zN_lit, zN_add, zN_mul, zN_neg1, if_true, if_false, reduceIte, eq_self, Nat.reduceEqDiff, Nat.reduceAdd, Nat.reduceMul, Nat.reduceSub, Nat.reduceLeDiff, Nat.one_ne_zero, not_false_eq_true, Bool.false_eq_true, zN_eq, zN_lt, zN_le,  fJ18_size, r1, r2, r3, c_aLn h4, s1]
theorem c_dqEmp (hd : DqC w P e h L) : fJ18_isEmpty P w = some (zN (if L.length = 0 then 1 else 0), w) := by
  obtain ⟨h1, h2, h3, g, h4, h5⟩ := hd
  have r1 : gI w P 1 2 = some (zN ((h + L.length) % 13)) := c_I h1 2
  have r2 : gI w P 1 1 = some (zN h) := c_I h1 1
  have m1 : (h + L.length) % 13 < 13 := Nat.mod_lt _ (by omega)
  by_cases c : L.length = 0
  · rw [c, Nat.add_zero, Nat.mod_eq_of_lt h2] at r1
    rw [if_pos c]
    simp (disch := omega) only [b2_some, bd_some, nm_eq, Option.map_some, zN_lit, zN_add, zN_mul, zN_neg1, if_true, if_false, reduceIte, eq_self, Nat.reduceEqDiff, Nat.reduceAdd, Nat.reduceMul, Nat.reduceSub, Nat.reduceLeDiff, Nat.one_ne_zero, not_false_eq_true, Bool.false_eq_true, zN_eq, zN_lt, zN_le,  fJ18_isEmpty, r1, r2]
  · have n1 : ¬ (h = (h + L.length) % 13) := by omega
    rw [if_neg c]
    simp (disch := omega) only [b2_some, bd_some, nm_eq, Option.map_some, zN_lit, zN_add, zN_mul, zN_neg1, if_true, if_false, reduceIte, eq_self, Nat.reduceEqDiff, Nat.reduceAdd, Nat.reduceMul, Nat.reduceSub, Nat.reduceLeDiff, Nat.one_ne_zero, not_false_eq_true, Bool.false_eq_true, zN_eq, zN_lt, zN_le,  fJ18_isEmpty, r1, r2, n1]
theorem c_inc {k : Nat} (hk : k < 13) : fJ18_inc (zN k) (zN 13) w = some (zN ((k + 1) % 13), w) := by
  by_cases c : k + 1 < 13
  · rw [Nat.mod_eq_of_lt c]
    simp (disch := omega) only [b2_some, bd_some, nm_eq, Option.map_some, zN_lit, zN_add, zN_mul, zN_neg1, if_true, if_false, reduceIte, eq_self, Nat.reduceEqDiff, Nat.reduceAdd, Nat.reduceMul, Nat.reduceSub, Nat.reduceLeDiff, Nat.one_ne_zero, not_false_eq_true, Bool.false_eq_true, zN_eq, zN_lt, zN_le,  fJ18_inc, c]
  · have : k = 12 := by omega
    subst this
    simp (disch := omega) only [b2_some, bd_some, nm_eq, Option.map_some, zN_lit, zN_add, zN_mul, zN_neg1, if_true, if_false, reduceIte, eq_self, Nat.reduceEqDiff, Nat.reduceAdd, Nat.reduceMul, Nat.reduceSub, Nat.reduceLeDiff, Nat.one_ne_zero, not_false_eq_true, Bool.false_eq_true, zN_eq, zN_lt, zN_le,  fJ18_inc, show ¬ (13 < 13) by omega]
theorem c_dqRF {a : Nat} (hd : DqC w P e h (a :: L)) : ∃ w', fJ18_removeFirst P w = some (some a, w') ∧ DqC w' P e ((h + 1) % 13) L ∧ Ko (dqQ P e) w w' := by
  have hne := hd.ne
  obtain ⟨h1, h2, h3, g, h4, h5⟩ := hd
  rw [List.length_cons] at h1 h3 h5
  have r0 : hIs w P 1 = some () := c_C h1
  have r2 : gI w P 1 1 = some (zN h) := c_I h1 1
  have r3 : gR w P 1 0 = some (some e) := c_R h1 0
  have g0 := h5 0 (by omega)
  rw [Nat.add_zero, Nat.mod_eq_of_lt h2] at g0
  have l1 : ldR w e 4 (zN h) = some (some a) := by rw [c_ldR h4 h2 (by omega), g0]; rfl
  have s1 : stR w e 4 (zN h) none = some (hUp w e (refC 13 (va_up g h none))) := c_stR h4 h2 (by omega) none
  have a1 : aLn (hUp w e (refC 13 (va_up g h none))) e = some (zN 13) := c_aLn (hUp_eq _ _ _)
  have c1 : (hUp w e (refC 13 (va_up g h none))).1 P = some (deqC e h ((h + (L.length + 1)) % 13)) := by rw [hUp_ne _ _ hne]; exact h1
  have i1 := c_inc (w := hUp w e (refC 13 (va_up g h none))) h2
  have p1 : hPut (hUp w e (refC 13 (va_up g h none))) P 1 1 (.int (zN ((h + 1) % 13))) = some (hUp (hUp w e (refC 13 (va_up g h none))) P (deqC e ((h + 1) % 13) ((h + (L.length + 1)) % 13))) := c_P c1 (k := 1) (show 1 < 3 by decide) _
  have n1 : (some a = none) = False := eq_false (by simp)
  refine ⟨hUp (hUp w e (refC 13 (va_up g h none))) P (deqC e ((h + 1) % 13) ((h + (L.length + 1)) % 13)), ?_, ⟨?_, Nat.mod_lt _ (by omega), by omega, va_up g h none, ?_, fun j hj => ?_⟩, ((Ko.refl _ w).up (.inr rfl) _).up (.inl rfl) _⟩
  · simp (disch := omega) only [b2_some, bd_some, nm_eq, Option.map_some, zN_lit, zN_add, zN_mul, zN_neg1, if_true, if_false, reduceIte, eq_self, Nat.reduceEqDiff, Nat.reduceAdd, Nat.reduceMul, Nat.reduceSub, Nat.reduceLeDiff, Nat.one_ne_zero, not_false_eq_true, Bool.false_eq_true, zN_eq, zN_lt, zN_le,  fJ18_removeFirst, r0, fJ18_pollFirst, r2, r3, fJ18_elementAt, l1, n1, s1, a1, i1, p1, fJ18_pollFirst_b34]
  · rw [show ((h + 1) % 13 + L.length) % 13 = (h + (L.length + 1)) % 13 by omega]
    exact hUp_eq _ _ _
  · rw [hUp_ne _ _ hne.symm]
    exact hUp_eq _ _ _
  · have := h5 (j + 1) (by omega)
    have e1 : ((h + 1) % 13 + j) % 13 = (h + (j + 1)) % 13 := by omega
    rw [e1]
    unfold va_up
    rw [if_neg (by omega), this]
    rfl
theorem c_dqAdd {a : Nat} (hd : DqC w P e h L) (hl : L.length < 12) (ha : aok w a = some ()) : ∃ w', fJ18_addLast P a w = some w' ∧ DqC w' P e h (L ++ [a]) ∧ Ko (dqQ P e) w w' := by
  have hne := hd.ne
  obtain ⟨h1, h2, h3, g, h4, h5⟩ := hd
  have ht : (h + L.length) % 13 < 13 := Nat.mod_lt _ (by omega)
  have r1 : gI w P 1 2 = some (zN ((h + L.length) % 13)) := c_I h1 2
  have r3 : gR w P 1 0 = some (some e) := c_R h1 0
  have s1 : stR w e 4 (zN ((h + L.length) % 13)) (some a) = some (hUp w e (refC 13 (va_up g ((h + L.length) % 13) (some a)))) := c_stR h4 ht (by omega) _
  have e1 := hUp_eq w e (refC 13 (va_up g ((h + L.length) % 13) (some a)))
  have c1 : (hUp w e (refC 13 (va_up g ((h + L.length) % 13) (some a)))).1 P = some (deqC e h ((h + L.length) % 13)) := by rw [hUp_ne _ _ hne]; exact h1
  have K1 := (Ko.refl (dqQ P e) w).up (.inr rfl) (refC 13 (va_up g ((h + L.length) % 13) (some a)))
  generalize hUp w e (refC 13 (va_up g ((h + L.length) % 13) (some a))) = w1 at s1 e1 c1 K1
  have q1 : gI w1 P 1 1 = some (zN h) := c_I c1 1
  have q2 : gI w1 P 1 2 = some (zN ((h + L.length) % 13)) := c_I c1 2
  have a1 := c_aLn e1
  have i1 := c_inc (w := w1) ht
  rw [show ((h + L.length) % 13 + 1) % 13 = (h + (L.length + 1)) % 13 by omega] at i1
  have p1 : hPut w1 P 1 2 (.int (zN ((h + (L.length + 1)) % 13))) = some (hUp w1 P (deqC e h ((h + (L.length + 1)) % 13))) := c_P c1 (k := 2) (show 2 < 3 by decide) _
  have n1 : ¬ (h = (h + (L.length + 1)) % 13) := by omega
  have hm : (h + (L.length + 1)) % 13 < 13 := Nat.mod_lt _ (by omega)
  refine ⟨hUp w1 P (deqC e h ((h + (L.length + 1)) % 13)), ?_, ⟨?_, h2, by rw [List.length_append, List.length_singleton]; omega, va_up g ((h + L.length) % 13) (some a), ?_, fun j hj => ?_⟩, K1.up (.inl rfl) _⟩
  · simp (disch := omega) only [b2_some, bd_some, nm_eq, Option.map_some, zN_lit, zN_add, zN_mul, zN_neg1, if_true, if_false, reduceIte, eq_self, Nat.reduceEqDiff, Nat.reduceAdd, Nat.reduceMul, Nat.reduceSub, Nat.reduceLeDiff, Nat.one_ne_zero, not_false_eq_true, Bool.false_eq_true, zN_eq, zN_lt, zN_le,  fJ18_addLast, r1, r3, ha, s1, q1, q2, a1, i1, p1, n1, fJ18_addLast_b50]
  · rw [List.length_append, List.length_singleton]
    exact hUp_eq _ _ _
  · rw [hUp_ne _ _ hne.symm]
    exact e1
  · rw [List.length_append, List.length_singleton] at hj
    rw [getD_snoc]
    unfold va_up
    by_cases c : j < L.length
    · rw [if_pos c, if_neg (by omega)]
      exact h5 j c
    · have : j = L.length := by omega
      rw [if_neg c, if_pos this, this, if_pos rfl]
theorem c_dec {k : Nat} (hk : k < 13) : fJ18_dec (zN k) (zN 13) w = some (zN ((k + 12) % 13), w) := by
  by_cases c : 1 ≤ k
  · have e1 : (k + 12) % 13 = k - 1 := by omega
    have e2 := zN_dec c
    rw [e1]
    have n1 : 0 ≤ k - 1 := by omega
    simp (disch := omega) only [b2_some, bd_some, nm_eq, Option.map_some, zN_lit, zN_add, zN_mul, zN_neg1, if_true, if_false, reduceIte, eq_self, Nat.reduceEqDiff, Nat.reduceAdd, Nat.reduceMul, Nat.reduceSub, Nat.reduceLeDiff, Nat.one_ne_zero, not_false_eq_true, Bool.false_eq_true, zN_eq, zN_lt, zN_le,  fJ18_dec, e2, n1]
  · have : k = 0 := by omega
    subst this
    have n1 : (zN 0 ≤ zN 0 + zI (-1)) = False := by decide
    have e2 : zN 13 - zN 1 = zN 12 := rfl
    simp (disch := omega) only [b2_some, bd_some, nm_eq, Option.map_some, zN_lit, zN_add, zN_mul, zN_neg1, if_true, if_false, reduceIte, eq_self, Nat.reduceEqDiff, Nat.reduceAdd, Nat.reduceMul, Nat.reduceSub, Nat.reduceLeDiff, Nat.one_ne_zero, not_false_eq_true, Bool.false_eq_true, zN_eq, zN_lt, zN_le,  fJ18_dec, n1, e2]
theorem pl_gen {t n u : Int32} {w1 w2 : WH} {a : Nat} (r3 : gR w P 1 0 = some (some e)) (r1 : gI w P 1 2 = some t) (a1 : aLn w e = some n) (d1 : fJ18_dec t n w = some (u, w)) (l1 : ldR w e 4 u = some (some a)) (p1 : hPut w P 1 2 (.int u) = some w1) (s1 : stR w1 e 4 u none = some w2) : fJ18_pollLast P w = some (some a, w2) := by
  have n1 : (some a = none) = False := eq_false (by simp)
  unfold fJ18_pollLast fJ18_elementAt fJ18_pollLast_b34
  rw [r3, bd_some, r1, bd_some, bd_some, a1, bd_some, d1, b2_some, l1, bd_some, b2_some, if_neg (by simp), p1, bd_some, s1, bd_some]
theorem c_dqRL {a : Nat} (hd : DqC w P e h (L ++ [a])) : ∃ w', fJ18_removeLast P w = some (some a, w') ∧ DqC w' P e h L ∧ Ko (dqQ P e) w w' := by
  have hne := hd.ne
  obtain ⟨h1, h2, h3, g, h4, h5⟩ := hd
  rw [List.length_append, List.length_singleton] at h1 h3 h5
  have g0 := h5 L.length (by omega)
  rw [getD_snoc, if_neg (by omega), if_pos rfl] at g0
  have hg : ∀ j, j < L.length → (h + j) % 13 ≠ (h + L.length) % 13 ∧ g ((h + j) % 13) = some (L.getD j 0) := fun j hj => by
    have := h5 j (by omega)
    rw [getD_snoc, if_pos hj] at this
    exact ⟨by omega, this⟩
  have e12 : ((h + (L.length + 1)) % 13 + 12) % 13 = (h + L.length) % 13 := by omega
  have ht : (h + (L.length + 1)) % 13 < 13 := Nat.mod_lt _ (by omega)
  have hm : (h + L.length) % 13 < 13 := Nat.mod_lt _ (by omega)
  have d1 := c_dec (w := w) ht
  rw [e12] at d1
  unfold DqC
  generalize (h + (L.length + 1)) % 13 = t at h1 ht d1
  generalize (h + L.length) % 13 = u at hm d1 g0 hg ⊢
  have r0 : hIs w P 1 = some () := c_C h1
  have r1 : gI w P 1 2 = some (zN t) := c_I h1 2
  have r3 : gR w P 1 0 = some (some e) := c_R h1 0
  have l1 : ldR w e 4 (zN u) = some (some a) := by rw [c_ldR h4 hm (by omega), g0]
  have n1 : (some a = none) = False := eq_false (by simp)
  have p1 : hPut w P 1 2 (.int (zN u)) = some (hUp w P (deqC e h u)) := c_P h1 (k := 2) (show 2 < 3 by decide) _
  have c1 : (hUp w P (deqC e h u)).1 e = some (refC 13 g) := by rw [hUp_ne _ _ hne.symm]; exact h4
  have s1 : stR (hUp w P (deqC e h u)) e 4 (zN u) none = some (hUp (hUp w P (deqC e h u)) e (refC 13 (va_up g u none))) := c_stR c1 hm (by omega) none
  refine ⟨hUp (hUp w P (deqC e h u)) e (refC 13 (va_up g u none)), ?_, ⟨?_, h2, by omega, va_up g u none, hUp_eq _ _ _, fun j hj => ?_⟩, ((Ko.refl _ w).up (.inl rfl) _).up (.inr rfl) _⟩
  · have e1 := pl_gen r3 r1 (c_aLn h4) d1 l1 p1 s1
    unfold fJ18_removeLast
    simp only [r0, bd_some, e1, b2_some, n1, if_false]
  · rw [hUp_ne _ _ hne]
    exact hUp_eq _ _ _
  · unfold va_up
    rw [if_neg (hg j hj).1]
    exact (hg j hj).2
theorem c_dqClr (hd : DqC w P e h L) : ∃ w', fJ18_clear P w = some w' ∧ DqC w' P e 0 [] ∧ Ko (dqQ P e) w w' := by
  have hne := hd.ne
  obtain ⟨h1, h2, h3, g, h4, h5⟩ := hd
  have ht : (h + L.length) % 13 < 13 := Nat.mod_lt _ (by omega)
  generalize (h + L.length) % 13 = t at h1 ht
  have r1 : gR w P 1 0 = some (some e) := c_R h1 0
  have r2 : gI w P 1 1 = some (zN h) := c_I h1 1
  have r3 : gI w P 1 2 = some (zN t) := c_I h1 2
  have H : ∀ to : Nat, h ≤ to → to ≤ 13 → (to = t ∨ to = 13) → ∃ r, fJ18_circularClear_l12 e (zN h) (zN t) (zN to) w = some r ∧ ∃ g', r = hUp w e (refC 13 g') := by
    intro to q1 q2 q3
    refine wh_dn (P := fun d y => ∃ i to g', y = (zN i, zN to, hUp w e (refC 13 g')) ∧ i ≤ to ∧ to ≤ 13 ∧ ((to = t ∧ d = to - i) ∨ (to = 13 ∧ d = 14 - i + 13))) ?_ (if to = t then to - h else 14 - h + 13) _ ⟨h, to, g, by rw [hUp_self h4], q1, q2, ?_⟩
    · rintro d y ⟨i, to, g', rfl, b1, b2, b3⟩
      by_cases c : to ≤ i
      · have : i = to := by omega
        subst this
        by_cases c2 : i = t
        · right
          refine ⟨_, ?_, g', rfl⟩
          simp (disch := omega) only [b2_some, bd_some, nm_eq, Option.map_some, zN_lit, zN_add, zN_mul, zN_neg1, if_true, if_false, reduceIte, eq_self, Nat.reduceEqDiff, Nat.reduceAdd, Nat.reduceMul, Nat.reduceSub, Nat.reduceLeDiff, Nat.one_ne_zero, not_false_eq_true, Bool.false_eq_true, zN_eq, zN_lt, zN_le,  fJ18_circularClear_b12, Nat.le_refl, c2]
        · left
          refine ⟨(zN 0, zN t, hUp w e (refC 13 g')), t, ?_, ?_, 0, t, g', rfl, by omega, by omega, .inl ⟨rfl, by omega⟩⟩
          · rcases b3 with b3 | b3
            · omega
            · omega
          · simp (disch := omega) only [b2_some, bd_some, nm_eq, Option.map_some, zN_lit, zN_add, zN_mul, zN_neg1, if_true, if_false, reduceIte, eq_self, Nat.reduceEqDiff, Nat.reduceAdd, Nat.reduceMul, Nat.reduceSub, Nat.reduceLeDiff, Nat.one_ne_zero, not_false_eq_true, Bool.false_eq_true, zN_eq, zN_lt, zN_le,  fJ18_circularClear_b12, Nat.le_refl, c2]
      · left
        have s1 : stR (hUp w e (refC 13 g')) e 4 (zN i) none = some (hUp w e (refC 13 (va_up g' i none))) := by
          have s0 := c_stR (w := hUp w e (refC 13 g')) (a := e) (t := 4) (n := 13) (f := g') (hUp_eq _ _ _) (k := i) (by omega) (by omega) none
          rw [hUp_hUp] at s0
          exact s0
        refine ⟨(zN (i + 1), zN to, hUp w e (refC 13 (va_up g' i none))), (if to = t then to - (i + 1) else 14 - (i + 1) + 13), ?_, ?_, i + 1, to, _, rfl, by omega, b2, ?_⟩
        · rcases b3 with b3 | b3
          · rw [if_pos b3.1]; omega
          · by_cases c3 : to = t
            · rw [if_pos c3]; omega
            · rw [if_neg c3]; omega
        · simp (disch := omega) only [b2_some, bd_some, nm_eq, Option.map_some, zN_lit, zN_add, zN_mul, zN_neg1, if_true, if_false, reduceIte, eq_self, Nat.reduceEqDiff, Nat.reduceAdd, Nat.reduceMul, Nat.reduceSub, Nat.reduceLeDiff, Nat.one_ne_zero, not_false_eq_true, Bool.false_eq_true, zN_eq, zN_lt, zN_le,  fJ18_circularClear_b12, c, s1]
        · by_cases c3 : to = t
          · rw [if_pos c3]; exact .inl ⟨c3, rfl⟩
          · rw [if_neg c3]
            rcases b3 with b3 | b3
            · exact absurd b3.1 c3
            · exact .inr ⟨b3.1, rfl⟩
    · by_cases c3 : to = t
      · rw [if_pos c3]; exact .inl ⟨c3, rfl⟩
      · rw [if_neg c3]
        rcases q3 with q3 | q3
        · exact absurd q3 c3
        · exact .inr ⟨q3, rfl⟩
  have C : ∃ g', fJ18_circularClear e (zN h) (zN t) w = some (hUp w e (refC 13 g')) := by
    by_cases c : t < h
    · obtain ⟨r, e1, g', rfl⟩ := H 13 (by omega) (by omega) (.inr rfl)
      refine ⟨g', ?_⟩
      simp (disch := omega) only [b2_some, bd_some, nm_eq, Option.map_some, zN_lit, zN_add, zN_mul, zN_neg1, if_true, if_false, reduceIte, eq_self, Nat.reduceEqDiff, Nat.reduceAdd, Nat.reduceMul, Nat.reduceSub, Nat.reduceLeDiff, Nat.one_ne_zero, not_false_eq_true, Bool.false_eq_true, zN_eq, zN_lt, zN_le,  fJ18_circularClear, c, c_aLn h4, fJ18_circularClear_b11, e1]
    · obtain ⟨r, e1, g', rfl⟩ := H t (by omega) (by omega) (.inl rfl)
      refine ⟨g', ?_⟩
      simp (disch := omega) only [b2_some, bd_some, nm_eq, Option.map_some, zN_lit, zN_add, zN_mul, zN_neg1, if_true, if_false, reduceIte, eq_self, Nat.reduceEqDiff, Nat.reduceAdd, Nat.reduceMul, Nat.reduceSub, Nat.reduceLeDiff, Nat.one_ne_zero, not_false_eq_true, Bool.false_eq_true, zN_eq, zN_lt, zN_le,  fJ18_circularClear, c, fJ18_circularClear_b11, e1]
  obtain ⟨g', C⟩ := C
  have c1 : (hUp w e (refC 13 g')).1 P = some (deqC e h t) := by rw [hUp_ne _ _ hne]; exact h1
  have p1 : hPut (hUp w e (refC 13 g')) P 1 2 (.int (zN 0)) = some (hUp (hUp w e (refC 13 g')) P (deqC e h 0)) := c_P c1 (k := 2) (show 2 < 3 by decide) _
  have p2 : hPut (hUp (hUp w e (refC 13 g')) P (deqC e h 0)) P 1 1 (.int (zN 0)) = some (hUp (hUp w e (refC 13 g')) P (deqC e 0 0)) := by
    have := c_P (hUp_eq (hUp w e (refC 13 g')) P (deqC e h 0)) (k := 1) (show 1 < 3 by decide) (.int (zN 0))
    rw [hUp_hUp] at this
    exact this
  refine ⟨hUp (hUp w e (refC 13 g')) P (deqC e 0 0), ?_, ⟨hUp_eq _ _ _, by omega, Nat.zero_le _, g', ?_, fun j hj => absurd hj (Nat.not_lt_zero _)⟩, ((Ko.refl _ w).up (.inr rfl) _).up (.inl rfl) _⟩
  · simp (disch := omega) only [b2_some, bd_some, nm_eq, Option.map_some, zN_lit, zN_add, zN_mul, zN_neg1, if_true, if_false, reduceIte, eq_self, Nat.reduceEqDiff, Nat.reduceAdd, Nat.reduceMul, Nat.reduceSub, Nat.reduceLeDiff, Nat.one_ne_zero, not_false_eq_true, Bool.false_eq_true, zN_eq, zN_lt, zN_le,  fJ18_clear, r1, r2, r3, C, p1, p2]
  · rw [hUp_ne _ _ hne.symm]
    exact hUp_eq _ _ _
end
