/-! Plain law: the component makes objects; the best toll of an arc -/
def WF (w : WH) : Prop := ∀ a, wN w ≤ a → w.1 a = none
theorem WF.lt {w : WH} {a : Nat} {c : hE} (h : WF w) (hc : w.1 a = some c) : a < wN w := Nat.lt_of_not_le (fun e => by rw [h a e] at hc; cases hc)
theorem WF.up {w : WH} {a : Nat} (h : WF w) (ha : a < wN w) (c : hE) : WF (hUp w a c) := fun b (hb : wN w ≤ b) => by
  rw [hUp_ne w c (show b ≠ a by omega)]
  exact h b hb
theorem hMk_ne (w : WH) {a : Nat} (n : Nat) (c : hE) (h : a ≠ wN w) : (hMk w n c).1 a = w.1 a := if_neg h
theorem hMk_eq (w : WH) (n : Nat) (c : hE) : (hMk w n c).1 (wN w) = some c := if_pos rfl
theorem hMk_N (w : WH) (n : Nat) (c : hE) : wN (hMk w n c) = wN w + 1 := rfl
theorem hMk_C (w : WH) (n : Nat) (c : hE) : wC (hMk w n c) = wC w - 1 := rfl
theorem hMk_S (w : WH) (n : Nat) (c : hE) : wS (hMk w n c) = wS w - n := rfl
theorem hMk_K (w : WH) (n : Nat) (c : hE) : wK (hMk w n c) = wK w := rfl
theorem hUp_N (w : WH) (a : Nat) (c : hE) : wN (hUp w a c) = wN w := rfl
theorem hUp_C (w : WH) (a : Nat) (c : hE) : wC (hUp w a c) = wC w := rfl
theorem hUp_S (w : WH) (a : Nat) (c : hE) : wS (hUp w a c) = wS w := rfl
theorem WF.mk {w : WH} (h : WF w) (n : Nat) (c : hE) : WF (hMk w n c) := fun b (hb : wN w + 1 ≤ b) => by
  rw [hMk_ne w n c (by omega)]
  exact h b (by omega)
theorem hMk_up (w : WH) (n : Nat) (c c' : hE) : hUp (hMk w n c) (wN w) c' = hMk w n c' := by
  unfold hUp hMk va_up
  congr 1
  funext j
  dsimp only
  by_cases h : j = wN w
  · rw [if_pos h, if_pos h]
  · rw [if_neg h, if_neg h, if_neg h]
theorem c_new {w : WH} {n ci : Nat} {fs : List Value} (h1 : 1 ≤ wC w) (h2 : n ≤ wS w) : hNw w n ci fs = some (wN w, hMk w n (.inr (ci, fs))) := if_pos ⟨h1, h2⟩
/-- only the finder's cells, fresh ones and those of Q change -/
def Kg (F : Nat) (Q : Nat → Prop) (w w' : WH) (c n : Nat) : Prop := (∀ a, a < wN w → ¬ (F ≤ a ∧ a < F + 6) → ¬ Q a → w'.1 a = w.1 a) ∧ FiC w' F ∧ WF w' ∧ wN w ≤ wN w' ∧ wK w' = wK w ∧ wC w ≤ wC w' + c ∧ wS w ≤ wS w' + n
def nQ : Nat → Prop := fun _ => False
section
variable {w w' w2 : WH} {F c n c' n' : Nat} {Q Q' : Nat → Prop}
theorem Kg.refl (hF : FiC w F) (hW : WF w) : Kg F Q w w 0 0 := ⟨fun _ _ _ _ => rfl, hF, hW, Nat.le_refl _, rfl, Nat.le_refl _, Nat.le_refl _⟩
theorem FiC.lt (hF : FiC w F) (hW : WF w) : F + 6 ≤ wN w := by
  obtain ⟨-, -, -, -, -, f, h⟩ := hF
  exact hW.lt h
theorem Kf.wf (h : Kf w w' F) (hF : FiC w F) (hW : WF w) : WF w' := fun a ha => by
  have e : wN w' = wN w := congrArg (fun z => z.2.1) h.2.1
  have := hF.lt hW
  rw [h.1 a (by omega)]
  exact hW a (by omega)
theorem Kf.kg (h : Kf w w' F) (hF : FiC w F) (hW : WF w) : Kg F Q w w' 0 0 := by
  refine ⟨fun a _ ha _ => h.1 a ha, h.2.2, h.wf hF hW, ?_, h.K, ?_, ?_⟩
  · exact Nat.le_of_eq (congrArg (fun z => z.2.1) h.2.1).symm
  · exact Nat.le_of_eq (congrArg (fun z => z.2.2.1) h.2.1).symm
  · exact Nat.le_of_eq (congrArg (fun z => z.2.2.2) h.2.1).symm
theorem Kg.trans (h : Kg F Q w w' c n) (h' : Kg F Q' w' w2 c' n') (hQ : ∀ a, Q' a → wN w ≤ a ∨ Q a) : Kg F Q w w2 (c + c') (n + n') := by
  obtain ⟨h1, h2, h3, h4, h5, h6, h7⟩ := h
  obtain ⟨g1, g2, g3, g4, g5, g6, g7⟩ := h'
  refine ⟨fun a ha hf hq => ?_, g2, g3, by omega, g5.trans h5, by omega, by omega⟩
  rw [g1 a (by omega) hf (fun e => by rcases hQ a e with e | e; omega; exact hq e), h1 a ha hf hq]
theorem Kg.tr0 (h : Kg F Q w w' c n) (h' : Kg F nQ w' w2 c' n') : Kg F Q w w2 (c + c') (n + n') := h.trans h' (fun _ e => e.elim)
theorem Kg.mono (h : Kg F Q w w' c n) (hc : c ≤ c') (hn : n ≤ n') : Kg F Q w w' c' n' := by
  obtain ⟨h1, h2, h3, h4, h5, h6, h7⟩ := h
  exact ⟨h1, h2, h3, h4, h5, by omega, by omega⟩
theorem Kg.wk (h : Kg F Q w w' c n) (hQ : ∀ a, Q a → wN w ≤ a ∨ Q' a) : Kg F Q' w w' c n := by
  obtain ⟨h1, h2⟩ := h
  exact ⟨fun a ha hf hq => h1 a ha hf (fun e => by rcases hQ a e with e | e; omega; exact hq e), h2⟩
theorem FiC.out (hF : FiC w F) {a : Nat} {x : hE} (hc : w.1 a = some x) (ht : finT x = false) : ¬ (F ≤ a ∧ a < F + 6) := by
  rintro ⟨h1, h2⟩
  obtain ⟨c', e, e'⟩ := hF.ty h1 h2
  rw [hc] at e
  cases e
  rw [ht] at e'
  cases e'
theorem FiC.upo (hF : FiC w F) {a : Nat} (ha : ¬ (F ≤ a ∧ a < F + 6)) (x : hE) : FiC (hUp w a x) F := by
  obtain ⟨⟨l, h3⟩, ⟨f1, h4⟩, ⟨f2, h5⟩, ⟨f3, h6⟩, ⟨f4, h7⟩, ⟨f5, h8⟩⟩ := hF
  exact ⟨⟨l, by rw [hUp_ne w x (by omega)]; exact h3⟩, ⟨f1, by rw [hUp_ne w x (by omega)]; exact h4⟩, ⟨f2, by rw [hUp_ne w x (by omega)]; exact h5⟩, ⟨f3, by rw [hUp_ne w x (by omega)]; exact h6⟩, ⟨f4, by rw [hUp_ne w x (by omega)]; exact h7⟩, ⟨f5, by rw [hUp_ne w x (by omega)]; exact h8⟩⟩
theorem FiC.mk (hF : FiC w F) (hW : WF w) (n : Nat) (x : hE) : FiC (hMk w n x) F := by
  have hl := hF.lt hW
  obtain ⟨⟨l, h3⟩, ⟨f1, h4⟩, ⟨f2, h5⟩, ⟨f3, h6⟩, ⟨f4, h7⟩, ⟨f5, h8⟩⟩ := hF
  exact ⟨⟨l, by rw [hMk_ne w n x (by omega)]; exact h3⟩, ⟨f1, by rw [hMk_ne w n x (by omega)]; exact h4⟩, ⟨f2, by rw [hMk_ne w n x (by omega)]; exact h5⟩, ⟨f3, by rw [hMk_ne w n x (by omega)]; exact h6⟩, ⟨f4, by rw [hMk_ne w n x (by omega)]; exact h7⟩, ⟨f5, by rw [hMk_ne w n x (by omega)]; exact h8⟩⟩
theorem Kg.mk (hF : FiC w F) (hW : WF w) (n : Nat) (x : hE) : Kg F Q w (hMk w n x) 1 n := by
  refine ⟨fun a ha _ _ => hMk_ne w n x (by omega), hF.mk hW n x, hW.mk n x, Nat.le_succ _, rfl, ?_, ?_⟩
  · rw [hMk_C]; omega
  · rw [hMk_S]; omega
theorem Kg.up (h : Kg F Q w w' c n) {a : Nat} {y : hE} (hy : w'.1 a = some y) (hf : finT y = false) (ha : wN w ≤ a ∨ Q a) (x : hE) : Kg F Q w (hUp w' a x) c n := by
  obtain ⟨h1, h2, h3, h4, h5, h6, h7⟩ := h
  refine ⟨fun b hb hf hq => ?_, h2.upo (h2.out hy hf) x, h3.up (h3.lt hy) x, h4, h5, h6, h7⟩
  rw [hUp_ne w' x (fun e => by subst e; rcases ha with e | e; omega; exact hq e), h1 b hb hf hq]
theorem Kg.keep (h : Kg F Q w w' c n) (hF : FiC w F) (hW : WF w) {a : Nat} {x : hE} (hc : w.1 a = some x) (ht : finT x = false) (hq : ¬ Q a) : w'.1 a = some x := by
  rw [h.1 a (hW.lt hc) (hF.out hc ht) hq, hc]
theorem Kg.net {ν : NH} {ρ : Nat → Nat} (h : Kg F Q w w' c n) (hF : FiC w F) (hW : WF w) (hN : NtC w ν ρ) (hq : ∀ a x, Q a → w.1 a = some x → (kd x).1 = 0 ∨ (kd x).1 = 1 ∨ (kd x).1 = 100 ∨ (kd x).1 = 121) : NtC w' ν ρ := by
  have k : ∀ {a : Nat} {x : hE}, w.1 a = some x → finT x = false → ((kd x).1 = 122 ∨ (kd x).1 = 102 ∨ (kd x).1 = 4 ∨ (kd x).1 = 127 ∨ (kd x).1 = 128) → w'.1 a = some x := fun hc ht hk => h.keep hF hW hc ht (fun e => by have := hq _ _ e hc; omega)
  obtain ⟨h1, h2, ⟨g, h3, h4⟩, h5, h6, ⟨g', h7, h8⟩, h9⟩ := hN
  exact ⟨k h1 rfl (.inl rfl), k h2 rfl (.inr (.inl rfl)), ⟨g, k h3 rfl (.inr (.inr (.inl rfl))), h4⟩, fun j hj => k (h5 j hj) rfl (.inr (.inr (.inr (.inl rfl)))), k h6 rfl (.inr (.inl rfl)), ⟨g', k h7 rfl (.inr (.inr (.inl rfl))), h8⟩, fun j hj => k (h9 j hj) rfl (.inr (.inr (.inr (.inr rfl))))⟩
theorem Kg.st {s q m : Nat} {ρ : Nat → Nat} (h : Kg F nQ w w' c n) (hF : FiC w F) (hW : WF w) (hS : StC w s q m ρ) : StC w' s q m ρ := by
  obtain ⟨h1, ⟨f, h2, h3⟩, ⟨f', h4, h5⟩, h6, ⟨g, h7, h8⟩⟩ := hS
  exact ⟨h.keep hF hW h1 rfl id, ⟨f, h.keep hF hW h2 rfl id, h3⟩, ⟨f', h.keep hF hW h4 rfl id, h5⟩, h.keep hF hW h6 rfl id, ⟨g, h.keep hF hW h7 rfl id, h8⟩⟩
theorem MR.kg {x s q : Nat} {ν : NH} {ρ : Nat → Nat} (h : MR w x F s q ν ρ) (hW : WF w) (hk : Kg F nQ w w' c n) : MR w' x F s q ν ρ := by
  obtain ⟨⟨h1, h2, h3, h4, h5⟩, P, Sn, Tx, Ou, len, err, es, h6⟩ := h
  exact ⟨⟨hk.2.1, hk.st h1 hW h2, hk.net h1 hW h3 (fun _ _ e => e.elim), h4, by rw [hk.2.2.2.2.1]; exact h5⟩, P, Sn, Tx, Ou, len, err, es, hk.keep h1 hW h6 rfl id⟩
end
/-- iterators of lists -/
def itC (k : Nat) (lr mc : Int32) (l : Nat) : hE := .inr (4, [.int (zN k), .int lr, .int mc, .ref l])
def LsC (w : WH) (l e m n : Nat) (mc : Int32) (g : Nat → Option Nat) : Prop := w.1 l = some (.inr (2, [.int mc, .ref e, .int (zN n)])) ∧ w.1 e = some (.inl (4, m, .inr (.inr (.inr (.inr g))))) ∧ n ≤ m ∧ m ≤ 65536
section
variable {w : WH} {l e m n : Nat} {mc : Int32} {g : Nat → Option Nat}
theorem c_iter (h : LsC w l e m n mc g) (h1 : 1 ≤ wC w) (h2 : 4 ≤ wS w) (hW : WF w) : fJ2_iterator l w = some (some (wN w), hMk w 4 (itC 0 (-1) mc l)) := by
  have hl := hW.lt h.1
  have e1 := hMk_eq w 4 (.inr (4, [.int 0, .int 0, .int 0, .null]))
  have p1 := c_P e1 (k := 3) (show 3 < 4 by decide) (.ref l)
  rw [hMk_up] at p1
  have e2 := hMk_eq w 4 (.inr (4, [.int 0, .int 0, .int 0, .ref l]))
  have p2 := c_P e2 (k := 1) (show 1 < 4 by decide) (.int (-1))
  rw [hMk_up] at p2
  have e3 := hMk_eq w 4 (.inr (4, [.int 0, .int (-1), .int 0, .ref l]))
  have p3 := c_P e3 (k := 2) (show 2 < 4 by decide) (.int mc)
  rw [hMk_up] at p3
  have e4 : gI (hMk w 4 (.inr (4, [.int 0, .int (-1), .int 0, .ref l]))) l 2 0 = some mc := c_I ((hMk_ne w 4 (.inr (4, [.int 0, .int (-1), .int 0, .ref l])) (show l ≠ wN w by omega)).trans h.1) 0
  have e5 : gR (hMk w 4 (.inr (4, [.int 0, .int (-1), .int 0, .ref l]))) (wN w) 4 3 = some (some l) := c_R e3 3
  unfold fJ2_iterator
  rw [c_new h1 h2, b2_some]
  unfold fJ21_init
  simp only [p1, bd_some, List.set, p2, e5, e4, p3]
  rfl
variable {I k : Nat} {lr : Int32}
theorem c_hasN (h : LsC w l e m n mc g) (hI : w.1 I = some (itC k lr mc l)) (hk : k ≤ n) : fJ21_hasNext I w = some (zN (if k = n then 0 else 1), w) := by
  have hm := h.2.2
  have r1 : gI w I 4 0 = some (zN k) := c_I hI 0
  have r2 : gR w I 4 3 = some (some l) := c_R hI 3
  have r3 : gI w l 2 2 = some (zN n) := c_I h.1 2
  by_cases e : k = n
  · rw [if_pos e]
    simp (disch := omega) only [b2_some, bd_some, nm_eq, Option.map_some, zN_lit, zN_add, zN_mul, zN_neg1, if_true, if_false, reduceIte, eq_self, Nat.reduceEqDiff, Nat.reduceAdd, Nat.reduceMul, Nat.reduceSub, Nat.reduceLeDiff, Nat.one_ne_zero, not_false_eq_true, Bool.false_eq_true, zN_eq, zN_lt, zN_le,  fJ21_hasNext, r1, r2, r3, e]
  · rw [if_neg e]
    simp (disch := omega) only [b2_some, bd_some, nm_eq, Option.map_some, zN_lit, zN_add, zN_mul, zN_neg1, if_true, if_false, reduceIte, eq_self, Nat.reduceEqDiff, Nat.reduceAdd, Nat.reduceMul, Nat.reduceSub, Nat.reduceLeDiff, Nat.one_ne_zero, not_false_eq_true, Bool.false_eq_true, zN_eq, zN_lt, zN_le,  fJ21_hasNext, r1, r2, r3, e]
theorem c_nxt (h : LsC w l e m n mc g) (hI : w.1 I = some (itC k lr mc l)) (hk : k < n) : fJ21_next I w = some (g k, hUp w I (itC (k + 1) (zN k) mc l)) := by
  have hm := h.2.2
  have r0 : hIs w I 4 = some () := c_C hI
  have r1 : gI w I 4 0 = some (zN k) := c_I hI 0
  have r2 : gR w I 4 3 = some (some l) := c_R hI 3
  have r3 : gI w l 2 2 = some (zN n) := c_I h.1 2
  have r4 : gI w l 2 0 = some mc := c_I h.1 0
  have r5 : gI w I 4 2 = some mc := c_I hI 2
  have r6 : gR w l 2 1 = some (some e) := c_R h.1 1
  have r7 : aLn w e = some (zN m) := c_len h.2.1 (show 4 < 6 by decide)
  have p1 : hPut w I 4 0 (.int (zN (k + 1))) = some (hUp w I (itC (k + 1) lr mc l)) := c_P hI (show 0 < 4 by decide) _
  have hI2 := hUp_eq w I (itC (k + 1) lr mc l)
  have p2 : hPut (hUp w I (itC (k + 1) lr mc l)) I 4 1 (.int (zN k)) = some (hUp w I (itC (k + 1) (zN k) mc l)) := by
    rw [show some (hUp w I (itC (k + 1) (zN k) mc l)) = some (hUp (hUp w I (itC (k + 1) lr mc l)) I (itC (k + 1) (zN k) mc l)) from congrArg some (hUp_hUp _ _ _ _).symm]
    exact c_P hI2 (show 1 < 4 by decide) _
  have hne : e ≠ I := ne_kd hI h.2.1 rfl
  have e2 : (hUp w I (itC (k + 1) (zN k) mc l)).1 e = some (.inl (4, m, .inr (.inr (.inr (.inr g))))) := by rw [hUp_ne w _ hne]; exact h.2.1
  have r8 := c_ldR e2 (k := k) (by omega) (by omega)
  have n1 : (zN k < zN n) = True := eq_true (by rw [zN_lt (by omega) (by omega)]; exact hk)
  have n2 : (zN k < zN m) = True := eq_true (by rw [zN_lt (by omega) (by omega)]; omega)
  simp (disch := omega) only [b2_some, bd_some, nm_eq, Option.map_some, zN_lit, zN_add, zN_mul, zN_neg1, if_true, if_false, reduceIte, eq_self, Nat.reduceEqDiff, Nat.reduceAdd, Nat.reduceMul, Nat.reduceSub, Nat.reduceLeDiff, Nat.one_ne_zero, not_false_eq_true, Bool.false_eq_true, zN_eq, zN_lt, zN_le,  fJ21_next, fJ21_checkForComodification, r0, r1, r2, r3, r4, r5, r6, r7, n1, n2, p1, fJ21_next_b57, p2, r8]
end
theorem NtC.la {w : WH} {ν : NH} {ρ : Nat → Nat} (h : NtC w ν ρ) (hI : Inv ρ) : ∃ g, LsC w (nAl ν) (nAe ν) 24 (ρ 1) ν.2.2.2.1 g ∧ ∀ k, k < ρ 1 → g k = some (nAr ν k) := by
  obtain ⟨-, h2, ⟨g, h3, h4⟩, -⟩ := h
  exact ⟨g, ⟨h2, h3, hI.h1, by decide⟩, h4⟩
theorem NtC.lt {w : WH} {ν : NH} {ρ : Nat → Nat} (h : NtC w ν ρ) (hI : Inv ρ) : ∃ g, LsC w (nTl ν) (nTe ν) 6 (ρ 2) ν.2.2.2.2 g ∧ ∀ k, k < ρ 2 → g k = some (nTr ν k) := by
  obtain ⟨-, -, -, -, h2, ⟨g, h3, h4⟩, -⟩ := h
  exact ⟨g, ⟨h2, h3, hI.h2, by decide⟩, h4⟩
