/-! Plain law: the component's toll of an arc tried -/
/-- kinds of cells -/
def kd (c : hE) : Nat × Nat := match c with
  | .inr y => (100 + y.1, 0)
  | .inl y => (y.1, y.2.1)
theorem ne_kd {w : WH} {a b : Nat} {c c' : hE} (ha : w.1 a = some c) (hb : w.1 b = some c') (h : (kd c == kd c') = false) : b ≠ a := by
  rintro rfl
  rw [ha] at hb
  cases hb
  rw [beq_self_eq_true] at h
  cases h
theorem keep_kd {w : WH} {a b : Nat} {c c' : hE} (ha : w.1 a = some c) (hb : w.1 b = some c') (h : (kd c == kd c') = false) (x : hE) : (hUp w a x).1 b = some c' := by
  rw [hUp_ne w x (ne_kd ha hb h)]
  exact hb
def tolC (f : Nat → Int32) : hE := .inl (0, 24, .inl f)
theorem arcC_stl (ρ : Nat → Nat) (a y k : Nat) : arcC (stl ρ a y) k = arcC ρ k := by
  unfold arcC
  rw [stl_F, stl_T, stl_C, stl_M]
theorem trpC_stl (ρ : Nat → Nat) {a : Nat} (y k : Nat) (ha : a < 24) : trpC (stl ρ a y) k = trpC ρ k := by
  unfold trpC
  rw [stl_pF ρ a y k ha, stl_pT ρ a y k ha, stl_pV ρ a y k ha]
theorem clm_stl (ρ : Nat → Nat) (a y : Nat) : clm (stl ρ a y) = clm ρ := by
  unfold clm
  exact msk_congr 24 (fun k _ => by rw [stl_X])
section
variable {w : WH} {x s q F : Nat} {ρ : Nat → Nat} {ν : NH} {t a : Nat}
/-- one cell of another kind changes: the network stays -/
theorem NtC.up {b : Nat} {c : hE} (h : NtC w ν ρ) (hb : w.1 b = some c) (hk : (kd c).1 = 0 ∨ (kd c).1 = 1 ∨ (kd c).1 = 2 ∨ (kd c).1 = 3 ∨ (kd c).1 = 5 ∨ (kd c).1 = 100 ∨ (kd c).1 = 101 ∨ ((kd c).1 = 4 ∧ (kd c).2 = 13) ∨ (kd c).1 = 115 ∨ (kd c).1 = 117 ∨ (kd c).1 = 121 ∨ (kd c).1 = 123) (z : hE) : NtC (hUp w b z) ν ρ := by
  have nk : ∀ c', ((kd c').1 = 122 ∨ (kd c').1 = 102 ∨ ((kd c').1 = 4 ∧ ((kd c').2 = 24 ∨ (kd c').2 = 6)) ∨ (kd c').1 = 127 ∨ (kd c').1 = 128) → (kd c == kd c') = false := fun c' h' => by
    apply beq_false_of_ne
    intro e
    rw [e] at hk
    omega
  obtain ⟨h1, h2, ⟨g, h3, h4⟩, h5, h6, ⟨g', h7, h8⟩, h9⟩ := h
  exact ⟨keep_kd hb h1 (nk _ (.inl rfl)) z, keep_kd hb h2 (nk _ (.inr (.inl rfl))) z, ⟨g, keep_kd hb h3 (nk _ (.inr (.inr (.inl ⟨rfl, .inl rfl⟩)))) z, h4⟩, fun k hk' => keep_kd hb (h5 k hk') (nk _ (.inr (.inr (.inr (.inl rfl))))) z, keep_kd hb h6 (nk _ (.inr (.inl rfl))) z, ⟨g', keep_kd hb h7 (nk _ (.inr (.inr (.inl ⟨rfl, .inr rfl⟩)))) z, h8⟩, fun k hk' => keep_kd hb (h9 k hk') (nk _ (.inr (.inr (.inr (.inr rfl))))) z⟩
theorem NtC.stl {y : Nat} (h : NtC w ν ρ) (ha : a < 24) : NtC w ν (stl ρ a y) := by
  unfold NtC
  simp only [arcC_stl, trpC_stl ρ y _ ha]
  rw [stl_low ρ a y (by omega), stl_low ρ a y (by omega), stl_low ρ a y (by omega)]
  exact h
theorem FiC.up {b : Nat} {c : hE} (h : FiC w F) (hb : w.1 b = some c) (hk : (kd c).1 ≠ 123 ∧ (kd c).2 ≠ 10) (z : hE) : FiC (hUp w b z) F := by
  have n1 : ∀ c', ((kd c').1 = 123 ∨ (kd c').2 = 10) → (kd c == kd c') = false := fun c' h' => by
    apply beq_false_of_ne
    intro e
    rw [e] at hk
    omega
  obtain ⟨⟨l, h3⟩, ⟨f1, h4⟩, ⟨f2, h5⟩, ⟨f3, h6⟩, ⟨f4, h7⟩, ⟨f5, h8⟩⟩ := h
  exact ⟨⟨l, keep_kd hb h3 (n1 _ (.inl rfl)) z⟩, ⟨f1, keep_kd hb h4 (n1 _ (.inr rfl)) z⟩, ⟨f2, keep_kd hb h5 (n1 _ (.inr rfl)) z⟩, ⟨f3, keep_kd hb h6 (n1 _ (.inr rfl)) z⟩, ⟨f4, keep_kd hb h7 (n1 _ (.inr rfl)) z⟩, ⟨f5, keep_kd hb h8 (n1 _ (.inr rfl)) z⟩⟩
/-- a toll is set in the current state -/
theorem MR.stl (h : MR w x F s q ν ρ) {f : Nat → Int32} (hf : w.1 q = some (tolC f)) (hfv : ∀ k, k < 24 → f k = zN (aTl ρ k)) {y : Nat} (ha : a < ρ 1) (hy : y ≤ aMx ρ a) : MR (hUp w q (tolC (upd f a (zN y)))) x F s q ν (stl ρ a y) := by
  obtain ⟨⟨h1, h2, h3, h4, h5⟩, P, Sn, Tx, Ou, len, err, es, h6⟩ := h
  have b := h4.ha ha
  obtain ⟨s1, -, ⟨f', s4, s5⟩, s6, g, s7, s8⟩ := h2
  refine ⟨⟨h1.up hf ⟨(by decide : (0 : Nat) ≠ 123), (by decide : (24 : Nat) ≠ 10)⟩ _, ⟨?_, ⟨_, hUp_eq _ _ _, fun k hk => ?_⟩, ⟨f', keep_kd hf s4 rfl _, fun k hk => ?_⟩, ?_, g, keep_kd hf s7 rfl _, ?_⟩, (h3.up hf (.inl rfl) _).stl (by omega), h4.stl ha hy, h5⟩, P, Sn, Tx, Ou, len, err, es, keep_kd hf h6 rfl _⟩
  · rw [stl_low ρ a y (by omega)]
    exact keep_kd hf s1 rfl _
  · rw [stl_L]
    unfold upd
    by_cases e : k = a
    · rw [if_pos e, if_pos e]
    · rw [if_neg e, if_neg e]; exact hfv k hk
  · rw [stl_low ρ a y (by omega)] at hk
    rw [stl_pD ρ a y k (by omega)]
    exact s5 k hk
  · rw [clm_stl]
    exact keep_kd hf s6 rfl _
  · rw [clm_stl]
    exact s8
theorem c_gtl (h : MR w x F s q ν ρ) : gR w s 21 1 = some (some q) := c_R h.1.2.1.1 1
/-- set, something is done that changes the finder alone, and put back -/
theorem c_back (h : MR w x F s q ν ρ) {f : Nat → Int32} (hf : w.1 q = some (tolC f)) {y : Int32} {w2 : WH} (hK : Kf (hUp w q (tolC (upd f a y))) w2 F) (ha : a < 24) (hqF : ¬ (F ≤ q ∧ q < F + 6)) :
    ∃ w3, stI w2 q 0 (zN a) (f a) = some w3 ∧ Kf w w3 F := by
  have e : w2.1 q = some (tolC (upd f a y)) := by
    rw [hK.1 q hqF, hUp_eq]
  have eU : upd (upd f a y) a (f a) = f := by
    funext j
    unfold upd
    by_cases e : j = a
    · rw [if_pos e, e]
    · rw [if_neg e, if_neg e]
  refine ⟨hUp w2 q (tolC f), ?_, ⟨fun b hb => ?_, hK.2.1, ?_⟩⟩
  · have s1 := c_stI e ha (by omega) (f a)
    rw [eU] at s1
    exact s1
  · rw [hUp_1]
    by_cases e' : b = q
    · rw [if_pos e', e', hf]
    · rw [if_neg e', hK.1 b hb, hUp_ne w _ e']
  · exact hK.2.2.up e ⟨(by decide : (0 : Nat) ≠ 123), (by decide : (24 : Nat) ≠ 10)⟩ _
theorem MR.qF (h : MR w x F s q ν ρ) : ¬ (F ≤ q ∧ q < F + 6) := by
  rintro ⟨h1, h2⟩
  obtain ⟨c, e1, e2⟩ := h.1.1.ty h1 h2
  obtain ⟨f, e3, -⟩ := h.1.2.1.2.1
  rw [e3] at e1
  cases e1
  cases e2
theorem c_useW (h : MR w x F s q ν ρ) (ht : t < ρ 2) (ha : a < ρ 1) {y : Nat} (hy : y ≤ aMx ρ a) : ∃ w', fX1_usesWith x (zN t) (zN a) (zN y) w = some (zN (if useB (stl ρ a y) 0 (-1) 0 t a then 1 else 0), w') ∧ Kf w w' F := by
  have b := h.inv.ha ha
  obtain ⟨f, hf, hfv⟩ := h.1.2.1.2.1
  have h1 := h.stl hf hfv ha hy
  obtain ⟨w2, e2, hK2⟩ := c_uses h1 (t := t) (by rw [stl_low ρ a y (by omega)]; exact ht) (a := a) (by omega)
  obtain ⟨w3, e3, hK3⟩ := c_back h hf hK2 (by omega) h.qF
  have h2 := h1.kf hK2
  have l1 : ldI w q 0 (zN a) = some (f a) := c_ldI hf (by omega) (by omega)
  have s1 : stI w q 0 (zN a) (zN y) = some (hUp w q (tolC (upd f a (zN y)))) := c_stI hf (by omega) (by omega) _
  refine ⟨w3, ?_, hK3⟩
  have hbz : fz_ .boolean (zN (if useB (stl ρ a y) 0 (-1) 0 t a then 1 else 0)) = some () := by
    cases useB (stl ρ a y) 0 (-1) 0 t a
    · exact (by decide : fz_ .boolean (zN 0) = some ())
    · exact (by decide : fz_ .boolean (zN 1) = some ())
  simp (disch := omega) only [b2_some, bd_some, nm_eq, Option.map_some, zN_lit, zN_add, zN_mul, zN_neg1, if_true, if_false, reduceIte, eq_self, Nat.reduceEqDiff, Nat.reduceAdd, Nat.reduceMul, Nat.reduceSub, Nat.reduceLeDiff, Nat.one_ne_zero, not_false_eq_true, Bool.false_eq_true, zN_eq, zN_lt, zN_le,  fX1_usesWith, h.g0, h.g1, h.xI, h.1.FI, c_snet h.1.2.1, c_sI h.1.2.1, c_nal h.1.2.2.1, c_ntl h.1.2.2.1, c_nn h.1.2.2.1, c_alI h.1.2.2.1, c_tlI h.1.2.2.1, c_size h.1.2.2.1, c_size2 h.1.2.2.1, c_gtl h, l1, s1, h1.xI, e2, h2.g0, c_gtl h2, e3, fX1_usesWith_b40, hbz]
theorem c_kept (h : MR w x F s q ν ρ) (ht : t < ρ 2) (ha : a < ρ 1) : ∃ w', fX1_kept x (zN t) (nAr ν a) w = some (zI (kpI ρ 0 0 t a), w') ∧ Kf w w' F := by
  have hI := h.inv
  have b := hI.ha ha
  obtain ⟨w1, e1, hK1⟩ := c_useW h ht ha (y := 0) (by omega)
  have h1 := h.kf hK1
  cases hu0 : useB (stl ρ a 0) 0 (-1) 0 t a with
  | false =>
    rw [hu0] at e1
    refine ⟨w1, ?_, hK1⟩
    rw [kq_none hI ha ht hu0]
    simp (disch := omega) only [b2_some, bd_some, nm_eq, Option.map_some, zN_lit, zN_add, zN_mul, zN_neg1, if_true, if_false, reduceIte, eq_self, Nat.reduceEqDiff, Nat.reduceAdd, Nat.reduceMul, Nat.reduceSub, Nat.reduceLeDiff, Nat.one_ne_zero, not_false_eq_true, Bool.false_eq_true, zN_eq, zN_lt, zN_le,  fX1_kept, c_aI h.1.2.2.1 ha, c_num h.1.2.2.1 ha, h.xI, e1]
  | true =>
    rw [hu0] at e1
    have H : ∃ r, fX1_kept_l23 x (zN t) (nAr ν a) 0 (zN (aMx ρ a)) w1 = some r ∧ ∃ w', r = (zI (kpI ρ 0 0 t a), w') ∧ Kf w w' F := by
      refine wh_dn (P := fun k y => ∃ lo hi w', y = (zN lo, zN hi, w') ∧ lo ≤ hi ∧ hi ≤ aMx ρ a ∧ k = hi - lo ∧ useB (stl ρ a lo) 0 (-1) 0 t a = true ∧ (∀ j, hi < j → j ≤ aMx ρ a → useB (stl ρ a j) 0 (-1) 0 t a = false) ∧ Kf w w' F) ?_ (aMx ρ a) _ ⟨0, aMx ρ a, w1, rfl, by omega, Nat.le_refl _, rfl, hu0, fun j h1 h2 => by omega, hK1⟩
      rintro k y ⟨lo, hi, w', rfl, h2, h3, rfl, h4, h5, hK⟩
      have h' := h.kf hK
      by_cases e : hi ≤ lo
      · right
        have hkp : kpI ρ 0 0 t a = lo := gr_some (by omega) h4 (fun j g1 g2 => h5 j (by omega) g2)
        refine ⟨_, ?_, w', rfl, hK⟩
        rw [hkp, zI_cast]
        simp (disch := omega) only [b2_some, bd_some, nm_eq, Option.map_some, zN_lit, zN_add, zN_mul, zN_neg1, if_true, if_false, reduceIte, eq_self, Nat.reduceEqDiff, Nat.reduceAdd, Nat.reduceMul, Nat.reduceSub, Nat.reduceLeDiff, Nat.one_ne_zero, not_false_eq_true, Bool.false_eq_true, zN_eq, zN_lt, zN_le,  fX1_kept_b23, e]
      · left
        have hm1 : (lo + hi + 1) / 2 ≤ hi := by omega
        have hm2 : lo < (lo + hi + 1) / 2 := by omega
        obtain ⟨w2, e2, hK2⟩ := c_useW h' ht ha (y := (lo + hi + 1) / 2) (by omega)
        cases hu : useB (stl ρ a ((lo + hi + 1) / 2)) 0 (-1) 0 t a with
        | true =>
          rw [hu] at e2
          refine ⟨(zN ((lo + hi + 1) / 2), zN hi, w2), hi - (lo + hi + 1) / 2, by omega, ?_, _, hi, w2, rfl, hm1, h3, rfl, hu, h5, hK.trans hK2⟩
          simp (disch := omega) only [b2_some, bd_some, nm_eq, Option.map_some, zN_lit, zN_add, zN_mul, zN_neg1, if_true, if_false, reduceIte, eq_self, Nat.reduceEqDiff, Nat.reduceAdd, Nat.reduceMul, Nat.reduceSub, Nat.reduceLeDiff, Nat.one_ne_zero, not_false_eq_true, Bool.false_eq_true, zN_eq, zN_lt, zN_le,  fX1_kept_b23, e, zN_div, c_aI h'.1.2.2.1 ha, c_num h'.1.2.2.1 ha, h'.xI, e2, fX1_kept_b53, fX1_kept_b65]
        | false =>
          rw [hu] at e2
          refine ⟨(zN lo, zN ((lo + hi + 1) / 2 - 1), w2), (lo + hi + 1) / 2 - 1 - lo, by omega, ?_, lo, _, w2, rfl, by omega, by omega, rfl, h4, fun j g1 g2 => ?_, hK.trans hK2⟩
          · simp (disch := omega) only [b2_some, bd_some, nm_eq, Option.map_some, zN_lit, zN_add, zN_mul, zN_neg1, if_true, if_false, reduceIte, eq_self, Nat.reduceEqDiff, Nat.reduceAdd, Nat.reduceMul, Nat.reduceSub, Nat.reduceLeDiff, Nat.one_ne_zero, not_false_eq_true, Bool.false_eq_true, zN_eq, zN_lt, zN_le,  fX1_kept_b23, e, zN_div, c_aI h'.1.2.2.1 ha, c_num h'.1.2.2.1 ha, h'.xI, e2, fX1_kept_b65, zN_sub]
          · cases hj : useB (stl ρ a j) 0 (-1) 0 t a with
            | false => rfl
            | true =>
              have := kq_mono hI ha ht g2 (show (lo + hi + 1) / 2 ≤ j by omega) hj
              rw [hu] at this
              cases this
    obtain ⟨r, e2, w', rfl, hK⟩ := H
    refine ⟨w', ?_, hK⟩
    have e2' : fX1_kept_l23 x (zN t) (nAr ν a) (zN 0) (zN (aMx ρ a)) w1 = _ := e2
    simp (disch := omega) only [b2_some, bd_some, nm_eq, Option.map_some, zN_lit, zN_add, zN_mul, zN_neg1, if_true, if_false, reduceIte, eq_self, Nat.reduceEqDiff, Nat.reduceAdd, Nat.reduceMul, Nat.reduceSub, Nat.reduceLeDiff, Nat.one_ne_zero, not_false_eq_true, Bool.false_eq_true, zN_eq, zN_lt, zN_le,  fX1_kept, c_aI h.1.2.2.1 ha, c_num h.1.2.2.1 ha, h.xI, e1, c_aI h1.1.2.2.1 ha, c_most h1.1.2.2.1 ha, e2']
end
