/-! Plain law: the component's ties -/
def VV : Type := (Nat → Int64) × (Nat → Int32) × (Nat → Int32)
def WyC (w : WH) (F : Nat) (V : VV) : Prop := w.1 (F + 2) = some (farC V.1) ∧ w.1 (F + 4) = some (intC V.2.1) ∧ w.1 (F + 5) = some (intC V.2.2)
def NdV (ρ : Nat → Nat) (t n : Nat) (V : VV) : Prop := V.1 n = zJ (vT ρ 0 (-1) 0 t n).1 ∧ V.2.1 n = zI (vT ρ 0 (-1) 0 t n).2.1 ∧ V.2.2 n = zI (vT ρ 0 (-1) 0 t n).2.2
def SmV (V V2 : VV) (m : Nat) : Prop := V2.1 m = V.1 m ∧ V2.2.1 m = V.2.1 m ∧ V2.2.2 m = V.2.2 m
theorem SmV.trans {V V2 V3 : VV} {m : Nat} (h : SmV V V2 m) (h' : SmV V2 V3 m) : SmV V V3 m := ⟨h'.1.trans h.1, h'.2.1.trans h.2.1, h'.2.2.trans h.2.2⟩
theorem SmV.nd {ρ : Nat → Nat} {t : Nat} {V V2 : VV} {m : Nat} (h : SmV V V2 m) (h' : NdV ρ t m V) : NdV ρ t m V2 := ⟨h.1.trans h'.1, h.2.1.trans h'.2.1, h.2.2.trans h'.2.2⟩
def CI (ρ : Nat → Nat) (t : Nat) (V : VV) : Prop := ∀ n, n < ρ 0 → V.1 n = zJ (-1) ∨ ((∃ z, lT ρ 0 (-1) 0 t n = some z) ∧ NdV ρ t n V)
def CfI (ρ : Nat → Nat) (t F : Nat) (f : Nat → Int64) (w w1 : WH) (V : VV) : Prop := Kf w w1 F ∧ w1.1 (F + 1) = some (farC f) ∧ WyC w1 F V ∧ CI ρ t V ∧ NdV ρ t (pTo ρ t) V
def sT (o : Option (Int × Int × Int)) : Int := (o.getD (0, 0, 0)).1
theorem zJ_ne1 {v : Int} (h : 0 ≤ v ∧ v < 9223372036854775808) : zJ v ≠ zJ (-1) := by
  intro e
  have := lgc_eq (a := v) (b := -1) (by unfold bJ; omega) (by unfold bJ; omega)
  rw [e] at this
  have h2 : (lg_cmp (zJ (-1)) (zJ (-1)) = zN 0) = True := by decide
  rw [h2] at this
  have := of_eq_true this.symm
  omega
theorem FiC.c2 {w : WH} {F : Nat} (h : FiC w F) (f : Nat → Int64) : FiC (hUp w (F + 2) (farC f)) F := by
  obtain ⟨⟨l, h3⟩, ⟨f1, h4⟩, ⟨f2, h5⟩, ⟨f3, h6⟩, ⟨f4, h7⟩, ⟨f5, h8⟩⟩ := h
  exact ⟨⟨l, by rw [hUp_ne w _ (by omega)]; exact h3⟩, ⟨f1, by rw [hUp_ne w _ (by omega)]; exact h4⟩, ⟨f, hUp_eq _ _ _⟩, ⟨f3, by rw [hUp_ne w _ (by omega)]; exact h6⟩, ⟨f4, by rw [hUp_ne w _ (by omega)]; exact h7⟩, ⟨f5, by rw [hUp_ne w _ (by omega)]; exact h8⟩⟩
theorem FiC.c4 {w : WH} {F : Nat} (h : FiC w F) (f : Nat → Int32) : FiC (hUp w (F + 4) (intC f)) F := by
  obtain ⟨⟨l, h3⟩, ⟨f1, h4⟩, ⟨f2, h5⟩, ⟨f3, h6⟩, ⟨f4, h7⟩, ⟨f5, h8⟩⟩ := h
  exact ⟨⟨l, by rw [hUp_ne w _ (by omega)]; exact h3⟩, ⟨f1, by rw [hUp_ne w _ (by omega)]; exact h4⟩, ⟨f2, by rw [hUp_ne w _ (by omega)]; exact h5⟩, ⟨f3, by rw [hUp_ne w _ (by omega)]; exact h6⟩, ⟨f, hUp_eq _ _ _⟩, ⟨f5, by rw [hUp_ne w _ (by omega)]; exact h8⟩⟩
theorem FiC.c5 {w : WH} {F : Nat} (h : FiC w F) (f : Nat → Int32) : FiC (hUp w (F + 5) (intC f)) F := by
  obtain ⟨⟨l, h3⟩, ⟨f1, h4⟩, ⟨f2, h5⟩, ⟨f3, h6⟩, ⟨f4, h7⟩, ⟨f5, h8⟩⟩ := h
  exact ⟨⟨l, by rw [hUp_ne w _ (by omega)]; exact h3⟩, ⟨f1, by rw [hUp_ne w _ (by omega)]; exact h4⟩, ⟨f2, by rw [hUp_ne w _ (by omega)]; exact h5⟩, ⟨f3, by rw [hUp_ne w _ (by omega)]; exact h6⟩, ⟨f4, by rw [hUp_ne w _ (by omega)]; exact h7⟩, ⟨f, hUp_eq _ _ _⟩⟩
theorem Kf.c2 {w : WH} {F : Nat} (h : FiC w F) (f : Nat → Int64) : Kf w (hUp w (F + 2) (farC f)) F := ⟨fun _ _ => hUp_ne w _ (by omega), rfl, h.c2 f⟩
theorem Kf.c4 {w : WH} {F : Nat} (h : FiC w F) (f : Nat → Int32) : Kf w (hUp w (F + 4) (intC f)) F := ⟨fun _ _ => hUp_ne w _ (by omega), rfl, h.c4 f⟩
theorem Kf.c5 {w : WH} {F : Nat} (h : FiC w F) (f : Nat → Int32) : Kf w (hUp w (F + 5) (intC f)) F := ⟨fun _ _ => hUp_ne w _ (by omega), rfl, h.c5 f⟩
/-- the world with other ways, greatest, smallest -/
def wV (w : WH) (F : Nat) (V : VV) : WH := hUp (hUp (hUp w (F + 2) (farC V.1)) (F + 4) (intC V.2.1)) (F + 5) (intC V.2.2)
section
variable {w w1 : WH} {s q F : Nat} {ρ : Nat → Nat} {ν : NH} {t : Nat} {V : VV} {f : Nat → Int64}
theorem MS.g23 (h : MS w F s q ν ρ) : gR w F 23 1 = some (some (F + 2)) ∧ gR w F 23 3 = some (some (F + 4)) ∧ gR w F 23 4 = some (some (F + 5)) := by
  obtain ⟨l, e⟩ := h.1.1
  exact ⟨c_R e 1, c_R e 3, c_R e 4⟩
theorem CfI.st2 (h : CfI ρ t F f w w1 V) {g : Nat → Int64} (h1 : CI ρ t (g, V.2)) (h2 : NdV ρ t (pTo ρ t) (g, V.2)) : CfI ρ t F f w (hUp w1 (F + 2) (farC g)) (g, V.2) := by
  obtain ⟨a1, a2, ⟨b1, b2, b3⟩, a4, a5⟩ := h
  exact ⟨a1.trans (Kf.c2 a1.2.2 g), by rw [hUp_ne _ _ (by omega)]; exact a2, ⟨hUp_eq _ _ _, by rw [hUp_ne _ _ (by omega)]; exact b2, by rw [hUp_ne _ _ (by omega)]; exact b3⟩, h1, h2⟩
theorem CfI.st45 (h : CfI ρ t F f w w1 V) {g g' : Nat → Int32} (h1 : CI ρ t (V.1, g, g')) (h2 : NdV ρ t (pTo ρ t) (V.1, g, g')) : CfI ρ t F f w (hUp (hUp w1 (F + 4) (intC g)) (F + 5) (intC g')) (V.1, g, g') := by
  obtain ⟨a1, a2, ⟨b1, b2, b3⟩, a4, a5⟩ := h
  exact ⟨(a1.trans (Kf.c4 a1.2.2 g)).trans (Kf.c5 (a1.2.2.c4 g) g'), by rw [hUp_ne _ _ (by omega), hUp_ne _ _ (by omega)]; exact a2, ⟨by rw [hUp_ne _ _ (by omega), hUp_ne _ _ (by omega)]; exact b1, by rw [hUp_ne _ _ (by omega)]; exact hUp_eq _ _ _, hUp_eq _ _ _⟩, h1, h2⟩
theorem tieT_rng1 (hI : Inv ρ) (ht : t < ρ 2) {n i : Nat} {q : Int × Int × Int} (h : tieT ρ 0 (-1) 0 t n i = some q) : 1 ≤ q.1 ∧ q.1 ≤ 63403380965376 * i := by
  have := tie1_rng (W := ((24 ^ 10 : Nat) : Int)) (H := 99990) (D := 9999) (by omega) (fun a ha => by
    obtain ⟨y, h1, h2, h3, h4⟩ := tiT_step hI ht ha
    have := hI.ha h4
    unfold tlI
    omega) (fun a _ ha => by
    obtain ⟨y, h1, h2, h3, h4⟩ := tiT_step hI ht ha
    exact vT_rng hI ht h1) i q h
  exact this.1
theorem vT_rng1 (hI : Inv ρ) (ht : t < ρ 2) {n : Nat} {z : Int} (hz : lT ρ 0 (-1) 0 t n = some z) : 1 ≤ (vT ρ 0 (-1) 0 t n).1 ∧ (vT ρ 0 (-1) 0 t n).1 ≤ 63403380965376 := (vT_rng hI ht hz).1
theorem vT_last (hI : Inv ρ) (ht : t < ρ 2) : vT ρ 0 (-1) 0 t (pTo ρ t) = (1, 0, 0) := by
  rw [vT_eq hI ht (lT_last hI ht), if_pos rfl]
theorem c_cf (h : MS w F s q ν ρ) (ht : t < ρ 2) (hf : ∀ m, m < ρ 0 → f m = encF (dW ρ t 6 m)) : ∀ (d n : Nat) (z : Int) (w1 : WH) (V : VV), lT ρ 0 (-1) 0 t n = some z → cntB (ρ 0) (lT ρ 0 (-1) 0 t) z < d → CfI ρ t F f w w1 V →
    ∃ w2 V2, fX4_countFrom d F s (nTr ν t) (zN n) w1 = some (zJ (vT ρ 0 (-1) 0 t n).1, w2) ∧ CfI ρ t F f w w2 V2 ∧ NdV ρ t n V2 ∧ (∀ m, V.1 m ≠ zJ (-1) → SmV V V2 m) ∧ ∀ m, m ≠ n → (∀ y, lT ρ 0 (-1) 0 t m = some y → z ≤ y) → SmV V V2 m
  | 0, n, z, w1, V, _, h2, _ => by omega
  | d + 1, n, z, w1, V, hz, hd, hC => by
    have hI := h.2.2.2.1
    have h0 := hI.h0
    have h1 := hI.h1
    have hnn := (lT_rng hI ht hz).2.2
    have h' := h.kf hC.1
    obtain ⟨g2, g4, g5⟩ := h'.g23
    have vr := vT_rng1 hI ht hz
    have l1 : ldJ w1 (F + 2) (zN n) = some (V.1 n) := c_ldJ hC.2.2.1.1 (by omega) (by omega)
    have e0 : ∀ x : Int64, lg_cmp x 0 = lg_cmp x (zJ 0) := fun _ => rfl
    rcases hC.2.2.2.1 n hnn with hw | ⟨-, hnd⟩
    · rw [hw] at l1
      have c0 : (lg_cmp (zJ (-1)) (zJ 0) < zN 0) = True := by rw [lgc_lt (by unfold bJ; omega) (by unfold bJ; omega)]; exact eq_true (by omega)
      have vl := vT_last (ρ := ρ) (t := t) hI ht
      have hnt : ∀ V' : VV, V'.1 n = zJ (-1) → NdV ρ t (pTo ρ t) V' → n ≠ pTo ρ t := by
        intro V' g1 g2 e
        have := g2.1
        rw [← e, g1, e, vl] at this
        exact zJ_ne1 (v := 1) (by omega) this.symm
      have H : ∃ r, fX4_countFrom_l24 (fX4_countFrom d) F s (nTr ν t) (zN n) (zJ 0) (zN 0) w1 = some r ∧ ∃ w2 V2, r = (zJ (vT ρ 0 (-1) 0 t n).1, w2) ∧ CfI ρ t F f w w2 V2 ∧ NdV ρ t n V2 ∧ (∀ m, V.1 m ≠ zJ (-1) → SmV V V2 m) ∧ ∀ m, m ≠ n → (∀ y, lT ρ 0 (-1) 0 t m = some y → z ≤ y) → SmV V V2 m := by
        refine wh_up (P := fun i y => i ≤ ρ 1 ∧ ∃ w' V', y = (zJ (sT (tieT ρ 0 (-1) 0 t n i)), zN i, w') ∧ CfI ρ t F f w w' V' ∧ V'.1 n = zJ (-1) ∧ (∀ q, tieT ρ 0 (-1) 0 t n i = some q → V'.2.1 n = zI q.2.1 ∧ V'.2.2 n = zI q.2.2) ∧ (∀ m, V.1 m ≠ zJ (-1) → SmV V V' m) ∧ ∀ m, m ≠ n → (∀ y, lT ρ 0 (-1) 0 t m = some y → z ≤ y) → SmV V V' m) (ρ 1) ?_ ?_ (ρ 1) 0 _ (by omega) ⟨by omega, w1, V, rfl, hC, hw, (by intro q hq; cases hq), (by intro m _; exact ⟨rfl, rfl, rfl⟩), (by intro m _ _; exact ⟨rfl, rfl, rfl⟩)⟩
        · rintro i y hi ⟨-, w', V', rfl, hC', hw', hq', hs', hu'⟩
          have h'' := h.kf hC'.1
          have b := hI.ha hi
          have n1 : ¬ (ρ 1 ≤ i) := by omega
          have hT := c_tight h'' (.inr rfl) hi ht hC'.2.1 hf
          have eT : tgt (aFr ρ) (aTo ρ) (wgt ρ t 6) (dW ρ t 6) i = tiT ρ 0 (-1) 0 t i := rfl
          rw [eT] at hT
          left
          by_cases c1 : aFr ρ i = n
          · cases ct : tiT ρ 0 (-1) 0 t i with
            | false =>
              rw [ct] at hT
              have e1 : tieT ρ 0 (-1) 0 t n (i + 1) = tieT ρ 0 (-1) 0 t n i := by
                unfold tieT
                rw [tie1, if_neg (by rw [ct]; exact fun h => Bool.false_ne_true h.2)]
              refine ⟨(zJ (sT (tieT ρ 0 (-1) 0 t n i)), zN (i + 1), w'), ?_, by omega, w', V', by rw [e1], hC', hw', by rw [e1]; exact hq', hs', hu'⟩
              simp (disch := omega) only [b2_some, bd_some, nm_eq, Option.map_some, zN_lit, zN_add, zN_mul, zN_neg1, if_true, if_false, reduceIte, eq_self, Nat.reduceEqDiff, Nat.reduceAdd, Nat.reduceMul, Nat.reduceSub, Nat.reduceLeDiff, Nat.one_ne_zero, not_false_eq_true, Bool.false_eq_true, zN_eq, zN_lt, zN_le,  fX4_countFrom_b24, h''.FI, c_snet h''.2.1, c_sI h''.2.1, c_nal h''.2.2.1, c_ntl h''.2.2.1, c_nn h''.2.2.1, c_alI h''.2.2.1, c_tlI h''.2.2.1, c_size h''.2.2.1, c_size2 h''.2.2.1, n1, c_geta h''.2.2.1 hI hi, c_aI h''.2.2.1 hi, c_from h''.2.2.1 hi, c1, hT, fX4_countFrom_b83, fX4_countFrom_b202]
            | true =>
              rw [ct] at hT
              obtain ⟨y, f1, f2, f3, f4⟩ := tiT_step hI ht ct
              obtain ⟨y', f5, f6, -, -, f7⟩ := tgt_step (tw_GN (m := 0) (aw := -1) (fz := 0) hI ht) ct
              rw [c1] at f2
              have hzy : z = y + feI ρ (pVa ρ t) i := Option.some.inj (hz.symm.trans f2)
              have hyy : y' = y := Option.some.inj (f5.symm.trans f1)
              rw [hyy, ← hzy] at f7
              have hne : n ≠ aTo ρ i := by
                intro e
                rw [← e, hz] at f1
                have := Option.some.inj f1
                omega
              obtain ⟨w2, V2, r1, hC2, hnd2, hs2, hu2⟩ := c_cf h ht hf d (aTo ρ i) y w' V' f1 (by
                have : cntB (ρ 0) (lT ρ 0 (-1) 0 t) y + 1 ≤ cntB (ρ 0) (lT ρ 0 (-1) 0 t) z := f7
                omega) hC'
              have hsn := hu2 n hne (fun y' e => by
                rw [hz] at e
                have := Option.some.inj e
                omega)
              have m2 := h.kf hC2.1
              have hw2 : V2.1 n = zJ (-1) := hsn.1.trans hw'
              have hv := vT_rng hI ht f1
              have hv1 := vT_rng1 hI ht f1
              have hN2 := m2.2.2.1
              obtain ⟨u1, u2, u3⟩ := hnd2
              generalize hvv : vT ρ 0 (-1) 0 t (aTo ρ i) = v at u1 u2 u3 hv hv1 r1
              have l4 : ldI w2 (F + 4) 0 (zN (aTo ρ i)) = some (zI v.2.1) := by rw [c_ldI hC2.2.2.1.2.1 (by omega) (by omega), u2]
              have l5 : ldI w2 (F + 5) 0 (zN (aTo ρ i)) = some (zI v.2.2) := by rw [c_ldI hC2.2.2.1.2.2 (by omega) (by omega), u3]
              have tl := c_toll m2.2.1 hN2 hI hi
              have a1 : zI v.2.1 + zN (aTl ρ i) = zI (v.2.1 + tlI ρ i) := zI_add _ _
              have a2 : zI v.2.2 + zN (aTl ρ i) = zI (v.2.2 + tlI ρ i) := zI_add _ _
              have htl : 0 ≤ tlI ρ i ∧ tlI ρ i ≤ 9999 := by unfold tlI; omega
              have sI2 := c_sI m2.2.1
              have aI2 := c_aI hN2 hi
              have to2 := c_to hN2 hi
              have K : ∀ A B : Int32, ∃ w3, stI w2 (F + 4) 0 (zN n) A = some w3 ∧ gR w3 F 23 4 = some (some (F + 5)) ∧ ldI w3 (F + 5) 0 (zN n) = some (V2.2.2 n) ∧ stI w3 (F + 5) 0 (zN n) B = some (hUp (hUp w2 (F + 4) (intC (upd V2.2.1 n A))) (F + 5) (intC (upd V2.2.2 n B))) := by
                intro A B
                have c5 : (hUp w2 (F + 4) (intC (upd V2.2.1 n A))).1 (F + 5) = some (intC V2.2.2) := by rw [hUp_ne _ _ (by omega)]; exact hC2.2.2.1.2.2
                exact ⟨_, c_stI hC2.2.2.1.2.1 (by omega) (by omega) A, (m2.kf (Kf.c4 m2.1 _)).g23.2.2, c_ldI c5 (by omega) (by omega), c_stI c5 (by omega) (by omega) B⟩
              obtain ⟨k1, k2, k3⟩ := m2.g23
              have fI2 := m2.FI
              have M : ∃ q', tieT ρ 0 (-1) 0 t n (i + 1) = some q' ∧ fX4_countFrom_b24 (fX4_countFrom d) F s (nTr ν t) (zN n) (zJ (sT (tieT ρ 0 (-1) 0 t n i))) (zN i) w' = some (.inl (zJ q'.1, zN (i + 1), hUp (hUp w2 (F + 4) (intC (upd V2.2.1 n (zI q'.2.1)))) (F + 5) (intC (upd V2.2.2 n (zI q'.2.2))))) := by
                cases e : tieT ρ 0 (-1) 0 t n i with
                | none =>
                  refine ⟨(v.1, v.2.1 + tlI ρ i, v.2.2 + tlI ρ i), ?_, ?_⟩
                  · have e' : tie1 (aFr ρ) (aTo ρ) (tiT ρ 0 (-1) 0 t) (tlI ρ) (vT ρ 0 (-1) 0 t) n i = none := e
                    unfold tieT
                    rw [tie1, if_pos ⟨c1, ct⟩, hvv, e']
                  · obtain ⟨w3, z1, z2, z3, z4⟩ := K (zI (v.2.1 + tlI ρ i)) (zI (v.2.2 + tlI ρ i))
                    have cz : (lg_cmp (zJ (sT none)) (zJ 0) = zN 0) = True := by decide
                    have ez : zJ (sT none) + zJ v.1 = zJ v.1 := by rw [zJ_add]; exact congrArg zJ (Int.zero_add _)
                    simp (disch := omega) only [b2_some, bd_some, nm_eq, Option.map_some, zN_lit, zN_add, zN_mul, zN_neg1, if_true, if_false, reduceIte, eq_self, Nat.reduceEqDiff, Nat.reduceAdd, Nat.reduceMul, Nat.reduceSub, Nat.reduceLeDiff, Nat.one_ne_zero, not_false_eq_true, Bool.false_eq_true, zN_eq, zN_lt, zN_le,  fX4_countFrom_b24, h''.FI, c_snet h''.2.1, c_sI h''.2.1, c_nal h''.2.2.1, c_ntl h''.2.2.1, c_nn h''.2.2.1, c_alI h''.2.2.1, c_tlI h''.2.2.1, c_size h''.2.2.1, c_size2 h''.2.2.1, n1, c_geta h''.2.2.1 hI hi, c_aI h''.2.2.1 hi, c_from h''.2.2.1 hi, c1, hT, fX4_countFrom_b86, c_to h''.2.2.1 hi, r1, k2, k3, l4, l5, tl, sI2, aI2, to2, fI2, a1, a2, fX4_countFrom_b137, e0, cz, fX4_countFrom_b165, z1, z2, fX4_countFrom_b194, z4, ez, fX4_countFrom_b202]
                | some q =>
                  obtain ⟨p1, p2⟩ := hq' q e
                  have qr := tieT_rng hI ht e
                  have qr1 := tieT_rng1 hI ht e
                  refine ⟨(q.1 + v.1, (if q.2.1 < v.2.1 + tlI ρ i then v.2.1 + tlI ρ i else q.2.1), (if v.2.2 + tlI ρ i < q.2.2 then v.2.2 + tlI ρ i else q.2.2)), ?_, ?_⟩
                  · have e' : tie1 (aFr ρ) (aTo ρ) (tiT ρ 0 (-1) 0 t) (tlI ρ) (vT ρ 0 (-1) 0 t) n i = some q := e
                    unfold tieT
                    rw [tie1, if_pos ⟨c1, ct⟩, hvv, e']
                  · have m1 := mxI_z (a := q.2.1) (b := v.2.1 + tlI ρ i) (by omega) (by omega)
                    have m2' := mnI_z (a := q.2.2) (b := v.2.2 + tlI ρ i) (by omega) (by omega)
                    generalize hA : zI (if q.2.1 < v.2.1 + tlI ρ i then v.2.1 + tlI ρ i else q.2.1) = A at m1 ⊢
                    generalize hB : zI (if v.2.2 + tlI ρ i < q.2.2 then v.2.2 + tlI ρ i else q.2.2) = B at m2' ⊢
                    obtain ⟨w3, z1, z2, z3, z4⟩ := K A B
                    have l6 : ldI w2 (F + 4) 0 (zN n) = some (zI q.2.1) := by rw [c_ldI hC2.2.2.1.2.1 (by omega) (by omega), hsn.2.1, p1]
                    rw [hsn.2.2, p2] at z3
                    have cz : (lg_cmp (zJ q.1) (zJ 0) = zN 0) = False := by rw [lgc_eq (by unfold bJ; omega) (by unfold bJ; omega)]; exact eq_false (by omega)
                    have es : zJ (sT (some q)) = zJ q.1 := rfl
                    simp (disch := omega) only [b2_some, bd_some, nm_eq, Option.map_some, zN_lit, zN_add, zN_mul, zN_neg1, if_true, if_false, reduceIte, eq_self, Nat.reduceEqDiff, Nat.reduceAdd, Nat.reduceMul, Nat.reduceSub, Nat.reduceLeDiff, Nat.one_ne_zero, not_false_eq_true, Bool.false_eq_true, zN_eq, zN_lt, zN_le,  es, fX4_countFrom_b24, h''.FI, c_snet h''.2.1, c_sI h''.2.1, c_nal h''.2.2.1, c_ntl h''.2.2.1, c_nn h''.2.2.1, c_alI h''.2.2.1, c_tlI h''.2.2.1, c_size h''.2.2.1, c_size2 h''.2.2.1, n1, c_geta h''.2.2.1 hI hi, c_aI h''.2.2.1 hi, c_from h''.2.2.1 hi, c1, hT, fX4_countFrom_b86, c_to h''.2.2.1 hi, r1, k2, k3, l4, l5, tl, sI2, aI2, to2, fI2, a1, a2, fX4_countFrom_b137, e0, cz, fX4_countFrom_b165, l6, m1, z1, z2, z3, m2', fX4_countFrom_b194, z4, zJ_add, fX4_countFrom_b202]
              obtain ⟨q', eq', st⟩ := M
              have hS : ∀ m, m ≠ n → SmV V2 (V2.1, upd V2.2.1 n (zI q'.2.1), upd V2.2.2 n (zI q'.2.2)) m := fun m hm => ⟨rfl, if_neg hm, if_neg hm⟩
              have hnt2 := hnt V2 hw2 hC2.2.2.2.2
              refine ⟨_, st, by omega, _, (V2.1, upd V2.2.1 n (zI q'.2.1), upd V2.2.2 n (zI q'.2.2)), by rw [eq']; rfl, hC2.st45 (fun m hm => ?_) ((hS _ hnt2.symm).nd hC2.2.2.2.2), hw2, fun q e => ?_, fun m hm => ?_, fun m hm hl => ?_⟩
              · by_cases e : m = n
                · rw [e]; exact .inl hw2
                · rcases hC2.2.2.2.1 m hm with c | ⟨c, c'⟩
                  · exact .inl c
                  · exact .inr ⟨c, (hS m e).nd c'⟩
              · rw [eq'] at e
                cases e
                exact ⟨if_pos rfl, if_pos rfl⟩
              · have e : m ≠ n := fun e => hm (by rw [e]; exact hw)
                have s1 := hs' m hm
                exact (s1.trans (hs2 m (by rw [s1.1]; exact hm))).trans (hS m e)
              · refine ((hu' m hm hl).trans (hu2 m (fun e => ?_) fun y' e => ?_)).trans (hS m hm)
                · rw [e] at hl
                  have := hl y f1
                  omega
                · have := hl y' e
                  omega
          · have e1 : tieT ρ 0 (-1) 0 t n (i + 1) = tieT ρ 0 (-1) 0 t n i := by
              unfold tieT
              rw [tie1, if_neg (fun h => c1 h.1)]
            refine ⟨(zJ (sT (tieT ρ 0 (-1) 0 t n i)), zN (i + 1), w'), ?_, by omega, w', V', by rw [e1], hC', hw', by rw [e1]; exact hq', hs', hu'⟩
            simp (disch := omega) only [b2_some, bd_some, nm_eq, Option.map_some, zN_lit, zN_add, zN_mul, zN_neg1, if_true, if_false, reduceIte, eq_self, Nat.reduceEqDiff, Nat.reduceAdd, Nat.reduceMul, Nat.reduceSub, Nat.reduceLeDiff, Nat.one_ne_zero, not_false_eq_true, Bool.false_eq_true, zN_eq, zN_lt, zN_le,  fX4_countFrom_b24, h''.FI, c_snet h''.2.1, c_sI h''.2.1, c_nal h''.2.2.1, c_ntl h''.2.2.1, c_nn h''.2.2.1, c_alI h''.2.2.1, c_tlI h''.2.2.1, c_size h''.2.2.1, c_size2 h''.2.2.1, n1, c_geta h''.2.2.1 hI hi, c_aI h''.2.2.1 hi, c_from h''.2.2.1 hi, c1, fX4_countFrom_b202]
        · rintro y ⟨-, w', V', rfl, hC', hw', hq', hs', hu'⟩
          have h'' := h.kf hC'.1
          have ne := hnt V' hw' hC'.2.2.2.2
          obtain ⟨a, ha, hfr, hti⟩ := tie_has (tw_GN (m := 0) (aw := -1) (fz := 0) hI ht) hz ne
          obtain ⟨q, hq⟩ := tie1_some (fr := aFr ρ) (to := aTo ρ) (ti := tiT ρ 0 (-1) 0 t) (tl := tlI ρ) (v := vT ρ 0 (-1) 0 t) ha hfr hti
          have hq1 : tieT ρ 0 (-1) 0 t n (ρ 1) = some q := hq
          have ev : vT ρ 0 (-1) 0 t n = q := by rw [vT_eq hI ht hz, if_neg ne, hq1]; rfl
          obtain ⟨z1, z2⟩ := hq' q hq1
          rw [hq1]
          have s1 : stJ w' (F + 2) (zN n) (zJ (sT (some q))) = some (hUp w' (F + 2) (farC (vp_updL V'.1 n (zJ q.1)))) := c_stJ hC'.2.2.1.1 (by omega) (by omega) _
          have hN : NdV ρ t n (vp_updL V'.1 n (zJ q.1), V'.2) := by
            refine ⟨?_, ?_, ?_⟩
            · rw [ev]; exact if_pos rfl
            · rw [ev]; exact z1
            · rw [ev]; exact z2
          have hS : ∀ m, m ≠ n → SmV V' (vp_updL V'.1 n (zJ q.1), V'.2) m := fun m hm => ⟨if_neg hm, rfl, rfl⟩
          refine ⟨_, ?_, hUp w' (F + 2) (farC (vp_updL V'.1 n (zJ q.1))), (vp_updL V'.1 n (zJ q.1), V'.2), rfl, hC'.st2 (fun m hm => ?_) ((hS _ ne.symm).nd hC'.2.2.2.2), hN, fun m hm => ?_, fun m hm hl => (hu' m hm hl).trans (hS m hm)⟩
          · rw [ev]
            simp (disch := omega) only [b2_some, bd_some, nm_eq, Option.map_some, zN_lit, zN_add, zN_mul, zN_neg1, if_true, if_false, reduceIte, eq_self, Nat.reduceEqDiff, Nat.reduceAdd, Nat.reduceMul, Nat.reduceSub, Nat.reduceLeDiff, Nat.one_ne_zero, not_false_eq_true, Bool.false_eq_true, zN_eq, zN_lt, zN_le,  fX4_countFrom_b24, h''.FI, c_snet h''.2.1, c_sI h''.2.1, c_nal h''.2.2.1, c_ntl h''.2.2.1, c_nn h''.2.2.1, c_alI h''.2.2.1, c_tlI h''.2.2.1, c_size h''.2.2.1, c_size2 h''.2.2.1, Nat.le_refl, fX4_countFrom_b208, h''.g23.1, s1]
            rfl
          · by_cases e : m = n
            · rw [e]; exact .inr ⟨⟨z, hz⟩, hN⟩
            · rcases hC'.2.2.2.1 m hm with c | ⟨c, c'⟩
              · exact .inl ((hS m e).1.trans c)
              · exact .inr ⟨c, (hS m e).nd c'⟩
          · have e : m ≠ n := fun e => hm (by rw [e]; exact hw)
            exact (hs' m hm).trans (hS m e)
      obtain ⟨r, e, w2, V2, rfl, H⟩ := H
      refine ⟨w2, V2, ?_, H⟩
      rw [fX4_countFrom]
      simp (disch := omega) only [b2_some, bd_some, nm_eq, Option.map_some, zN_lit, zN_add, zN_mul, zN_neg1, if_true, if_false, reduceIte, eq_self, Nat.reduceEqDiff, Nat.reduceAdd, Nat.reduceMul, Nat.reduceSub, Nat.reduceLeDiff, Nat.one_ne_zero, not_false_eq_true, Bool.false_eq_true, zN_eq, zN_lt, zN_le,  fX4_countFrom_r, g2, l1, e0, c0]
      exact e
    · rw [hnd.1] at l1
      have c0 : (lg_cmp (zJ (vT ρ 0 (-1) 0 t n).1) (zJ 0) < zN 0) = False := by rw [lgc_lt (by unfold bJ; omega) (by unfold bJ; omega)]; exact eq_false (by omega)
      refine ⟨w1, V, ?_, hC, hnd, fun m _ => ⟨rfl, rfl, rfl⟩, fun m _ _ => ⟨rfl, rfl, rfl⟩⟩
      rw [fX4_countFrom]
      simp (disch := omega) only [b2_some, bd_some, nm_eq, Option.map_some, zN_lit, zN_add, zN_mul, zN_neg1, if_true, if_false, reduceIte, eq_self, Nat.reduceEqDiff, Nat.reduceAdd, Nat.reduceMul, Nat.reduceSub, Nat.reduceLeDiff, Nat.one_ne_zero, not_false_eq_true, Bool.false_eq_true, zN_eq, zN_lt, zN_le,  fX4_countFrom_r, g2, l1, e0, c0]
end
