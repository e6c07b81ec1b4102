/-! Plain law: demands, ties, closed arcs, sums of tolls -/
theorem NtC.cg {w : WH} {ν : NH} {ρ ρ' : Nat → Nat} (hN : NtC w ν ρ) (h0 : ∀ k, k < 3 → ρ' k = ρ k) (ha : ∀ k, k < ρ 1 → arcC ρ' k = arcC ρ k) (ht : ∀ k, k < ρ 2 → trpC ρ' k = trpC ρ k) : NtC w ν ρ' := by
  obtain ⟨h1, h2, ⟨g, h3, h4⟩, h5, h6, ⟨g', h7, h8⟩, h9⟩ := hN
  have e0 := h0 0 (by omega)
  have e1 := h0 1 (by omega)
  have e2 := h0 2 (by omega)
  unfold NtC
  rw [e0, e1, e2]
  exact ⟨h1, h2, ⟨g, h3, h4⟩, fun k hk => by rw [ha k hk]; exact h5 k hk, h6, ⟨g', h7, h8⟩, fun k hk => by rw [ht k hk]; exact h9 k hk⟩
section
variable (ρ : Nat → Nat) (t y : Nat)
theorem sde_low {k : Nat} (h : k < 4) : sde ρ t y k = ρ k := upN_ne ρ y (by omega)
theorem sde_F {b : Nat} (hb : b < 24) : aFr (sde ρ t y) b = aFr ρ b := upN_ne ρ y (by omega)
theorem sde_T {b : Nat} (hb : b < 24) : aTo (sde ρ t y) b = aTo ρ b := upN_ne ρ y (by omega)
theorem sde_C {b : Nat} (hb : b < 24) : aCo (sde ρ t y) b = aCo ρ b := upN_ne ρ y (by omega)
theorem sde_M {b : Nat} (hb : b < 24) : aMx (sde ρ t y) b = aMx ρ b := upN_ne ρ y (by omega)
theorem sde_L {b : Nat} (hb : b < 24) : aTl (sde ρ t y) b = aTl ρ b := upN_ne ρ y (by omega)
theorem sde_X {b : Nat} (hb : b < 24) : aCl (sde ρ t y) b = aCl ρ b := upN_ne ρ y (by omega)
theorem sde_pF (b : Nat) : pFr (sde ρ t y) b = pFr ρ b := upN_ne ρ y (by omega)
theorem sde_pT (b : Nat) : pTo (sde ρ t y) b = pTo ρ b := upN_ne ρ y (by omega)
theorem sde_pV (b : Nat) : pVa (sde ρ t y) b = pVa ρ b := upN_ne ρ y (by omega)
theorem sde_pD (b : Nat) : pDe (sde ρ t y) b = if b = t then y else pDe ρ b := by
  by_cases e : b = t
  · subst e; rw [if_pos rfl]; exact upN_eq _ _ _
  · rw [if_neg e]; exact upN_ne ρ y (by omega)
theorem sde_clm : clm (sde ρ t y) = clm ρ := by
  unfold clm
  exact msk_congr 24 (fun k hk => by rw [sde_X ρ t y (by omega)])
theorem sti_up {k : Nat} (h : k ≠ 3) : sti ρ y k = ρ k := upN_ne ρ y h
theorem sti_clm : clm (sti ρ y) = clm ρ := by
  unfold clm
  exact msk_congr 24 (fun k hk => by
    have : aCl (sti ρ y) k = aCl ρ k := sti_up ρ y (show 4 + 6 * k + 5 ≠ 3 by omega)
    rw [this])
end
section
variable {w w' : WH} {x s q F n o a b v t : Nat} {ρ ρ' : Nat → Nat} {ν : NH} {σ : SG} {η : RH}
theorem RcP.wde (h : RcP w x σ F s q ν η) (ht : t < σ.1 2) (hv : v ≤ 999) : ∃ w', stI w (q + 1) 0 (zN t) (zN v) = some w' ∧ RcP w' x (sde σ.1 t v, σ.2) F s q ν η ∧ w'.2 = w.2 ∧ ldI w (q + 1) 0 (zN t) = some (zN (pDe σ.1 t)) := by
  have hI := h.1.2.2.2.1
  have h1 := hI.h1
  have h2 := hI.h2
  obtain ⟨m1, ⟨b1, ⟨f, b2, b3⟩, ⟨f', b4, b5⟩, b6, g, b7, b8⟩, m3, m4, m5⟩ := h.1
  have K : Kg F (stQ s q) w (hUp w (q + 1) (demC (upd f' t (zN v)))) 0 0 := (Kg.refl (Q := stQ s q) h.1.1 h.2.1).up b4 rfl (.inr (.inr (by omega))) _
  have M : MS (hUp w (q + 1) (demC (upd f' t (zN v)))) F s q ν (sde σ.1 t v) := by
    refine ⟨m1.up b4 ⟨(by decide : (0 : Nat) ≠ 123), (by decide : (6 : Nat) ≠ 10)⟩ _, ⟨?_, ⟨f, keep_kd b4 b2 rfl _, fun k hk => ?_⟩, ⟨_, hUp_eq _ _ _, fun k hk => ?_⟩, ?_, g, keep_kd b4 b7 rfl _, ?_⟩, (m3.up b4 (.inl rfl) _).cg (fun k hk => sde_low _ _ _ (by omega)) (fun k hk => ?_) (fun k hk => ?_), m4.sde ht hv, m5⟩
    · rw [sde_low _ _ _ (by omega)]
      exact keep_kd b4 b1 rfl _
    · rw [sde_L _ _ _ hk]
      exact b3 k hk
    · rw [sde_low _ _ _ (by omega)] at hk
      rw [sde_pD]
      unfold upd
      by_cases e : k = t
      · rw [if_pos e, if_pos e]
      · rw [if_neg e, if_neg e]
        exact b5 k hk
    · rw [sde_clm]
      exact keep_kd b4 b6 rfl _
    · rw [sde_clm]
      exact b8
    · unfold arcC
      rw [sde_F _ _ _ (by omega), sde_T _ _ _ (by omega), sde_C _ _ _ (by omega), sde_M _ _ _ (by omega)]
    · unfold trpC
      rw [sde_pF, sde_pT, sde_pV]
  refine ⟨_, c_stI b4 (by omega) (by omega) _, h.mut K M, rfl, ?_⟩
  rw [c_ldI b4 (by omega) (by omega), b5 t ht]
theorem don_of {w1 w2 : WH} {c k : Nat} (h2 : RcP w2 x σ F s q ν η) (k2 : w2.2 = w1.2) (ho : hL η = o) (d1 : wC w ≤ wC w1 + c) (d2 : wS w ≤ wS w1 + k) : Don w w2 x o σ c k :=
  ⟨⟨F, s, q, ν, η, h2, ho⟩, by rw [show wC w2 = wC w1 from congrArg (fun z => z.2.1) (congrArg (fun z => z.2) k2)]; exact d1, by rw [show wS w2 = wS w1 from congrArg (fun z => z.2.2) (congrArg (fun z => z.2) k2)]; exact d2⟩
theorem c_setDem1 (h : RcP w x σ F s q ν η) (ht : t < σ.1 2) (hv : v ≤ 999) (hC : 5 ≤ wC w) (hS : 39 ≤ wS w) : ∃ w', fX1_setDemand x (zN t) (zN v) w = some (.inl (zN (pDe σ.1 t)), w') ∧ Don w w' x (hL η) (sde σ.1 t v, (kee σ).2) 5 39 := by
  have M := h.mr
  obtain ⟨w1, η1, e1, h1, d0, d1, d2⟩ := c_act h hC hS
  obtain ⟨w2, s1, h2, k2, l1⟩ := h1.wde ht hv
  have e2 := c_inR (w := w) (a := (v : Int)) (b := 0) (c := 999) ⟨by omega, by omega⟩ ⟨by omega, by omega⟩ ⟨by omega, by omega⟩
  rw [if_pos (by omega)] at e2
  refine ⟨w2, ?_, don_of h2 k2 d0 d1 d2⟩
  have M1 := h1.mr
  have z0 : (0 : Int64) = zJ 0 := rfl
  have z1 : (999 : Int64) = zJ 999 := rfl
  have g2 : gR w1 s 21 2 = some (some (q + 1)) := c_R M1.1.2.1.1 2
  have l1' : ldI w1 (q + 1) 0 (zN t) = some (zN (pDe σ.1 t)) := l1
  simp (disch := omega) only [b2_some, bd_some, nm_eq, Option.map_some, zN_lit, zN_add, zN_mul, zN_neg1, if_true, if_false, reduceIte, eq_self, Nat.reduceEqDiff, Nat.reduceAdd, Nat.reduceMul, Nat.reduceSub, Nat.reduceLeDiff, Nat.one_ne_zero, not_false_eq_true, Bool.false_eq_true, zN_eq, zN_lt, zN_le,  fX1_setDemand, M.xI, c_isP1 M ht, c_rq1, ex_, zN_J, z0, z1, e2, c_ra1, e1, M1.g0, g2, l1', s1, fX1_setDemand_b44]
theorem c_setTies (h : RcP w x σ F s q ν η) (hv : v ≤ 1) (hC : 5 ≤ wC w) (hS : 39 ≤ wS w) : ∃ w', fX1_setTies x (zN v) w = some (zN (σ.1 3), w') ∧ Don w w' x (hL η) (sti σ.1 v, (kee σ).2) 5 39 := by
  obtain ⟨w1, η1, e1, h1, d0, d1, d2⟩ := c_act h hC hS
  have hI := h1.1.2.2.2.1
  have i1 := hI.h1
  have i3 : σ.1 3 ≤ 1 := hI.h3
  have M1 := h1.mr
  obtain ⟨m1, ⟨b1, ⟨f, b2, b3⟩, ⟨f', b4, b5⟩, b6, g, b7, b8⟩, m3, m4, m5⟩ := h1.1
  have K : Kg F (stQ s q) w1 (hUp w1 s (steC (nN ν) q (zN v))) 0 0 := (Kg.refl (Q := stQ s q) h1.1.1 h1.2.1).up b1 rfl (.inr (.inl rfl)) _
  have up : ∀ {k : Nat}, k ≠ 3 → sti σ.1 v k = σ.1 k := fun h => sti_up _ _ h
  have M : MS (hUp w1 s (steC (nN ν) q (zN v))) F s q ν (sti σ.1 v) := by
    refine ⟨m1.up b1 ⟨(by decide : (121 : Nat) ≠ 123), (by decide : (0 : Nat) ≠ 10)⟩ _, ⟨?_, ⟨f, keep_kd b1 b2 rfl _, fun k hk => ?_⟩, ⟨f', keep_kd b1 b4 rfl _, fun k hk => ?_⟩, ?_, g, keep_kd b1 b7 rfl _, ?_⟩, (m3.up b1 (by right; right; right; right; right; right; right; right; right; right; left; rfl) _).cg (fun k hk => up (by omega)) (fun k hk => ?_) (fun k hk => ?_), m4.sti hv, m5⟩
    · rw [show sti σ.1 v 3 = v from upN_eq _ _ _]
      exact hUp_eq _ _ _
    · rw [show aTl (sti σ.1 v) k = aTl σ.1 k from up (by omega)]
      exact b3 k hk
    · rw [up (by omega)] at hk
      rw [show pDe (sti σ.1 v) k = pDe σ.1 k from up (by omega)]
      exact b5 k hk
    · rw [sti_clm]
      exact keep_kd b1 b6 rfl _
    · rw [sti_clm]
      exact b8
    · unfold arcC
      rw [show aFr (sti σ.1 v) k = aFr σ.1 k from up (by omega), show aTo (sti σ.1 v) k = aTo σ.1 k from up (by omega), show aCo (sti σ.1 v) k = aCo σ.1 k from up (by omega), show aMx (sti σ.1 v) k = aMx σ.1 k from up (by omega)]
      rfl
    · unfold trpC
      rw [show pFr (sti σ.1 v) k = pFr σ.1 k from up (by omega), show pTo (sti σ.1 v) k = pTo σ.1 k from up (by omega), show pVa (sti σ.1 v) k = pVa σ.1 k from up (by omega)]
      rfl
  have p1 : hPut w1 s 21 4 (.int (zN v)) = some (hUp w1 s (steC (nN ν) q (zN v))) := c_P b1 (k := 4) (show 4 < 5 by decide) _
  have v1 : gI w1 s 21 4 = some (zN (σ.1 3)) := c_I b1 4
  have fz : ∀ {j : Nat}, j ≤ 1 → fz_ .boolean (zN j) = some () := fun hj => by
    rename_i j
    have : j = 0 ∨ j = 1 := by omega
    rcases this with e | e <;> rw [e] <;> decide
  refine ⟨_, ?_, don_of (h1.mut K M) rfl d0 d1 d2⟩
  simp (disch := omega) only [b2_some, bd_some, nm_eq, Option.map_some, zN_lit, zN_add, zN_mul, zN_neg1, if_true, if_false, reduceIte, eq_self, Nat.reduceEqDiff, Nat.reduceAdd, Nat.reduceMul, Nat.reduceSub, Nat.reduceLeDiff, Nat.one_ne_zero, not_false_eq_true, Bool.false_eq_true, zN_eq, zN_lt, zN_le,  fX1_setTies, h.mr.xI, e1, M1.g0, v1, fz hv, p1, fz i3]
theorem kg_bUq {b ws m m' c k : Nat} {g : Nat → Int64} {st : Int32} {w0 : WH} {Q : Nat → Prop} (hK : Kg F Q w0 w c k) (hB : Bs w b ws g m st) (hb : wN w0 ≤ b ∨ Q b) (hws : wN w0 ≤ ws ∨ Q ws) : Kg F Q w0 (bU w b ws g m' st) c k := by
  have k1 := hK.up hB.1 rfl hb (bsC ws (uM m') st)
  exact k1.up (show (hUp w b (bsC ws (uM m') st)).1 ws = _ from by rw [hUp_ne _ _ hB.ne.symm]; exact hB.2.1) rfl hws _
theorem c_close1 (h : RcP w x σ F s q ν η) (ha : a < σ.1 1) (hv : v ≤ 1) (hC : 5 ≤ wC w) (hS : 39 ≤ wS w) : ∃ w', fX1_close x (zN a) (zN v) w = some (.inl (zN (aCl σ.1 a)), w') ∧ Don w w' x (hL η) (scl σ.1 a v, (kee σ).2) 5 39 := by
  obtain ⟨w1, η1, e1, h1, d0, d1, d2⟩ := c_act h hC hS
  have hI := h1.1.2.2.2.1
  have i1 : σ.1 1 ≤ 24 := hI.h1
  have ca := h.1.2.2.2.1.ha ha
  have M1 := h1.mr
  obtain ⟨g, hB⟩ := h1.1.2.1.Bs
  have M := M1.scl hB ha hv
  have K : Kg F (stQ s q) w1 (bU w1 (q + 2) (q + 3) g (clm (scl σ.1 a v)) (zN 1)) 0 0 := kg_bUq (Kg.refl (Q := stQ s q) h1.1.1 h1.2.1) hB (.inr (.inr ⟨by omega, by omega⟩)) (.inr (.inr ⟨by omega, by omega⟩))
  have s1 := c_setb hB (k := a) (by omega) v hv
  have ec := clm_scl σ.1 (show a < 24 by omega) hv
  have s1' : fJ17_set_2 (q + 2) (zN a) (zN v) w1 = some (bU w1 (q + 2) (q + 3) g (clm (scl σ.1 a v)) (zN 1)) := by rw [ec]; exact s1
  have g1 := c_get1 hB (k := a) (by omega)
  have eb : (if (clm σ.1).testBit a then 1 else 0) = aCl σ.1 a := by
    have : (clm σ.1).testBit a = (aCl σ.1 a == 1) := clm_bit σ.1 (by omega)
    rw [this]
    have : aCl σ.1 a = 0 ∨ aCl σ.1 a = 1 := by
      omega
    rcases this with e | e <;> rw [e] <;> rfl
  have g1' : fJ17_get (q + 2) (zN a) w1 = some (zN (aCl σ.1 a), w1) := by rw [← eb]; exact g1
  have r2 : hIs w1 (q + 2) 0 = some () := c_C hB.1
  have fz : ∀ {j : Nat}, j ≤ 1 → fz_ .boolean (zN j) = some () := fun hj => by
    rename_i j
    have : j = 0 ∨ j = 1 := by omega
    rcases this with e | e <;> rw [e] <;> decide
  have c1 : aCl σ.1 a ≤ 1 := by omega
  refine ⟨_, ?_, don_of (h1.mut K M.1) rfl d0 d1 d2⟩
  simp (disch := omega) only [b2_some, bd_some, nm_eq, Option.map_some, zN_lit, zN_add, zN_mul, zN_neg1, if_true, if_false, reduceIte, eq_self, Nat.reduceEqDiff, Nat.reduceAdd, Nat.reduceMul, Nat.reduceSub, Nat.reduceLeDiff, Nat.one_ne_zero, not_false_eq_true, Bool.false_eq_true, zN_eq, zN_lt, zN_le,  fX1_close, h.mr.xI, c_isA1 h.mr ha, c_rq1, ex_, e1, M1.g0, c_gcl M1, r2, g1', s1', fz c1]
end
